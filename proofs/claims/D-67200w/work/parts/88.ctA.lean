/-! ===== the machine does what f_y says (printed by gen/pprint.py) ===== -/
set_option maxRecDepth 100000
set_option maxHeartbeats 4000000
theorem ct_X4_init (Y : gx_Y) (x0 : gx_Nm) (x1 : Int32) : gx_Ct Y yX4_init (ws_ yX4_init cX4_init 2 none) 1 100 [gx_r 34 (some x0), gx_i x1] gx_Ov (f_X4_init x0 x1) := by
  refine gx_start (lv := [(0, gx_r 34 (some x0)), (1, gx_i x1)]) gx_Ov_r pn_X4 (Nat.le_of_ble_eq_true rfl) rfl ?_
  unfold f_X4_init
  refine gx_aload_n (pc := 0) (n := 0) (i := 0) rfl 0 rfl (htX4_init (0, .aload_n 0, 1) (gx_m 0 rfl)) ?_
  refine gx_Jobj (pc := 1) rfl q155 q136 q137 (by decide) (Nat.le_of_ble_eq_true rfl) (htX4_init (1, .invokespecial 1, 3) (gx_m 1 rfl)) ?_
  refine gx_aload_n (pc := 4) (n := 0) (i := 0) rfl 0 rfl (htX4_init (4, .aload_n 0, 1) (gx_m 2 rfl)) ?_
  refine gx_iload_n (pc := 5) (n := 1) (i := 1) rfl 1 rfl (htX4_init (5, .iload_n 1, 1) (gx_m 3 rfl)) ?_
  refine gx_Jna (pc := 6) (t := 1) (by decide) rfl rfl q168 (htX4_init (6, .newarray .byte, 2) (gx_m 4 rfl)) ?_
  refine gx_Jpr (pc := 8) (ci := 4) (kk := 0) (by decide) (Or.inr rfl) (by decide) rfl rfl (by decide) (fun _ h => by cases h) (Or.inr ⟨_, rfl⟩) q156 (Or.inl rfl) (htX4_init (8, .putfield 7, 3) (gx_m 5 rfl)) ?_
  exact gx_Jvret (pc := 11) rfl (fun _ => trivial) (fun _ _ => rfl) (htX4_init (11, .return_, 1) (gx_m 6 rfl))
theorem ct_X5_init (Y : gx_Y) (x0 : gx_Nm) (x1 : Int32) : gx_Ct Y yX5_init (ws_ yX5_init cX5_init 2 none) 1 100 [gx_r 35 (some x0), gx_i x1] gx_Ov (f_X5_init x0 x1) := by
  refine gx_start (lv := [(0, gx_r 35 (some x0)), (1, gx_i x1)]) gx_Ov_r pn_X5 (Nat.le_of_ble_eq_true rfl) rfl ?_
  unfold f_X5_init
  refine gx_aload_n (pc := 0) (n := 0) (i := 0) rfl 0 rfl (htX5_init (0, .aload_n 0, 1) (gx_m 0 rfl)) ?_
  refine gx_Jobj (pc := 1) rfl q174 q136 q137 (by decide) (Nat.le_of_ble_eq_true rfl) (htX5_init (1, .invokespecial 1, 3) (gx_m 1 rfl)) ?_
  refine gx_aload_n (pc := 4) (n := 0) (i := 0) rfl 0 rfl (htX5_init (4, .aload_n 0, 1) (gx_m 2 rfl)) ?_
  refine gx_iload_n (pc := 5) (n := 1) (i := 1) rfl 1 rfl (htX5_init (5, .iload_n 1, 1) (gx_m 3 rfl)) ?_
  refine gx_Jna (pc := 6) (t := 0) (by decide) rfl rfl q189 (htX5_init (6, .newarray .int, 2) (gx_m 4 rfl)) ?_
  refine gx_Jpr (pc := 8) (ci := 5) (kk := 0) (by decide) (Or.inr rfl) (by decide) rfl rfl (by decide) (fun _ h => by cases h) (Or.inr ⟨_, rfl⟩) q175 (Or.inl rfl) (htX5_init (8, .putfield 7, 3) (gx_m 5 rfl)) ?_
  exact gx_Jvret (pc := 11) rfl (fun _ => trivial) (fun _ _ => rfl) (htX5_init (11, .return_, 1) (gx_m 6 rfl))
theorem ct_X3_init (Y : gx_Y) (x0 : gx_Nm) : gx_Ct Y yX3_init (ws_ yX3_init cX3_init 1 none) 2 121 [gx_r 33 (some x0)] gx_Ov (f_X3_init x0) := by
  refine gx_start (lv := [(0, gx_r 33 (some x0))]) gx_Ov_r pn_X3 (Nat.le_of_ble_eq_true rfl) rfl ?_
  unfold f_X3_init
  refine gx_aload_n (pc := 0) (n := 0) (i := 0) rfl 0 rfl (htX3_init (0, .aload_n 0, 1) (gx_m 0 rfl)) ?_
  refine gx_Jobj (pc := 1) rfl q149 q136 q137 (by decide) (Nat.le_of_ble_eq_true rfl) (htX3_init (1, .invokespecial 3, 3) (gx_m 1 rfl)) ?_
  refine gx_aload_n (pc := 4) (n := 0) (i := 0) rfl 0 rfl (htX3_init (4, .aload_n 0, 1) (gx_m 2 rfl)) ?_
  refine gx_Jnw (pc := 5) (ci := 4) (by decide) rfl rfl rfl q150 q151 q104 (htX3_init (5, .new 9, 3) (gx_m 3 rfl)) ?_
  refine gx_dup (pc := 8) rfl (htX3_init (8, .dup, 1) (gx_m 4 rfl)) ?_
  refine gx_sipush (pc := 9) (v := 256) (by decide) (htX3_init (9, .sipush 256, 3) (gx_m 5 rfl)) ?_
  refine gx_Jcv (pc := 12) (gx_hst (as := [gx_i 256]) (b := gx_r 34 (some (0 :: x0)))) (gx_runI (as := [gx_i 256]) (ct_X4_init Y (0 :: x0) 256) rfl rfl rfl rfl q152 q153 q104 q154 rfl dd_X4_init (by decide) (by decide) (Nat.le_of_ble_eq_true rfl) (htX3_init (12, .invokespecial 11, 3) (gx_m 6 rfl))) ?_
  refine gx_Jfu (ci := 4) (by decide) rfl rfl sn_4 ?_
  refine gx_Jpr (pc := 15) (ci := 3) (kk := 0) (by decide) (Or.inr rfl) (by decide) rfl rfl (by decide) (fun _ h => (Option.some.inj h).symm) (Or.inl ⟨_, rfl⟩) q190 (Or.inr ⟨rfl, rfl, rfl⟩) (htX3_init (15, .putfield 14, 3) (gx_m 7 rfl)) ?_
  refine gx_aload_n (pc := 18) (n := 0) (i := 0) rfl 0 rfl (htX3_init (18, .aload_n 0, 1) (gx_m 8 rfl)) ?_
  refine gx_Jnw (pc := 19) (ci := 5) (by decide) rfl rfl rfl q169 q170 q105 (htX3_init (19, .new 20, 3) (gx_m 9 rfl)) ?_
  refine gx_dup (pc := 22) rfl (htX3_init (22, .dup, 1) (gx_m 10 rfl)) ?_
  refine gx_bipush (pc := 23) (v := 64) (by decide) (htX3_init (23, .bipush 64, 2) (gx_m 11 rfl)) ?_
  refine gx_Jcv (pc := 25) (gx_hst (as := [gx_i 64]) (b := gx_r 35 (some (1 :: x0)))) (gx_runI (as := [gx_i 64]) (ct_X5_init Y (1 :: x0) 64) rfl rfl rfl rfl q171 q172 q105 q173 rfl dd_X5_init (by decide) (by decide) (Nat.le_of_ble_eq_true rfl) (htX3_init (25, .invokespecial 22, 3) (gx_m 12 rfl))) ?_
  refine gx_Jfu (ci := 5) (by decide) rfl rfl sn_5 ?_
  refine gx_Jpr (pc := 28) (ci := 3) (kk := 1) (by decide) (Or.inr rfl) (by decide) rfl rfl (by decide) (fun _ h => (Option.some.inj h).symm) (Or.inl ⟨_, rfl⟩) q194 (Or.inr ⟨rfl, rfl, rfl⟩) (htX3_init (28, .putfield 23, 3) (gx_m 13 rfl)) ?_
  refine gx_aload_n (pc := 31) (n := 0) (i := 0) rfl 0 rfl (htX3_init (31, .aload_n 0, 1) (gx_m 14 rfl)) ?_
  refine gx_Jnw (pc := 32) (ci := 5) (by decide) rfl rfl rfl q169 q170 q105 (htX3_init (32, .new 20, 3) (gx_m 15 rfl)) ?_
  refine gx_dup (pc := 35) rfl (htX3_init (35, .dup, 1) (gx_m 16 rfl)) ?_
  refine gx_bipush (pc := 36) (v := 64) (by decide) (htX3_init (36, .bipush 64, 2) (gx_m 17 rfl)) ?_
  refine gx_Jcv (pc := 38) (gx_hst (as := [gx_i 64]) (b := gx_r 35 (some (2 :: x0)))) (gx_runI (as := [gx_i 64]) (ct_X5_init Y (2 :: x0) 64) rfl rfl rfl rfl q171 q172 q105 q173 rfl dd_X5_init (by decide) (by decide) (Nat.le_of_ble_eq_true rfl) (htX3_init (38, .invokespecial 22, 3) (gx_m 18 rfl))) ?_
  refine gx_Jfu (ci := 5) (by decide) rfl rfl sn_5 ?_
  refine gx_Jpr (pc := 41) (ci := 3) (kk := 2) (by decide) (Or.inr rfl) (by decide) rfl rfl (by decide) (fun _ h => (Option.some.inj h).symm) (Or.inl ⟨_, rfl⟩) q195 (Or.inr ⟨rfl, rfl, rfl⟩) (htX3_init (41, .putfield 27, 3) (gx_m 19 rfl)) ?_
  exact gx_Jvret (pc := 44) rfl (fun _ => trivial) (fun _ _ => rfl) (htX3_init (44, .return_, 1) (gx_m 20 rfl))
theorem ct_X6_init (Y : gx_Y) (x0 : gx_Nm) : gx_Ct Y yX6_init (ws_ yX6_init cX6_init 1 none) 2 121 [gx_r 36 (some x0)] gx_Ov (f_X6_init x0) := by
  refine gx_start (lv := [(0, gx_r 36 (some x0))]) gx_Ov_r pn_X6 (Nat.le_of_ble_eq_true rfl) rfl ?_
  unfold f_X6_init
  refine gx_aload_n (pc := 0) (n := 0) (i := 0) rfl 0 rfl (htX6_init (0, .aload_n 0, 1) (gx_m 0 rfl)) ?_
  refine gx_Jobj (pc := 1) rfl q214 q136 q137 (by decide) (Nat.le_of_ble_eq_true rfl) (htX6_init (1, .invokespecial 1, 3) (gx_m 1 rfl)) ?_
  refine gx_aload_n (pc := 4) (n := 0) (i := 0) rfl 0 rfl (htX6_init (4, .aload_n 0, 1) (gx_m 2 rfl)) ?_
  refine gx_Jnw (pc := 5) (ci := 5) (by decide) rfl rfl rfl q215 q170 q105 (htX6_init (5, .new 7, 3) (gx_m 3 rfl)) ?_
  refine gx_dup (pc := 8) rfl (htX6_init (8, .dup, 1) (gx_m 4 rfl)) ?_
  refine gx_bipush (pc := 9) (v := 64) (by decide) (htX6_init (9, .bipush 64, 2) (gx_m 5 rfl)) ?_
  refine gx_Jcv (pc := 11) (gx_hst (as := [gx_i 64]) (b := gx_r 35 (some (0 :: x0)))) (gx_runI (as := [gx_i 64]) (ct_X5_init Y (0 :: x0) 64) rfl rfl rfl rfl q216 q172 q105 q173 rfl dd_X5_init (by decide) (by decide) (Nat.le_of_ble_eq_true rfl) (htX6_init (11, .invokespecial 9, 3) (gx_m 6 rfl))) ?_
  refine gx_Jfu (ci := 5) (by decide) rfl rfl sn_5 ?_
  refine gx_Jpr (pc := 14) (ci := 6) (kk := 0) (by decide) (Or.inr rfl) (by decide) rfl rfl (by decide) (fun _ h => (Option.some.inj h).symm) (Or.inl ⟨_, rfl⟩) q217 (Or.inr ⟨rfl, rfl, rfl⟩) (htX6_init (14, .putfield 12, 3) (gx_m 7 rfl)) ?_
  refine gx_aload_n (pc := 17) (n := 0) (i := 0) rfl 0 rfl (htX6_init (17, .aload_n 0, 1) (gx_m 8 rfl)) ?_
  refine gx_Jnw (pc := 18) (ci := 5) (by decide) rfl rfl rfl q215 q170 q105 (htX6_init (18, .new 7, 3) (gx_m 9 rfl)) ?_
  refine gx_dup (pc := 21) rfl (htX6_init (21, .dup, 1) (gx_m 10 rfl)) ?_
  refine gx_bipush (pc := 22) (v := 64) (by decide) (htX6_init (22, .bipush 64, 2) (gx_m 11 rfl)) ?_
  refine gx_Jcv (pc := 24) (gx_hst (as := [gx_i 64]) (b := gx_r 35 (some (1 :: x0)))) (gx_runI (as := [gx_i 64]) (ct_X5_init Y (1 :: x0) 64) rfl rfl rfl rfl q216 q172 q105 q173 rfl dd_X5_init (by decide) (by decide) (Nat.le_of_ble_eq_true rfl) (htX6_init (24, .invokespecial 9, 3) (gx_m 12 rfl))) ?_
  refine gx_Jfu (ci := 5) (by decide) rfl rfl sn_5 ?_
  refine gx_Jpr (pc := 27) (ci := 6) (kk := 1) (by decide) (Or.inr rfl) (by decide) rfl rfl (by decide) (fun _ h => (Option.some.inj h).symm) (Or.inl ⟨_, rfl⟩) q220 (Or.inr ⟨rfl, rfl, rfl⟩) (htX6_init (27, .putfield 18, 3) (gx_m 13 rfl)) ?_
  exact gx_Jvret (pc := 30) rfl (fun _ => trivial) (fun _ _ => rfl) (htX6_init (30, .return_, 1) (gx_m 14 rfl))
theorem ct_X8_init (Y : gx_Y) (x0 : gx_Nm) : gx_Ct Y yX8_init (ws_ yX8_init cX8_init 1 none) 1 100 [gx_r 38 (some x0)] gx_Ov (f_X8_init x0) := by
  refine gx_start (lv := [(0, gx_r 38 (some x0))]) gx_Ov_r pn_X8 (Nat.le_of_ble_eq_true rfl) rfl ?_
  unfold f_X8_init
  refine gx_aload_n (pc := 0) (n := 0) (i := 0) rfl 0 rfl (htX8_init (0, .aload_n 0, 1) (gx_m 0 rfl)) ?_
  refine gx_Jobj (pc := 1) rfl q240 q136 q137 (by decide) (Nat.le_of_ble_eq_true rfl) (htX8_init (1, .invokespecial 1, 3) (gx_m 1 rfl)) ?_
  refine gx_aload_n (pc := 4) (n := 0) (i := 0) rfl 0 rfl (htX8_init (4, .aload_n 0, 1) (gx_m 2 rfl)) ?_
  refine gx_bipush (pc := 5) (v := 8) (by decide) (htX8_init (5, .bipush 8, 2) (gx_m 3 rfl)) ?_
  refine gx_Jnr (pc := 7) (t := 7) (ci := 9) (by decide) rfl rfl rfl q241 q242 (htX8_init (7, .anewarray 7, 3) (gx_m 4 rfl)) ?_
  refine gx_Jpr (pc := 10) (ci := 8) (kk := 0) (by decide) (Or.inr rfl) (by decide) rfl rfl (by decide) (fun _ h => by cases h) (Or.inr ⟨_, rfl⟩) q243 (Or.inl rfl) (htX8_init (10, .putfield 9, 3) (gx_m 5 rfl)) ?_
  exact gx_Jvret (pc := 13) rfl (fun _ => trivial) (fun _ _ => rfl) (htX8_init (13, .return_, 1) (gx_m 6 rfl))
theorem ct_X9_init (Y : gx_Y) (x0 : gx_Nm) : gx_Ct Y yX9_init (ws_ yX9_init cX9_init 1 none) 1 100 [gx_r 39 (some x0)] gx_Ov (f_X9_init x0) := by
  refine gx_start (lv := [(0, gx_r 39 (some x0))]) gx_Ov_r pn_X9 (Nat.le_of_ble_eq_true rfl) rfl ?_
  unfold f_X9_init
  refine gx_aload_n (pc := 0) (n := 0) (i := 0) rfl 0 rfl (htX9_init (0, .aload_n 0, 1) (gx_m 0 rfl)) ?_
  refine gx_Jobj (pc := 1) rfl q257 q136 q137 (by decide) (Nat.le_of_ble_eq_true rfl) (htX9_init (1, .invokespecial 1, 3) (gx_m 1 rfl)) ?_
  exact gx_Jvret (pc := 4) rfl (fun _ => trivial) (fun _ _ => rfl) (htX9_init (4, .return_, 1) (gx_m 2 rfl))
theorem ct_X7_init (Y : gx_Y) (x0 : gx_Nm) (x1 : gx_Nm) : gx_Ct Y yX7_init (ws_ yX7_init cX7_init 2 none) 2 121 [gx_r 37 (some x0), gx_r 4 (some x1)] gx_Ov (f_X7_init x0 x1) := by
  refine gx_start (lv := [(0, gx_r 37 (some x0)), (1, gx_r 4 (some x1))]) gx_Ov_r pn_X7 (Nat.le_of_ble_eq_true rfl) rfl ?_
  unfold f_X7_init
  refine gx_aload_n (pc := 0) (n := 0) (i := 0) rfl 0 rfl (htX7_init (0, .aload_n 0, 1) (gx_m 0 rfl)) ?_
  refine gx_Jobj (pc := 1) rfl q232 q136 q137 (by decide) (Nat.le_of_ble_eq_true rfl) (htX7_init (1, .invokespecial 1, 3) (gx_m 1 rfl)) ?_
  refine gx_aload_n (pc := 4) (n := 0) (i := 0) rfl 0 rfl (htX7_init (4, .aload_n 0, 1) (gx_m 2 rfl)) ?_
  refine gx_Jnw (pc := 5) (ci := 5) (by decide) rfl rfl rfl q233 q170 q105 (htX7_init (5, .new 7, 3) (gx_m 3 rfl)) ?_
  refine gx_dup (pc := 8) rfl (htX7_init (8, .dup, 1) (gx_m 4 rfl)) ?_
  refine gx_bipush (pc := 9) (v := 64) (by decide) (htX7_init (9, .bipush 64, 2) (gx_m 5 rfl)) ?_
  refine gx_Jcv (pc := 11) (gx_hst (as := [gx_i 64]) (b := gx_r 35 (some (1 :: x0)))) (gx_runI (as := [gx_i 64]) (ct_X5_init Y (1 :: x0) 64) rfl rfl rfl rfl q234 q172 q105 q173 rfl dd_X5_init (by decide) (by decide) (Nat.le_of_ble_eq_true rfl) (htX7_init (11, .invokespecial 9, 3) (gx_m 6 rfl))) ?_
  refine gx_Jfu (ci := 5) (by decide) rfl rfl sn_5 ?_
  refine gx_Jpr (pc := 14) (ci := 7) (kk := 1) (by decide) (Or.inr rfl) (by decide) rfl rfl (by decide) (fun _ h => (Option.some.inj h).symm) (Or.inl ⟨_, rfl⟩) q307 (Or.inr ⟨rfl, rfl, rfl⟩) (htX7_init (14, .putfield 12, 3) (gx_m 7 rfl)) ?_
  refine gx_aload_n (pc := 17) (n := 0) (i := 0) rfl 0 rfl (htX7_init (17, .aload_n 0, 1) (gx_m 8 rfl)) ?_
  refine gx_Jnw (pc := 18) (ci := 5) (by decide) rfl rfl rfl q233 q170 q105 (htX7_init (18, .new 7, 3) (gx_m 9 rfl)) ?_
  refine gx_dup (pc := 21) rfl (htX7_init (21, .dup, 1) (gx_m 10 rfl)) ?_
  refine gx_bipush (pc := 22) (v := 64) (by decide) (htX7_init (22, .bipush 64, 2) (gx_m 11 rfl)) ?_
  refine gx_Jcv (pc := 24) (gx_hst (as := [gx_i 64]) (b := gx_r 35 (some (2 :: x0)))) (gx_runI (as := [gx_i 64]) (ct_X5_init Y (2 :: x0) 64) rfl rfl rfl rfl q234 q172 q105 q173 rfl dd_X5_init (by decide) (by decide) (Nat.le_of_ble_eq_true rfl) (htX7_init (24, .invokespecial 9, 3) (gx_m 12 rfl))) ?_
  refine gx_Jfu (ci := 5) (by decide) rfl rfl sn_5 ?_
  refine gx_Jpr (pc := 27) (ci := 7) (kk := 2) (by decide) (Or.inr rfl) (by decide) rfl rfl (by decide) (fun _ h => (Option.some.inj h).symm) (Or.inl ⟨_, rfl⟩) q308 (Or.inr ⟨rfl, rfl, rfl⟩) (htX7_init (27, .putfield 18, 3) (gx_m 13 rfl)) ?_
  refine gx_aload_n (pc := 30) (n := 0) (i := 0) rfl 0 rfl (htX7_init (30, .aload_n 0, 1) (gx_m 14 rfl)) ?_
  refine gx_Jnw (pc := 31) (ci := 5) (by decide) rfl rfl rfl q233 q170 q105 (htX7_init (31, .new 7, 3) (gx_m 15 rfl)) ?_
  refine gx_dup (pc := 34) rfl (htX7_init (34, .dup, 1) (gx_m 16 rfl)) ?_
  refine gx_bipush (pc := 35) (v := 64) (by decide) (htX7_init (35, .bipush 64, 2) (gx_m 17 rfl)) ?_
  refine gx_Jcv (pc := 37) (gx_hst (as := [gx_i 64]) (b := gx_r 35 (some (3 :: x0)))) (gx_runI (as := [gx_i 64]) (ct_X5_init Y (3 :: x0) 64) rfl rfl rfl rfl q234 q172 q105 q173 rfl dd_X5_init (by decide) (by decide) (Nat.le_of_ble_eq_true rfl) (htX7_init (37, .invokespecial 9, 3) (gx_m 18 rfl))) ?_
  refine gx_Jfu (ci := 5) (by decide) rfl rfl sn_5 ?_
  refine gx_Jpr (pc := 40) (ci := 7) (kk := 3) (by decide) (Or.inr rfl) (by decide) rfl rfl (by decide) (fun _ h => (Option.some.inj h).symm) (Or.inl ⟨_, rfl⟩) q309 (Or.inr ⟨rfl, rfl, rfl⟩) (htX7_init (40, .putfield 21, 3) (gx_m 19 rfl)) ?_
  refine gx_aload_n (pc := 43) (n := 0) (i := 0) rfl 0 rfl (htX7_init (43, .aload_n 0, 1) (gx_m 20 rfl)) ?_
  refine gx_Jnw (pc := 44) (ci := 5) (by decide) rfl rfl rfl q233 q170 q105 (htX7_init (44, .new 7, 3) (gx_m 21 rfl)) ?_
  refine gx_dup (pc := 47) rfl (htX7_init (47, .dup, 1) (gx_m 22 rfl)) ?_
  refine gx_bipush (pc := 48) (v := 64) (by decide) (htX7_init (48, .bipush 64, 2) (gx_m 23 rfl)) ?_
  refine gx_Jcv (pc := 50) (gx_hst (as := [gx_i 64]) (b := gx_r 35 (some (4 :: x0)))) (gx_runI (as := [gx_i 64]) (ct_X5_init Y (4 :: x0) 64) rfl rfl rfl rfl q234 q172 q105 q173 rfl dd_X5_init (by decide) (by decide) (Nat.le_of_ble_eq_true rfl) (htX7_init (50, .invokespecial 9, 3) (gx_m 24 rfl))) ?_
  refine gx_Jfu (ci := 5) (by decide) rfl rfl sn_5 ?_
  refine gx_Jpr (pc := 53) (ci := 7) (kk := 4) (by decide) (Or.inr rfl) (by decide) rfl rfl (by decide) (fun _ h => (Option.some.inj h).symm) (Or.inl ⟨_, rfl⟩) q310 (Or.inr ⟨rfl, rfl, rfl⟩) (htX7_init (53, .putfield 24, 3) (gx_m 25 rfl)) ?_
  refine gx_aload_n (pc := 56) (n := 0) (i := 0) rfl 0 rfl (htX7_init (56, .aload_n 0, 1) (gx_m 26 rfl)) ?_
  refine gx_Jnw (pc := 57) (ci := 5) (by decide) rfl rfl rfl q233 q170 q105 (htX7_init (57, .new 7, 3) (gx_m 27 rfl)) ?_
  refine gx_dup (pc := 60) rfl (htX7_init (60, .dup, 1) (gx_m 28 rfl)) ?_
  refine gx_bipush (pc := 61) (v := 64) (by decide) (htX7_init (61, .bipush 64, 2) (gx_m 29 rfl)) ?_
  refine gx_Jcv (pc := 63) (gx_hst (as := [gx_i 64]) (b := gx_r 35 (some (5 :: x0)))) (gx_runI (as := [gx_i 64]) (ct_X5_init Y (5 :: x0) 64) rfl rfl rfl rfl q234 q172 q105 q173 rfl dd_X5_init (by decide) (by decide) (Nat.le_of_ble_eq_true rfl) (htX7_init (63, .invokespecial 9, 3) (gx_m 30 rfl))) ?_
  refine gx_Jfu (ci := 5) (by decide) rfl rfl sn_5 ?_
  refine gx_Jpr (pc := 66) (ci := 7) (kk := 5) (by decide) (Or.inr rfl) (by decide) rfl rfl (by decide) (fun _ h => (Option.some.inj h).symm) (Or.inl ⟨_, rfl⟩) q311 (Or.inr ⟨rfl, rfl, rfl⟩) (htX7_init (66, .putfield 27, 3) (gx_m 31 rfl)) ?_
  refine gx_aload_n (pc := 69) (n := 0) (i := 0) rfl 0 rfl (htX7_init (69, .aload_n 0, 1) (gx_m 32 rfl)) ?_
  refine gx_Jnw (pc := 70) (ci := 5) (by decide) rfl rfl rfl q233 q170 q105 (htX7_init (70, .new 7, 3) (gx_m 33 rfl)) ?_
  refine gx_dup (pc := 73) rfl (htX7_init (73, .dup, 1) (gx_m 34 rfl)) ?_
  refine gx_bipush (pc := 74) (v := 64) (by decide) (htX7_init (74, .bipush 64, 2) (gx_m 35 rfl)) ?_
  refine gx_Jcv (pc := 76) (gx_hst (as := [gx_i 64]) (b := gx_r 35 (some (6 :: x0)))) (gx_runI (as := [gx_i 64]) (ct_X5_init Y (6 :: x0) 64) rfl rfl rfl rfl q234 q172 q105 q173 rfl dd_X5_init (by decide) (by decide) (Nat.le_of_ble_eq_true rfl) (htX7_init (76, .invokespecial 9, 3) (gx_m 36 rfl))) ?_
  refine gx_Jfu (ci := 5) (by decide) rfl rfl sn_5 ?_
  refine gx_Jpr (pc := 79) (ci := 7) (kk := 6) (by decide) (Or.inr rfl) (by decide) rfl rfl (by decide) (fun _ h => (Option.some.inj h).symm) (Or.inl ⟨_, rfl⟩) q312 (Or.inr ⟨rfl, rfl, rfl⟩) (htX7_init (79, .putfield 30, 3) (gx_m 37 rfl)) ?_
  refine gx_aload_n (pc := 82) (n := 0) (i := 0) rfl 0 rfl (htX7_init (82, .aload_n 0, 1) (gx_m 38 rfl)) ?_
  refine gx_Jnw (pc := 83) (ci := 5) (by decide) rfl rfl rfl q233 q170 q105 (htX7_init (83, .new 7, 3) (gx_m 39 rfl)) ?_
  refine gx_dup (pc := 86) rfl (htX7_init (86, .dup, 1) (gx_m 40 rfl)) ?_
  refine gx_bipush (pc := 87) (v := 64) (by decide) (htX7_init (87, .bipush 64, 2) (gx_m 41 rfl)) ?_
  refine gx_Jcv (pc := 89) (gx_hst (as := [gx_i 64]) (b := gx_r 35 (some (7 :: x0)))) (gx_runI (as := [gx_i 64]) (ct_X5_init Y (7 :: x0) 64) rfl rfl rfl rfl q234 q172 q105 q173 rfl dd_X5_init (by decide) (by decide) (Nat.le_of_ble_eq_true rfl) (htX7_init (89, .invokespecial 9, 3) (gx_m 42 rfl))) ?_
  refine gx_Jfu (ci := 5) (by decide) rfl rfl sn_5 ?_
  refine gx_Jpr (pc := 92) (ci := 7) (kk := 7) (by decide) (Or.inr rfl) (by decide) rfl rfl (by decide) (fun _ h => (Option.some.inj h).symm) (Or.inl ⟨_, rfl⟩) q313 (Or.inr ⟨rfl, rfl, rfl⟩) (htX7_init (92, .putfield 33, 3) (gx_m 43 rfl)) ?_
  refine gx_aload_n (pc := 95) (n := 0) (i := 0) rfl 0 rfl (htX7_init (95, .aload_n 0, 1) (gx_m 44 rfl)) ?_
  refine gx_Jnw (pc := 96) (ci := 5) (by decide) rfl rfl rfl q233 q170 q105 (htX7_init (96, .new 7, 3) (gx_m 45 rfl)) ?_
  refine gx_dup (pc := 99) rfl (htX7_init (99, .dup, 1) (gx_m 46 rfl)) ?_
  refine gx_bipush (pc := 100) (v := 64) (by decide) (htX7_init (100, .bipush 64, 2) (gx_m 47 rfl)) ?_
  refine gx_Jcv (pc := 102) (gx_hst (as := [gx_i 64]) (b := gx_r 35 (some (8 :: x0)))) (gx_runI (as := [gx_i 64]) (ct_X5_init Y (8 :: x0) 64) rfl rfl rfl rfl q234 q172 q105 q173 rfl dd_X5_init (by decide) (by decide) (Nat.le_of_ble_eq_true rfl) (htX7_init (102, .invokespecial 9, 3) (gx_m 48 rfl))) ?_
  refine gx_Jfu (ci := 5) (by decide) rfl rfl sn_5 ?_
  refine gx_Jpr (pc := 105) (ci := 7) (kk := 8) (by decide) (Or.inr rfl) (by decide) rfl rfl (by decide) (fun _ h => (Option.some.inj h).symm) (Or.inl ⟨_, rfl⟩) q314 (Or.inr ⟨rfl, rfl, rfl⟩) (htX7_init (105, .putfield 36, 3) (gx_m 49 rfl)) ?_
  refine gx_aload_n (pc := 108) (n := 0) (i := 0) rfl 0 rfl (htX7_init (108, .aload_n 0, 1) (gx_m 50 rfl)) ?_
  refine gx_Jnw (pc := 109) (ci := 8) (by decide) rfl rfl rfl q235 q236 q108 (htX7_init (109, .new 39, 3) (gx_m 51 rfl)) ?_
  refine gx_dup (pc := 112) rfl (htX7_init (112, .dup, 1) (gx_m 52 rfl)) ?_
  refine gx_Jcv (pc := 113) (gx_hst (as := []) (b := gx_r 38 (some (9 :: x0)))) (gx_runIN (as := []) (ct_X8_init Y (9 :: x0)) rfl rfl rfl rfl q237 q238 q108 q239 rfl dd_X8_init (by decide) (by decide) (Nat.le_of_ble_eq_true rfl) (htX7_init (113, .invokespecial 41, 3) (gx_m 53 rfl))) ?_
  refine gx_Jfu (ci := 8) (by decide) rfl rfl sn_8 ?_
  refine gx_Jpr (pc := 116) (ci := 7) (kk := 9) (by decide) (Or.inr rfl) (by decide) rfl rfl (by decide) (fun _ h => (Option.some.inj h).symm) (Or.inl ⟨_, rfl⟩) q315 (Or.inr ⟨rfl, rfl, rfl⟩) (htX7_init (116, .putfield 42, 3) (gx_m 54 rfl)) ?_
  refine gx_aload_n (pc := 119) (n := 0) (i := 0) rfl 0 rfl (htX7_init (119, .aload_n 0, 1) (gx_m 55 rfl)) ?_
  refine gx_Jnw (pc := 120) (ci := 5) (by decide) rfl rfl rfl q233 q170 q105 (htX7_init (120, .new 7, 3) (gx_m 56 rfl)) ?_
  refine gx_dup (pc := 123) rfl (htX7_init (123, .dup, 1) (gx_m 57 rfl)) ?_
  refine gx_bipush (pc := 124) (v := 64) (by decide) (htX7_init (124, .bipush 64, 2) (gx_m 58 rfl)) ?_
  refine gx_Jcv (pc := 126) (gx_hst (as := [gx_i 64]) (b := gx_r 35 (some (10 :: x0)))) (gx_runI (as := [gx_i 64]) (ct_X5_init Y (10 :: x0) 64) rfl rfl rfl rfl q234 q172 q105 q173 rfl dd_X5_init (by decide) (by decide) (Nat.le_of_ble_eq_true rfl) (htX7_init (126, .invokespecial 9, 3) (gx_m 59 rfl))) ?_
  refine gx_Jfu (ci := 5) (by decide) rfl rfl sn_5 ?_
  refine gx_Jpr (pc := 129) (ci := 7) (kk := 10) (by decide) (Or.inr rfl) (by decide) rfl rfl (by decide) (fun _ h => (Option.some.inj h).symm) (Or.inl ⟨_, rfl⟩) q316 (Or.inr ⟨rfl, rfl, rfl⟩) (htX7_init (129, .putfield 46, 3) (gx_m 60 rfl)) ?_
  refine gx_aload_n (pc := 132) (n := 0) (i := 0) rfl 0 rfl (htX7_init (132, .aload_n 0, 1) (gx_m 61 rfl)) ?_
  refine gx_Jnw (pc := 133) (ci := 5) (by decide) rfl rfl rfl q233 q170 q105 (htX7_init (133, .new 7, 3) (gx_m 62 rfl)) ?_
  refine gx_dup (pc := 136) rfl (htX7_init (136, .dup, 1) (gx_m 63 rfl)) ?_
  refine gx_bipush (pc := 137) (v := 64) (by decide) (htX7_init (137, .bipush 64, 2) (gx_m 64 rfl)) ?_
  refine gx_Jcv (pc := 139) (gx_hst (as := [gx_i 64]) (b := gx_r 35 (some (11 :: x0)))) (gx_runI (as := [gx_i 64]) (ct_X5_init Y (11 :: x0) 64) rfl rfl rfl rfl q234 q172 q105 q173 rfl dd_X5_init (by decide) (by decide) (Nat.le_of_ble_eq_true rfl) (htX7_init (139, .invokespecial 9, 3) (gx_m 65 rfl))) ?_
  refine gx_Jfu (ci := 5) (by decide) rfl rfl sn_5 ?_
  refine gx_Jpr (pc := 142) (ci := 7) (kk := 11) (by decide) (Or.inr rfl) (by decide) rfl rfl (by decide) (fun _ h => (Option.some.inj h).symm) (Or.inl ⟨_, rfl⟩) q317 (Or.inr ⟨rfl, rfl, rfl⟩) (htX7_init (142, .putfield 49, 3) (gx_m 66 rfl)) ?_
  refine gx_aload_n (pc := 145) (n := 0) (i := 0) rfl 0 rfl (htX7_init (145, .aload_n 0, 1) (gx_m 67 rfl)) ?_
  refine gx_Jnw (pc := 146) (ci := 8) (by decide) rfl rfl rfl q235 q236 q108 (htX7_init (146, .new 39, 3) (gx_m 68 rfl)) ?_
  refine gx_dup (pc := 149) rfl (htX7_init (149, .dup, 1) (gx_m 69 rfl)) ?_
  refine gx_Jcv (pc := 150) (gx_hst (as := []) (b := gx_r 38 (some (12 :: x0)))) (gx_runIN (as := []) (ct_X8_init Y (12 :: x0)) rfl rfl rfl rfl q237 q238 q108 q239 rfl dd_X8_init (by decide) (by decide) (Nat.le_of_ble_eq_true rfl) (htX7_init (150, .invokespecial 41, 3) (gx_m 70 rfl))) ?_
  refine gx_Jfu (ci := 8) (by decide) rfl rfl sn_8 ?_
  refine gx_Jpr (pc := 153) (ci := 7) (kk := 12) (by decide) (Or.inr rfl) (by decide) rfl rfl (by decide) (fun _ h => (Option.some.inj h).symm) (Or.inl ⟨_, rfl⟩) q318 (Or.inr ⟨rfl, rfl, rfl⟩) (htX7_init (153, .putfield 52, 3) (gx_m 71 rfl)) ?_
  refine gx_aload_n (pc := 156) (n := 0) (i := 0) rfl 0 rfl (htX7_init (156, .aload_n 0, 1) (gx_m 72 rfl)) ?_
  refine gx_Jnw (pc := 157) (ci := 9) (by decide) rfl rfl rfl q252 q253 q109 (htX7_init (157, .new 55, 3) (gx_m 73 rfl)) ?_
  refine gx_dup (pc := 160) rfl (htX7_init (160, .dup, 1) (gx_m 74 rfl)) ?_
  refine gx_Jcv (pc := 161) (gx_hst (as := []) (b := gx_r 39 (some (13 :: x0)))) (gx_runIN (as := []) (ct_X9_init Y (13 :: x0)) rfl rfl rfl rfl q254 q255 q109 q256 rfl dd_X9_init (by decide) (by decide) (Nat.le_of_ble_eq_true rfl) (htX7_init (161, .invokespecial 57, 3) (gx_m 75 rfl))) ?_
  refine gx_Jfu (ci := 9) (by decide) rfl rfl sn_9 ?_
  refine gx_Jpr (pc := 164) (ci := 7) (kk := 13) (by decide) (Or.inr rfl) (by decide) rfl rfl (by decide) (fun _ h => (Option.some.inj h).symm) (Or.inl ⟨_, rfl⟩) q319 (Or.inr ⟨rfl, rfl, rfl⟩) (htX7_init (164, .putfield 58, 3) (gx_m 76 rfl)) ?_
  refine gx_aload_n (pc := 167) (n := 0) (i := 0) rfl 0 rfl (htX7_init (167, .aload_n 0, 1) (gx_m 77 rfl)) ?_
  refine gx_iconst (pc := 168) (v := 4) (by decide) (htX7_init (168, .iconst 4, 1) (gx_m 78 rfl)) ?_
  refine gx_Jna (pc := 169) (t := 0) (by decide) rfl rfl q189 (htX7_init (169, .newarray .int, 2) (gx_m 79 rfl)) ?_
  refine gx_Jpr (pc := 171) (ci := 7) (kk := 14) (by decide) (Or.inr rfl) (by decide) rfl rfl (by decide) (fun _ h => (Option.some.inj h).symm) (Or.inr ⟨_, rfl⟩) q320 (Or.inr ⟨rfl, rfl, rfl⟩) (htX7_init (171, .putfield 62, 3) (gx_m 80 rfl)) ?_
  refine gx_aload_n (pc := 174) (n := 0) (i := 0) rfl 0 rfl (htX7_init (174, .aload_n 0, 1) (gx_m 81 rfl)) ?_
  refine gx_Jnw (pc := 175) (ci := 8) (by decide) rfl rfl rfl q235 q236 q108 (htX7_init (175, .new 39, 3) (gx_m 82 rfl)) ?_
  refine gx_dup (pc := 178) rfl (htX7_init (178, .dup, 1) (gx_m 83 rfl)) ?_
  refine gx_Jcv (pc := 179) (gx_hst (as := []) (b := gx_r 38 (some (17 :: x0)))) (gx_runIN (as := []) (ct_X8_init Y (17 :: x0)) rfl rfl rfl rfl q237 q238 q108 q239 rfl dd_X8_init (by decide) (by decide) (Nat.le_of_ble_eq_true rfl) (htX7_init (179, .invokespecial 41, 3) (gx_m 84 rfl))) ?_
  refine gx_Jfu (ci := 8) (by decide) rfl rfl sn_8 ?_
  refine gx_Jpr (pc := 182) (ci := 7) (kk := 17) (by decide) (Or.inr rfl) (by decide) rfl rfl (by decide) (fun _ h => (Option.some.inj h).symm) (Or.inl ⟨_, rfl⟩) q323 (Or.inr ⟨rfl, rfl, rfl⟩) (htX7_init (182, .putfield 66, 3) (gx_m 85 rfl)) ?_
  refine gx_aload_n (pc := 185) (n := 0) (i := 0) rfl 0 rfl (htX7_init (185, .aload_n 0, 1) (gx_m 86 rfl)) ?_
  refine gx_aload_n (pc := 186) (n := 1) (i := 1) rfl 1 rfl (htX7_init (186, .aload_n 1, 1) (gx_m 87 rfl)) ?_
  refine gx_Jprs (pc := 187) (ci := 7) (kk := 0) (by decide) (Or.inr rfl) (by decide) rfl rfl (by decide) (fun _ h => (Option.some.inj h).symm) (Or.inl ⟨_, rfl⟩) q306 (Or.inr ⟨rfl, rfl, rfl⟩) (htX7_init (187, .putfield 69, 3) (gx_m 88 rfl)) ?_
  exact gx_Jvret (pc := 190) rfl (fun _ => trivial) (fun _ _ => rfl) (htX7_init (190, .return_, 1) (gx_m 89 rfl))
theorem ct_X11_init (Y : gx_Y) (x0 : gx_Nm) : gx_Ct Y yX11_init (ws_ yX11_init cX11_init 1 none) 1 100 [gx_r 41 (some x0)] gx_Ov (f_X11_init x0) := by
  refine gx_start (lv := [(0, gx_r 41 (some x0))]) gx_Ov_r pn_X11 (Nat.le_of_ble_eq_true rfl) rfl ?_
  unfold f_X11_init
  refine gx_aload_n (pc := 0) (n := 0) (i := 0) rfl 0 rfl (htX11_init (0, .aload_n 0, 1) (gx_m 0 rfl)) ?_
  refine gx_Jobj (pc := 1) rfl q375 q136 q137 (by decide) (Nat.le_of_ble_eq_true rfl) (htX11_init (1, .invokespecial 1, 3) (gx_m 1 rfl)) ?_
  refine gx_aload_n (pc := 4) (n := 0) (i := 0) rfl 0 rfl (htX11_init (4, .aload_n 0, 1) (gx_m 2 rfl)) ?_
  refine gx_bipush (pc := 5) (v := 8) (by decide) (htX11_init (5, .bipush 8, 2) (gx_m 3 rfl)) ?_
  refine gx_Jnr (pc := 7) (t := 8) (ci := 17) (by decide) rfl rfl rfl q376 q377 (htX11_init (7, .anewarray 7, 3) (gx_m 4 rfl)) ?_
  refine gx_Jpr (pc := 10) (ci := 11) (kk := 0) (by decide) (Or.inr rfl) (by decide) rfl rfl (by decide) (fun _ h => by cases h) (Or.inr ⟨_, rfl⟩) q378 (Or.inl rfl) (htX11_init (10, .putfield 9, 3) (gx_m 5 rfl)) ?_
  exact gx_Jvret (pc := 13) rfl (fun _ => trivial) (fun _ _ => rfl) (htX11_init (13, .return_, 1) (gx_m 6 rfl))
theorem ct_X10_init (Y : gx_Y) (x0 : gx_Nm) : gx_Ct Y yX10_init (ws_ yX10_init cX10_init 1 none) 2 120 [gx_r 40 (some x0)] gx_Ov (f_X10_init x0) := by
  refine gx_start (lv := [(0, gx_r 40 (some x0))]) gx_Ov_r pn_X10 (Nat.le_of_ble_eq_true rfl) rfl ?_
  unfold f_X10_init
  refine gx_aload_n (pc := 0) (n := 0) (i := 0) rfl 0 rfl (htX10_init (0, .aload_n 0, 1) (gx_m 0 rfl)) ?_
  refine gx_Jobj (pc := 1) rfl q369 q136 q137 (by decide) (Nat.le_of_ble_eq_true rfl) (htX10_init (1, .invokespecial 1, 3) (gx_m 1 rfl)) ?_
  refine gx_aload_n (pc := 4) (n := 0) (i := 0) rfl 0 rfl (htX10_init (4, .aload_n 0, 1) (gx_m 2 rfl)) ?_
  refine gx_Jnw (pc := 5) (ci := 11) (by decide) rfl rfl rfl q370 q371 q111 (htX10_init (5, .new 7, 3) (gx_m 3 rfl)) ?_
  refine gx_dup (pc := 8) rfl (htX10_init (8, .dup, 1) (gx_m 4 rfl)) ?_
  refine gx_Jcv (pc := 9) (gx_hst (as := []) (b := gx_r 41 (some (0 :: x0)))) (gx_runIN (as := []) (ct_X11_init Y (0 :: x0)) rfl rfl rfl rfl q372 q373 q111 q374 rfl dd_X11_init (by decide) (by decide) (Nat.le_of_ble_eq_true rfl) (htX10_init (9, .invokespecial 9, 3) (gx_m 5 rfl))) ?_
  refine gx_Jfu (ci := 11) (by decide) rfl rfl sn_11 ?_
  refine gx_Jpr (pc := 12) (ci := 10) (kk := 0) (by decide) (Or.inr rfl) (by decide) rfl rfl (by decide) (fun _ h => (Option.some.inj h).symm) (Or.inl ⟨_, rfl⟩) q388 (Or.inr ⟨rfl, rfl, rfl⟩) (htX10_init (12, .putfield 10, 3) (gx_m 6 rfl)) ?_
  refine gx_aload_n (pc := 15) (n := 0) (i := 0) rfl 0 rfl (htX10_init (15, .aload_n 0, 1) (gx_m 7 rfl)) ?_
  refine gx_Jnw (pc := 16) (ci := 11) (by decide) rfl rfl rfl q370 q371 q111 (htX10_init (16, .new 7, 3) (gx_m 8 rfl)) ?_
  refine gx_dup (pc := 19) rfl (htX10_init (19, .dup, 1) (gx_m 9 rfl)) ?_
  refine gx_Jcv (pc := 20) (gx_hst (as := []) (b := gx_r 41 (some (1 :: x0)))) (gx_runIN (as := []) (ct_X11_init Y (1 :: x0)) rfl rfl rfl rfl q372 q373 q111 q374 rfl dd_X11_init (by decide) (by decide) (Nat.le_of_ble_eq_true rfl) (htX10_init (20, .invokespecial 9, 3) (gx_m 10 rfl))) ?_
  refine gx_Jfu (ci := 11) (by decide) rfl rfl sn_11 ?_
  refine gx_Jpr (pc := 23) (ci := 10) (kk := 1) (by decide) (Or.inr rfl) (by decide) rfl rfl (by decide) (fun _ h => (Option.some.inj h).symm) (Or.inl ⟨_, rfl⟩) q390 (Or.inr ⟨rfl, rfl, rfl⟩) (htX10_init (23, .putfield 16, 3) (gx_m 11 rfl)) ?_
  exact gx_Jvret (pc := 26) rfl (fun _ => trivial) (fun _ _ => rfl) (htX10_init (26, .return_, 1) (gx_m 12 rfl))
theorem ct_X2_init (Y : gx_Y) (x0 : gx_Nm) : gx_Ct Y yX2_init (ws_ yX2_init cX2_init 1 none) 3 142 [gx_r 32 (some x0)] gx_Ov (f_X2_init x0) := by
  refine gx_start (lv := [(0, gx_r 32 (some x0))]) gx_Ov_r pn_X2 (Nat.le_of_ble_eq_true rfl) rfl ?_
  unfold f_X2_init
  refine gx_aload_n (pc := 0) (n := 0) (i := 0) rfl 0 rfl (htX2_init (0, .aload_n 0, 1) (gx_m 0 rfl)) ?_
  refine gx_Jobj (pc := 1) rfl q143 q136 q137 (by decide) (Nat.le_of_ble_eq_true rfl) (htX2_init (1, .invokespecial 1, 3) (gx_m 1 rfl)) ?_
  refine gx_aload_n (pc := 4) (n := 0) (i := 0) rfl 0 rfl (htX2_init (4, .aload_n 0, 1) (gx_m 2 rfl)) ?_
  refine gx_Jnw (pc := 5) (ci := 3) (by decide) rfl rfl rfl q144 q145 q103 (htX2_init (5, .new 7, 3) (gx_m 3 rfl)) ?_
  refine gx_dup (pc := 8) rfl (htX2_init (8, .dup, 1) (gx_m 4 rfl)) ?_
  refine gx_Jcv (pc := 9) (gx_hst (as := []) (b := gx_r 33 (some (0 :: x0)))) (gx_runIN (as := []) (ct_X3_init Y (0 :: x0)) rfl rfl rfl rfl q146 q147 q103 q148 rfl dd_X3_init (by decide) (by decide) (Nat.le_of_ble_eq_true rfl) (htX2_init (9, .invokespecial 9, 3) (gx_m 5 rfl))) ?_
  refine gx_Jfu (ci := 3) (by decide) rfl rfl sn_3 ?_
  refine gx_Jpr (pc := 12) (ci := 2) (kk := 0) (by decide) (Or.inr rfl) (by decide) rfl rfl (by decide) (fun _ h => (Option.some.inj h).symm) (Or.inl ⟨_, rfl⟩) q401 (Or.inr ⟨rfl, rfl, rfl⟩) (htX2_init (12, .putfield 10, 3) (gx_m 6 rfl)) ?_
  refine gx_aload_n (pc := 15) (n := 0) (i := 0) rfl 0 rfl (htX2_init (15, .aload_n 0, 1) (gx_m 7 rfl)) ?_
  refine gx_Jnw (pc := 16) (ci := 6) (by decide) rfl rfl rfl q209 q210 q106 (htX2_init (16, .new 16, 3) (gx_m 8 rfl)) ?_
  refine gx_dup (pc := 19) rfl (htX2_init (19, .dup, 1) (gx_m 9 rfl)) ?_
  refine gx_Jcv (pc := 20) (gx_hst (as := []) (b := gx_r 36 (some (1 :: x0)))) (gx_runIN (as := []) (ct_X6_init Y (1 :: x0)) rfl rfl rfl rfl q211 q212 q106 q213 rfl dd_X6_init (by decide) (by decide) (Nat.le_of_ble_eq_true rfl) (htX2_init (20, .invokespecial 18, 3) (gx_m 10 rfl))) ?_
  refine gx_Jfu (ci := 6) (by decide) rfl rfl sn_6 ?_
  refine gx_Jpr (pc := 23) (ci := 2) (kk := 1) (by decide) (Or.inr rfl) (by decide) rfl rfl (by decide) (fun _ h => (Option.some.inj h).symm) (Or.inl ⟨_, rfl⟩) q404 (Or.inr ⟨rfl, rfl, rfl⟩) (htX2_init (23, .putfield 19, 3) (gx_m 11 rfl)) ?_
  refine gx_aload_n (pc := 26) (n := 0) (i := 0) rfl 0 rfl (htX2_init (26, .aload_n 0, 1) (gx_m 12 rfl)) ?_
  refine gx_Jnw (pc := 27) (ci := 7) (by decide) rfl rfl rfl q227 q228 q107 (htX2_init (27, .new 23, 3) (gx_m 13 rfl)) ?_
  refine gx_dup (pc := 30) rfl (htX2_init (30, .dup, 1) (gx_m 14 rfl)) ?_
  refine gx_aload_n (pc := 31) (n := 0) (i := 0) rfl 0 rfl (htX2_init (31, .aload_n 0, 1) (gx_m 15 rfl)) ?_
  refine gx_Jgr (pc := 32) (ci := 2) (kk := 0) (t2 := 4) (by decide) (Or.inr rfl) (by decide) rfl rfl q401 (htX2_init (32, .getfield 10, 3) (gx_m 16 rfl)) (fun v1 => ?_)
  refine gx_Jcv (pc := 35) (gx_hst (as := [gx_r 4 (some v1)]) (b := gx_r 37 (some (2 :: x0)))) (gx_runI (as := [gx_r 4 (some v1)]) (ct_X7_init Y (2 :: x0) v1) rfl rfl rfl rfl q229 q230 q107 q231 rfl dd_X7_init (by decide) (by decide) (Nat.le_of_ble_eq_true rfl) (htX2_init (35, .invokespecial 25, 3) (gx_m 17 rfl))) ?_
  refine gx_Jfu (ci := 7) (by decide) rfl rfl sn_7 ?_
  refine gx_Jpr (pc := 38) (ci := 2) (kk := 2) (by decide) (Or.inr rfl) (by decide) rfl rfl (by decide) (fun _ h => (Option.some.inj h).symm) (Or.inl ⟨_, rfl⟩) q406 (Or.inr ⟨rfl, rfl, rfl⟩) (htX2_init (38, .putfield 28, 3) (gx_m 18 rfl)) ?_
  refine gx_aload_n (pc := 41) (n := 0) (i := 0) rfl 0 rfl (htX2_init (41, .aload_n 0, 1) (gx_m 19 rfl)) ?_
  refine gx_Jnw (pc := 42) (ci := 10) (by decide) rfl rfl rfl q364 q365 q110 (htX2_init (42, .new 32, 3) (gx_m 20 rfl)) ?_
  refine gx_dup (pc := 45) rfl (htX2_init (45, .dup, 1) (gx_m 21 rfl)) ?_
  refine gx_Jcv (pc := 46) (gx_hst (as := []) (b := gx_r 40 (some (3 :: x0)))) (gx_runIN (as := []) (ct_X10_init Y (3 :: x0)) rfl rfl rfl rfl q366 q367 q110 q368 rfl dd_X10_init (by decide) (by decide) (Nat.le_of_ble_eq_true rfl) (htX2_init (46, .invokespecial 34, 3) (gx_m 22 rfl))) ?_
  refine gx_Jfu (ci := 10) (by decide) rfl rfl sn_10 ?_
  refine gx_Jpr (pc := 49) (ci := 2) (kk := 3) (by decide) (Or.inr rfl) (by decide) rfl rfl (by decide) (fun _ h => (Option.some.inj h).symm) (Or.inl ⟨_, rfl⟩) q409 (Or.inr ⟨rfl, rfl, rfl⟩) (htX2_init (49, .putfield 35, 3) (gx_m 23 rfl)) ?_
  refine gx_aload_n (pc := 52) (n := 0) (i := 0) rfl 0 rfl (htX2_init (52, .aload_n 0, 1) (gx_m 24 rfl)) ?_
  refine gx_Jnw (pc := 53) (ci := 5) (by decide) rfl rfl rfl q399 q170 q105 (htX2_init (53, .new 39, 3) (gx_m 25 rfl)) ?_
  refine gx_dup (pc := 56) rfl (htX2_init (56, .dup, 1) (gx_m 26 rfl)) ?_
  refine gx_bipush (pc := 57) (v := 32) (by decide) (htX2_init (57, .bipush 32, 2) (gx_m 27 rfl)) ?_
  refine gx_Jcv (pc := 59) (gx_hst (as := [gx_i 32]) (b := gx_r 35 (some (7 :: x0)))) (gx_runI (as := [gx_i 32]) (ct_X5_init Y (7 :: x0) 32) rfl rfl rfl rfl q400 q172 q105 q173 rfl dd_X5_init (by decide) (by decide) (Nat.le_of_ble_eq_true rfl) (htX2_init (59, .invokespecial 41, 3) (gx_m 28 rfl))) ?_
  refine gx_Jfu (ci := 5) (by decide) rfl rfl sn_5 ?_
  refine gx_Jpr (pc := 62) (ci := 2) (kk := 7) (by decide) (Or.inr rfl) (by decide) rfl rfl (by decide) (fun _ h => (Option.some.inj h).symm) (Or.inl ⟨_, rfl⟩) q420 (Or.inr ⟨rfl, rfl, rfl⟩) (htX2_init (62, .putfield 44, 3) (gx_m 29 rfl)) ?_
  refine gx_aload_n (pc := 65) (n := 0) (i := 0) rfl 0 rfl (htX2_init (65, .aload_n 0, 1) (gx_m 30 rfl)) ?_
  refine gx_Jnw (pc := 66) (ci := 5) (by decide) rfl rfl rfl q399 q170 q105 (htX2_init (66, .new 39, 3) (gx_m 31 rfl)) ?_
  refine gx_dup (pc := 69) rfl (htX2_init (69, .dup, 1) (gx_m 32 rfl)) ?_
  refine gx_bipush (pc := 70) (v := 64) (by decide) (htX2_init (70, .bipush 64, 2) (gx_m 33 rfl)) ?_
  refine gx_Jcv (pc := 72) (gx_hst (as := [gx_i 64]) (b := gx_r 35 (some (8 :: x0)))) (gx_runI (as := [gx_i 64]) (ct_X5_init Y (8 :: x0) 64) rfl rfl rfl rfl q400 q172 q105 q173 rfl dd_X5_init (by decide) (by decide) (Nat.le_of_ble_eq_true rfl) (htX2_init (72, .invokespecial 41, 3) (gx_m 34 rfl))) ?_
  refine gx_Jfu (ci := 5) (by decide) rfl rfl sn_5 ?_
  refine gx_Jpr (pc := 75) (ci := 2) (kk := 8) (by decide) (Or.inr rfl) (by decide) rfl rfl (by decide) (fun _ h => (Option.some.inj h).symm) (Or.inl ⟨_, rfl⟩) q421 (Or.inr ⟨rfl, rfl, rfl⟩) (htX2_init (75, .putfield 48, 3) (gx_m 35 rfl)) ?_
  exact gx_Jvret (pc := 78) rfl (fun _ => trivial) (fun _ _ => rfl) (htX2_init (78, .return_, 1) (gx_m 36 rfl))
theorem ct_X12_init (Y : gx_Y) (x0 : gx_Nm) : gx_Ct Y yX12_init (ws_ yX12_init cX12_init 1 none) 2 121 [gx_r 42 (some x0)] gx_Ov (f_X12_init x0) := by
  refine gx_start (lv := [(0, gx_r 42 (some x0))]) gx_Ov_r pn_X12 (Nat.le_of_ble_eq_true rfl) rfl ?_
  unfold f_X12_init
  refine gx_aload_n (pc := 0) (n := 0) (i := 0) rfl 0 rfl (htX12_init (0, .aload_n 0, 1) (gx_m 0 rfl)) ?_
  refine gx_Jobj (pc := 1) rfl q448 q136 q137 (by decide) (Nat.le_of_ble_eq_true rfl) (htX12_init (1, .invokespecial 1, 3) (gx_m 1 rfl)) ?_
  refine gx_aload_n (pc := 4) (n := 0) (i := 0) rfl 0 rfl (htX12_init (4, .aload_n 0, 1) (gx_m 2 rfl)) ?_
  refine gx_Jnw (pc := 5) (ci := 4) (by decide) rfl rfl rfl q449 q151 q104 (htX12_init (5, .new 7, 3) (gx_m 3 rfl)) ?_
  refine gx_dup (pc := 8) rfl (htX12_init (8, .dup, 1) (gx_m 4 rfl)) ?_
  refine gx_bipush (pc := 9) (v := 64) (by decide) (htX12_init (9, .bipush 64, 2) (gx_m 5 rfl)) ?_
  refine gx_Jcv (pc := 11) (gx_hst (as := [gx_i 64]) (b := gx_r 34 (some (0 :: x0)))) (gx_runI (as := [gx_i 64]) (ct_X4_init Y (0 :: x0) 64) rfl rfl rfl rfl q450 q153 q104 q154 rfl dd_X4_init (by decide) (by decide) (Nat.le_of_ble_eq_true rfl) (htX12_init (11, .invokespecial 9, 3) (gx_m 6 rfl))) ?_
  refine gx_Jfu (ci := 4) (by decide) rfl rfl sn_4 ?_
  refine gx_Jpr (pc := 14) (ci := 12) (kk := 0) (by decide) (Or.inr rfl) (by decide) rfl rfl (by decide) (fun _ h => (Option.some.inj h).symm) (Or.inl ⟨_, rfl⟩) q453 (Or.inr ⟨rfl, rfl, rfl⟩) (htX12_init (14, .putfield 12, 3) (gx_m 7 rfl)) ?_
  refine gx_aload_n (pc := 17) (n := 0) (i := 0) rfl 0 rfl (htX12_init (17, .aload_n 0, 1) (gx_m 8 rfl)) ?_
  refine gx_Jnw (pc := 18) (ci := 5) (by decide) rfl rfl rfl q451 q170 q105 (htX12_init (18, .new 18, 3) (gx_m 9 rfl)) ?_
  refine gx_dup (pc := 21) rfl (htX12_init (21, .dup, 1) (gx_m 10 rfl)) ?_
  refine gx_bipush (pc := 22) (v := 20) (by decide) (htX12_init (22, .bipush 20, 2) (gx_m 11 rfl)) ?_
  refine gx_Jcv (pc := 24) (gx_hst (as := [gx_i 20]) (b := gx_r 35 (some (1 :: x0)))) (gx_runI (as := [gx_i 20]) (ct_X5_init Y (1 :: x0) 20) rfl rfl rfl rfl q452 q172 q105 q173 rfl dd_X5_init (by decide) (by decide) (Nat.le_of_ble_eq_true rfl) (htX12_init (24, .invokespecial 20, 3) (gx_m 12 rfl))) ?_
  refine gx_Jfu (ci := 5) (by decide) rfl rfl sn_5 ?_
  refine gx_Jpr (pc := 27) (ci := 12) (kk := 1) (by decide) (Or.inr rfl) (by decide) rfl rfl (by decide) (fun _ h => (Option.some.inj h).symm) (Or.inl ⟨_, rfl⟩) q456 (Or.inr ⟨rfl, rfl, rfl⟩) (htX12_init (27, .putfield 21, 3) (gx_m 13 rfl)) ?_
  refine gx_aload_n (pc := 30) (n := 0) (i := 0) rfl 0 rfl (htX12_init (30, .aload_n 0, 1) (gx_m 14 rfl)) ?_
  refine gx_Jnw (pc := 31) (ci := 5) (by decide) rfl rfl rfl q451 q170 q105 (htX12_init (31, .new 18, 3) (gx_m 15 rfl)) ?_
  refine gx_dup (pc := 34) rfl (htX12_init (34, .dup, 1) (gx_m 16 rfl)) ?_
  refine gx_bipush (pc := 35) (v := 36) (by decide) (htX12_init (35, .bipush 36, 2) (gx_m 17 rfl)) ?_
  refine gx_Jcv (pc := 37) (gx_hst (as := [gx_i 36]) (b := gx_r 35 (some (2 :: x0)))) (gx_runI (as := [gx_i 36]) (ct_X5_init Y (2 :: x0) 36) rfl rfl rfl rfl q452 q172 q105 q173 rfl dd_X5_init (by decide) (by decide) (Nat.le_of_ble_eq_true rfl) (htX12_init (37, .invokespecial 20, 3) (gx_m 18 rfl))) ?_
  refine gx_Jfu (ci := 5) (by decide) rfl rfl sn_5 ?_
  refine gx_Jpr (pc := 40) (ci := 12) (kk := 2) (by decide) (Or.inr rfl) (by decide) rfl rfl (by decide) (fun _ h => (Option.some.inj h).symm) (Or.inl ⟨_, rfl⟩) q459 (Or.inr ⟨rfl, rfl, rfl⟩) (htX12_init (40, .putfield 25, 3) (gx_m 19 rfl)) ?_
  refine gx_aload_n (pc := 43) (n := 0) (i := 0) rfl 0 rfl (htX12_init (43, .aload_n 0, 1) (gx_m 20 rfl)) ?_
  refine gx_Jnw (pc := 44) (ci := 5) (by decide) rfl rfl rfl q451 q170 q105 (htX12_init (44, .new 18, 3) (gx_m 21 rfl)) ?_
  refine gx_dup (pc := 47) rfl (htX12_init (47, .dup, 1) (gx_m 22 rfl)) ?_
  refine gx_bipush (pc := 48) (v := 36) (by decide) (htX12_init (48, .bipush 36, 2) (gx_m 23 rfl)) ?_
  refine gx_Jcv (pc := 50) (gx_hst (as := [gx_i 36]) (b := gx_r 35 (some (3 :: x0)))) (gx_runI (as := [gx_i 36]) (ct_X5_init Y (3 :: x0) 36) rfl rfl rfl rfl q452 q172 q105 q173 rfl dd_X5_init (by decide) (by decide) (Nat.le_of_ble_eq_true rfl) (htX12_init (50, .invokespecial 20, 3) (gx_m 24 rfl))) ?_
  refine gx_Jfu (ci := 5) (by decide) rfl rfl sn_5 ?_
  refine gx_Jpr (pc := 53) (ci := 12) (kk := 3) (by decide) (Or.inr rfl) (by decide) rfl rfl (by decide) (fun _ h => (Option.some.inj h).symm) (Or.inl ⟨_, rfl⟩) q462 (Or.inr ⟨rfl, rfl, rfl⟩) (htX12_init (53, .putfield 28, 3) (gx_m 25 rfl)) ?_
  exact gx_Jvret (pc := 56) rfl (fun _ => trivial) (fun _ _ => rfl) (htX12_init (56, .return_, 1) (gx_m 26 rfl))
theorem ct_X15_init (Y : gx_Y) (x0 : gx_Nm) (x1 : gx_Nm) : gx_Ct Y yX15_init (ws_ yX15_init cX15_init 2 none) 2 121 [gx_r 45 (some x0), gx_r 7 (some x1)] gx_Ov (f_X15_init x0 x1) := by
  refine gx_start (lv := [(0, gx_r 45 (some x0)), (1, gx_r 7 (some x1))]) gx_Ov_r pn_X15 (Nat.le_of_ble_eq_true rfl) rfl ?_
  unfold f_X15_init
  refine gx_aload_n (pc := 0) (n := 0) (i := 0) rfl 0 rfl (htX15_init (0, .aload_n 0, 1) (gx_m 0 rfl)) ?_
  refine gx_Jobj (pc := 1) rfl q502 q136 q137 (by decide) (Nat.le_of_ble_eq_true rfl) (htX15_init (1, .invokespecial 1, 3) (gx_m 1 rfl)) ?_
  refine gx_aload_n (pc := 4) (n := 0) (i := 0) rfl 0 rfl (htX15_init (4, .aload_n 0, 1) (gx_m 2 rfl)) ?_
  refine gx_Jnw (pc := 5) (ci := 5) (by decide) rfl rfl rfl q503 q170 q105 (htX15_init (5, .new 7, 3) (gx_m 3 rfl)) ?_
  refine gx_dup (pc := 8) rfl (htX15_init (8, .dup, 1) (gx_m 4 rfl)) ?_
  refine gx_bipush (pc := 9) (v := 32) (by decide) (htX15_init (9, .bipush 32, 2) (gx_m 5 rfl)) ?_
  refine gx_Jcv (pc := 11) (gx_hst (as := [gx_i 32]) (b := gx_r 35 (some (4 :: x0)))) (gx_runI (as := [gx_i 32]) (ct_X5_init Y (4 :: x0) 32) rfl rfl rfl rfl q504 q172 q105 q173 rfl dd_X5_init (by decide) (by decide) (Nat.le_of_ble_eq_true rfl) (htX15_init (11, .invokespecial 9, 3) (gx_m 6 rfl))) ?_
  refine gx_Jfu (ci := 5) (by decide) rfl rfl sn_5 ?_
  refine gx_Jpr (pc := 14) (ci := 15) (kk := 4) (by decide) (Or.inr rfl) (by decide) rfl rfl (by decide) (fun _ h => (Option.some.inj h).symm) (Or.inl ⟨_, rfl⟩) q513 (Or.inr ⟨rfl, rfl, rfl⟩) (htX15_init (14, .putfield 12, 3) (gx_m 7 rfl)) ?_
  refine gx_aload_n (pc := 17) (n := 0) (i := 0) rfl 0 rfl (htX15_init (17, .aload_n 0, 1) (gx_m 8 rfl)) ?_
  refine gx_aload_n (pc := 18) (n := 1) (i := 1) rfl 1 rfl (htX15_init (18, .aload_n 1, 1) (gx_m 9 rfl)) ?_
  refine gx_Jprs (pc := 19) (ci := 15) (kk := 0) (by decide) (Or.inr rfl) (by decide) rfl rfl (by decide) (fun _ h => (Option.some.inj h).symm) (Or.inl ⟨_, rfl⟩) q505 (Or.inr ⟨rfl, rfl, rfl⟩) (htX15_init (19, .putfield 18, 3) (gx_m 10 rfl)) ?_
  exact gx_Jvret (pc := 22) rfl (fun _ => trivial) (fun _ _ => rfl) (htX15_init (22, .return_, 1) (gx_m 11 rfl))
theorem ct_X14_init (Y : gx_Y) (x0 : gx_Nm) (x1 : gx_Nm) : gx_Ct Y yX14_init (ws_ yX14_init cX14_init 2 none) 3 142 [gx_r 44 (some x0), gx_r 7 (some x1)] gx_Ov (f_X14_init x0 x1) := by
  refine gx_start (lv := [(0, gx_r 44 (some x0)), (1, gx_r 7 (some x1))]) gx_Ov_r pn_X14 (Nat.le_of_ble_eq_true rfl) rfl ?_
  unfold f_X14_init
  refine gx_aload_n (pc := 0) (n := 0) (i := 0) rfl 0 rfl (htX14_init (0, .aload_n 0, 1) (gx_m 0 rfl)) ?_
  refine gx_Jobj (pc := 1) rfl q494 q136 q137 (by decide) (Nat.le_of_ble_eq_true rfl) (htX14_init (1, .invokespecial 1, 3) (gx_m 1 rfl)) ?_
  refine gx_aload_n (pc := 4) (n := 0) (i := 0) rfl 0 rfl (htX14_init (4, .aload_n 0, 1) (gx_m 2 rfl)) ?_
  refine gx_Jnw (pc := 5) (ci := 5) (by decide) rfl rfl rfl q495 q170 q105 (htX14_init (5, .new 7, 3) (gx_m 3 rfl)) ?_
  refine gx_dup (pc := 8) rfl (htX14_init (8, .dup, 1) (gx_m 4 rfl)) ?_
  refine gx_bipush (pc := 9) (v := 32) (by decide) (htX14_init (9, .bipush 32, 2) (gx_m 5 rfl)) ?_
  refine gx_Jcv (pc := 11) (gx_hst (as := [gx_i 32]) (b := gx_r 35 (some (3 :: x0)))) (gx_runI (as := [gx_i 32]) (ct_X5_init Y (3 :: x0) 32) rfl rfl rfl rfl q496 q172 q105 q173 rfl dd_X5_init (by decide) (by decide) (Nat.le_of_ble_eq_true rfl) (htX14_init (11, .invokespecial 9, 3) (gx_m 6 rfl))) ?_
  refine gx_Jfu (ci := 5) (by decide) rfl rfl sn_5 ?_
  refine gx_Jpr (pc := 14) (ci := 14) (kk := 3) (by decide) (Or.inr rfl) (by decide) rfl rfl (by decide) (fun _ h => (Option.some.inj h).symm) (Or.inl ⟨_, rfl⟩) q534 (Or.inr ⟨rfl, rfl, rfl⟩) (htX14_init (14, .putfield 12, 3) (gx_m 7 rfl)) ?_
  refine gx_aload_n (pc := 17) (n := 0) (i := 0) rfl 0 rfl (htX14_init (17, .aload_n 0, 1) (gx_m 8 rfl)) ?_
  refine gx_Jnw (pc := 18) (ci := 15) (by decide) rfl rfl rfl q497 q498 q115 (htX14_init (18, .new 18, 3) (gx_m 9 rfl)) ?_
  refine gx_dup (pc := 21) rfl (htX14_init (21, .dup, 1) (gx_m 10 rfl)) ?_
  refine gx_aload_n (pc := 22) (n := 1) (i := 1) rfl 1 rfl (htX14_init (22, .aload_n 1, 1) (gx_m 11 rfl)) ?_
  refine gx_Jcv (pc := 23) (gx_hst (as := [gx_r 7 (some x1)]) (b := gx_r 45 (some (2 :: x0)))) (gx_runI (as := [gx_r 7 (some x1)]) (ct_X15_init Y (2 :: x0) x1) rfl rfl rfl rfl q499 q500 q115 q501 rfl dd_X15_init (by decide) (by decide) (Nat.le_of_ble_eq_true rfl) (htX14_init (23, .invokespecial 20, 3) (gx_m 12 rfl))) ?_
  refine gx_Jfu (ci := 15) (by decide) rfl rfl sn_15 ?_
  refine gx_Jpr (pc := 26) (ci := 14) (kk := 2) (by decide) (Or.inr rfl) (by decide) rfl rfl (by decide) (fun _ h => (Option.some.inj h).symm) (Or.inl ⟨_, rfl⟩) q531 (Or.inr ⟨rfl, rfl, rfl⟩) (htX14_init (26, .putfield 23, 3) (gx_m 13 rfl)) ?_
  exact gx_Jvret (pc := 29) rfl (fun _ => trivial) (fun _ _ => rfl) (htX14_init (29, .return_, 1) (gx_m 14 rfl))
theorem ct_X13_init (Y : gx_Y) (x0 : gx_Nm) (x1 : gx_Nm) (x2 : Int32) : gx_Ct Y yX13_init (ws_ yX13_init cX13_init 3 none) 4 163 [gx_r 43 (some x0), gx_r 3 (some x1), gx_i x2] gx_Ov (f_X13_init x0 x1 x2) := by
  refine gx_start (lv := [(0, gx_r 43 (some x0)), (1, gx_r 3 (some x1)), (2, gx_i x2)]) gx_Ov_r pn_X13 (Nat.le_of_ble_eq_true rfl) rfl ?_
  unfold f_X13_init
  refine gx_aload_n (pc := 0) (n := 0) (i := 0) rfl 0 rfl (htX13_init (0, .aload_n 0, 1) (gx_m 0 rfl)) ?_
  refine gx_Jobj (pc := 1) rfl q482 q136 q137 (by decide) (Nat.le_of_ble_eq_true rfl) (htX13_init (1, .invokespecial 3, 3) (gx_m 1 rfl)) ?_
  refine gx_aload_n (pc := 4) (n := 0) (i := 0) rfl 0 rfl (htX13_init (4, .aload_n 0, 1) (gx_m 2 rfl)) ?_
  refine gx_Jnw (pc := 5) (ci := 11) (by decide) rfl rfl rfl q483 q371 q111 (htX13_init (5, .new 9, 3) (gx_m 3 rfl)) ?_
  refine gx_dup (pc := 8) rfl (htX13_init (8, .dup, 1) (gx_m 4 rfl)) ?_
  refine gx_Jcv (pc := 9) (gx_hst (as := []) (b := gx_r 41 (some (6 :: x0)))) (gx_runIN (as := []) (ct_X11_init Y (6 :: x0)) rfl rfl rfl rfl q484 q373 q111 q374 rfl dd_X11_init (by decide) (by decide) (Nat.le_of_ble_eq_true rfl) (htX13_init (9, .invokespecial 11, 3) (gx_m 5 rfl))) ?_
  refine gx_Jfu (ci := 11) (by decide) rfl rfl sn_11 ?_
  refine gx_Jpr (pc := 12) (ci := 13) (kk := 6) (by decide) (Or.inr rfl) (by decide) rfl rfl (by decide) (fun _ h => (Option.some.inj h).symm) (Or.inl ⟨_, rfl⟩) q556 (Or.inr ⟨rfl, rfl, rfl⟩) (htX13_init (12, .putfield 12, 3) (gx_m 6 rfl)) ?_
  refine gx_aload_n (pc := 15) (n := 0) (i := 0) rfl 0 rfl (htX13_init (15, .aload_n 0, 1) (gx_m 7 rfl)) ?_
  refine gx_Jnw (pc := 16) (ci := 5) (by decide) rfl rfl rfl q485 q170 q105 (htX13_init (16, .new 18, 3) (gx_m 8 rfl)) ?_
  refine gx_dup (pc := 19) rfl (htX13_init (19, .dup, 1) (gx_m 9 rfl)) ?_
  refine gx_bipush (pc := 20) (v := 32) (by decide) (htX13_init (20, .bipush 32, 2) (gx_m 10 rfl)) ?_
  refine gx_Jcv (pc := 22) (gx_hst (as := [gx_i 32]) (b := gx_r 35 (some (12 :: x0)))) (gx_runI (as := [gx_i 32]) (ct_X5_init Y (12 :: x0) 32) rfl rfl rfl rfl q486 q172 q105 q173 rfl dd_X5_init (by decide) (by decide) (Nat.le_of_ble_eq_true rfl) (htX13_init (22, .invokespecial 20, 3) (gx_m 11 rfl))) ?_
  refine gx_Jfu (ci := 5) (by decide) rfl rfl sn_5 ?_
  refine gx_Jpr (pc := 25) (ci := 13) (kk := 12) (by decide) (Or.inr rfl) (by decide) rfl rfl (by decide) (fun _ h => (Option.some.inj h).symm) (Or.inl ⟨_, rfl⟩) q567 (Or.inr ⟨rfl, rfl, rfl⟩) (htX13_init (25, .putfield 23, 3) (gx_m 12 rfl)) ?_
  refine gx_aload_n (pc := 28) (n := 0) (i := 0) rfl 0 rfl (htX13_init (28, .aload_n 0, 1) (gx_m 13 rfl)) ?_
  refine gx_bipush (pc := 29) (v := 7) (by decide) (htX13_init (29, .bipush 7, 2) (gx_m 14 rfl)) ?_
  refine gx_Jna (pc := 31) (t := 0) (by decide) rfl rfl q189 (htX13_init (31, .newarray .int, 2) (gx_m 15 rfl)) ?_
  refine gx_Jpr (pc := 33) (ci := 13) (kk := 17) (by decide) (Or.inr rfl) (by decide) rfl rfl (by decide) (fun _ h => (Option.some.inj h).symm) (Or.inr ⟨_, rfl⟩) q572 (Or.inr ⟨rfl, rfl, rfl⟩) (htX13_init (33, .putfield 27, 3) (gx_m 16 rfl)) ?_
  refine gx_aload_n (pc := 36) (n := 0) (i := 0) rfl 0 rfl (htX13_init (36, .aload_n 0, 1) (gx_m 17 rfl)) ?_
  refine gx_bipush (pc := 37) (v := 7) (by decide) (htX13_init (37, .bipush 7, 2) (gx_m 18 rfl)) ?_
  refine gx_Jna (pc := 39) (t := 0) (by decide) rfl rfl q189 (htX13_init (39, .newarray .int, 2) (gx_m 19 rfl)) ?_
  refine gx_Jpr (pc := 41) (ci := 13) (kk := 18) (by decide) (Or.inr rfl) (by decide) rfl rfl (by decide) (fun _ h => (Option.some.inj h).symm) (Or.inr ⟨_, rfl⟩) q573 (Or.inr ⟨rfl, rfl, rfl⟩) (htX13_init (41, .putfield 31, 3) (gx_m 20 rfl)) ?_
  refine gx_aload_n (pc := 44) (n := 0) (i := 0) rfl 0 rfl (htX13_init (44, .aload_n 0, 1) (gx_m 21 rfl)) ?_
  refine gx_bipush (pc := 45) (v := 7) (by decide) (htX13_init (45, .bipush 7, 2) (gx_m 22 rfl)) ?_
  refine gx_Jna (pc := 47) (t := 0) (by decide) rfl rfl q189 (htX13_init (47, .newarray .int, 2) (gx_m 23 rfl)) ?_
  refine gx_Jpr (pc := 49) (ci := 13) (kk := 19) (by decide) (Or.inr rfl) (by decide) rfl rfl (by decide) (fun _ h => (Option.some.inj h).symm) (Or.inr ⟨_, rfl⟩) q574 (Or.inr ⟨rfl, rfl, rfl⟩) (htX13_init (49, .putfield 34, 3) (gx_m 24 rfl)) ?_
  refine gx_aload_n (pc := 52) (n := 0) (i := 0) rfl 0 rfl (htX13_init (52, .aload_n 0, 1) (gx_m 25 rfl)) ?_
  refine gx_iconst (pc := 53) (v := 4) (by decide) (htX13_init (53, .iconst 4, 1) (gx_m 26 rfl)) ?_
  refine gx_Jnr (pc := 54) (t := 9) (ci := 18) (by decide) rfl rfl rfl q487 q488 (htX13_init (54, .anewarray 37, 3) (gx_m 27 rfl)) ?_
  refine gx_Jpr (pc := 57) (ci := 13) (kk := 20) (by decide) (Or.inr rfl) (by decide) rfl rfl (by decide) (fun _ h => by cases h) (Or.inr ⟨_, rfl⟩) q575 (Or.inl rfl) (htX13_init (57, .putfield 39, 3) (gx_m 28 rfl)) ?_
  refine gx_aload_n (pc := 60) (n := 0) (i := 0) rfl 0 rfl (htX13_init (60, .aload_n 0, 1) (gx_m 29 rfl)) ?_
  refine gx_aload_n (pc := 61) (n := 1) (i := 1) rfl 1 rfl (htX13_init (61, .aload_n 1, 1) (gx_m 30 rfl)) ?_
  refine gx_Jprs (pc := 62) (ci := 13) (kk := 0) (by decide) (Or.inr rfl) (by decide) rfl rfl (by decide) (fun _ h => (Option.some.inj h).symm) (Or.inl ⟨_, rfl⟩) q546 (Or.inr ⟨rfl, rfl, rfl⟩) (htX13_init (62, .putfield 43, 3) (gx_m 31 rfl)) ?_
  refine gx_aload_n (pc := 65) (n := 0) (i := 0) rfl 0 rfl (htX13_init (65, .aload_n 0, 1) (gx_m 32 rfl)) ?_
  refine gx_iload_n (pc := 66) (n := 2) (i := 2) rfl 2 rfl (htX13_init (66, .iload_n 2, 1) (gx_m 33 rfl)) ?_
  refine gx_Jpi (pc := 67) (ci := 13) (kk := 1) (by decide) (Or.inr rfl) (by decide) rfl rfl q547 (Or.inr ⟨rfl, rfl, rfl⟩) (htX13_init (67, .putfield 47, 3) (gx_m 34 rfl)) ?_
  refine gx_aload_n (pc := 70) (n := 0) (i := 0) rfl 0 rfl (htX13_init (70, .aload_n 0, 1) (gx_m 35 rfl)) ?_
  refine gx_Jnw (pc := 71) (ci := 14) (by decide) rfl rfl rfl q489 q490 q114 (htX13_init (71, .new 51, 3) (gx_m 36 rfl)) ?_
  refine gx_dup (pc := 74) rfl (htX13_init (74, .dup, 1) (gx_m 37 rfl)) ?_
  refine gx_aload_n (pc := 75) (n := 1) (i := 1) rfl 1 rfl (htX13_init (75, .aload_n 1, 1) (gx_m 38 rfl)) ?_
  refine gx_Jgs (pc := 76) (ci := 2) (kk := 1) (t2 := 7) (by decide) (by decide) rfl rfl rfl q405 (htX13_init (76, .getfield 53, 3) (gx_m 39 rfl)) ?_
  refine gx_Jcv (pc := 79) (gx_hst (as := [gx_r 7 (some (1 :: x1))]) (b := gx_r 44 (some (2 :: x0)))) (gx_runI (as := [gx_r 7 (some (1 :: x1))]) (ct_X14_init Y (2 :: x0) (1 :: x1)) rfl rfl rfl rfl q491 q492 q114 q493 rfl dd_X14_init (by decide) (by decide) (Nat.le_of_ble_eq_true rfl) (htX13_init (79, .invokespecial 59, 3) (gx_m 40 rfl))) ?_
  refine gx_Jfu (ci := 14) (by decide) rfl rfl sn_14 ?_
  refine gx_Jpr (pc := 82) (ci := 13) (kk := 2) (by decide) (Or.inr rfl) (by decide) rfl rfl (by decide) (fun _ h => (Option.some.inj h).symm) (Or.inl ⟨_, rfl⟩) q548 (Or.inr ⟨rfl, rfl, rfl⟩) (htX13_init (82, .putfield 62, 3) (gx_m 41 rfl)) ?_
  refine gx_aload_n (pc := 85) (n := 0) (i := 0) rfl 0 rfl (htX13_init (85, .aload_n 0, 1) (gx_m 42 rfl)) ?_
  refine gx_Jnw (pc := 86) (ci := 15) (by decide) rfl rfl rfl q544 q498 q115 (htX13_init (86, .new 66, 3) (gx_m 43 rfl)) ?_
  refine gx_dup (pc := 89) rfl (htX13_init (89, .dup, 1) (gx_m 44 rfl)) ?_
  refine gx_aload_n (pc := 90) (n := 1) (i := 1) rfl 1 rfl (htX13_init (90, .aload_n 1, 1) (gx_m 45 rfl)) ?_
  refine gx_Jgs (pc := 91) (ci := 2) (kk := 1) (t2 := 7) (by decide) (by decide) rfl rfl rfl q405 (htX13_init (91, .getfield 53, 3) (gx_m 46 rfl)) ?_
  refine gx_Jcv (pc := 94) (gx_hst (as := [gx_r 7 (some (1 :: x1))]) (b := gx_r 45 (some (5 :: x0)))) (gx_runI (as := [gx_r 7 (some (1 :: x1))]) (ct_X15_init Y (5 :: x0) (1 :: x1)) rfl rfl rfl rfl q545 q500 q115 q501 rfl dd_X15_init (by decide) (by decide) (Nat.le_of_ble_eq_true rfl) (htX13_init (94, .invokespecial 68, 3) (gx_m 47 rfl))) ?_
  refine gx_Jfu (ci := 15) (by decide) rfl rfl sn_15 ?_
  refine gx_Jpr (pc := 97) (ci := 13) (kk := 5) (by decide) (Or.inr rfl) (by decide) rfl rfl (by decide) (fun _ h => (Option.some.inj h).symm) (Or.inl ⟨_, rfl⟩) q554 (Or.inr ⟨rfl, rfl, rfl⟩) (htX13_init (97, .putfield 69, 3) (gx_m 48 rfl)) ?_
  exact gx_Jvret (pc := 100) rfl (fun _ => trivial) (fun _ _ => rfl) (htX13_init (100, .return_, 1) (gx_m 49 rfl))
theorem ct_X4_clear (Y : gx_Y) (x0 : gx_Nm) : gx_Ct Y yX4_clear (ws_ yX4_clear cX4_clear 1 none) 1 100 [gx_r 5 (some x0)] gx_Ov (f_X4_clear x0) := by
  refine gx_start (lv := [(0, gx_r 5 (some x0))]) gx_Ov_r pn_X4 (Nat.le_of_ble_eq_true rfl) rfl ?_
  unfold f_X4_clear
  refine gx_aload_n (pc := 0) (n := 0) (i := 0) rfl 0 rfl (htX4_clear (0, .aload_n 0, 1) (gx_m 0 rfl)) ?_
  refine gx_iconst (pc := 1) (v := 0) (by decide) (htX4_clear (1, .iconst 0, 1) (gx_m 1 rfl)) ?_
  refine gx_Jpi (pc := 2) (ci := 4) (kk := 1) (by decide) (Or.inl rfl) (by decide) rfl rfl q158 (Or.inl rfl) (htX4_clear (2, .putfield 13, 3) (gx_m 2 rfl)) ?_
  exact gx_Jvret (pc := 5) rfl (fun _ => trivial) (fun _ _ => rfl) (htX4_clear (5, .return_, 1) (gx_m 3 rfl))
theorem ct_X5_clear (Y : gx_Y) (x0 : gx_Nm) : gx_Ct Y yX5_clear (ws_ yX5_clear cX5_clear 1 none) 1 100 [gx_r 6 (some x0)] gx_Ov (f_X5_clear x0) := by
  refine gx_start (lv := [(0, gx_r 6 (some x0))]) gx_Ov_r pn_X5 (Nat.le_of_ble_eq_true rfl) rfl ?_
  unfold f_X5_clear
  refine gx_aload_n (pc := 0) (n := 0) (i := 0) rfl 0 rfl (htX5_clear (0, .aload_n 0, 1) (gx_m 0 rfl)) ?_
  refine gx_iconst (pc := 1) (v := 0) (by decide) (htX5_clear (1, .iconst 0, 1) (gx_m 1 rfl)) ?_
  refine gx_Jpi (pc := 2) (ci := 5) (kk := 1) (by decide) (Or.inl rfl) (by decide) rfl rfl q176 (Or.inl rfl) (htX5_clear (2, .putfield 13, 3) (gx_m 2 rfl)) ?_
  exact gx_Jvret (pc := 5) rfl (fun _ => trivial) (fun _ _ => rfl) (htX5_clear (5, .return_, 1) (gx_m 3 rfl))
theorem ct_X5_add (Y : gx_Y) (x0 : gx_Nm) (x1 : Int32) : gx_Ct Y yX5_add (ws_ yX5_add cX5_add 3 none) 1 100 [gx_r 6 (some x0), gx_i x1] gx_Ov (f_X5_add x0 x1) := by
  refine gx_start (lv := [(0, gx_r 6 (some x0)), (1, gx_i x1)]) gx_Ov_r pn_X5 (Nat.le_of_ble_eq_true rfl) rfl ?_
  unfold f_X5_add
  refine gx_aload_n (pc := 0) (n := 0) (i := 0) rfl 0 rfl (htX5_add (0, .aload_n 0, 1) (gx_m 0 rfl)) ?_
  refine gx_Jgi (pc := 1) (ci := 5) (kk := 1) (by decide) (Or.inl rfl) (by decide) (by decide) q176 (htX5_add (1, .getfield 13, 3) (gx_m 1 rfl)) (fun v1 hv1 => ?_)
  refine gx_aload_n (pc := 4) (n := 0) (i := 0) rfl 0 rfl (htX5_add (4, .aload_n 0, 1) (gx_m 2 rfl)) ?_
  refine gx_Jgr (pc := 5) (ci := 5) (kk := 0) (t2 := 100) (by decide) (Or.inl rfl) (by decide) rfl rfl q175 (htX5_add (5, .getfield 7, 3) (gx_m 3 rfl)) (fun v2 => ?_)
  refine gx_Jal (pc := 8) (t := 0) (by decide) (htX5_add (8, .arraylength, 1) (gx_m 4 rfl)) (fun v3 => ?_)
  refine gx_Jjoin (pcJ := 40) (lvJ := fun (j_1 : Unit) => [(0, gx_r 6 (some x0)), (1, gx_i x1)]) (stJ := fun (j_1 : Unit) => []) (fun _ => True) (fun j_1 hj_1 => ?_) (fun kk1 hj1 => ?_)
  · refine gx_aload_n (pc := 40) (n := 0) (i := 0) rfl 0 rfl (htX5_add (40, .aload_n 0, 1) (gx_m 23 rfl)) ?_
    refine gx_Jgr (pc := 41) (ci := 5) (kk := 0) (t2 := 100) (by decide) (Or.inl rfl) (by decide) rfl rfl q175 (htX5_add (41, .getfield 7, 3) (gx_m 24 rfl)) (fun v7 => ?_)
    refine gx_aload_n (pc := 44) (n := 0) (i := 0) rfl 0 rfl (htX5_add (44, .aload_n 0, 1) (gx_m 25 rfl)) ?_
    refine gx_Jgi (pc := 45) (ci := 5) (kk := 1) (by decide) (Or.inl rfl) (by decide) (by decide) q176 (htX5_add (45, .getfield 13, 3) (gx_m 26 rfl)) (fun v8 hv8 => ?_)
    refine gx_iload_n (pc := 48) (n := 1) (i := 1) rfl 1 rfl (htX5_add (48, .iload_n 1, 1) (gx_m 27 rfl)) ?_
    refine gx_Jis (pc := 49) (htX5_add (49, .iastore, 1) (gx_m 28 rfl)) ?_
    refine gx_aload_n (pc := 50) (n := 0) (i := 0) rfl 0 rfl (htX5_add (50, .aload_n 0, 1) (gx_m 29 rfl)) ?_
    refine gx_dup (pc := 51) rfl (htX5_add (51, .dup, 1) (gx_m 30 rfl)) ?_
    refine gx_Jgi (pc := 52) (ci := 5) (kk := 1) (by decide) (Or.inl rfl) (by decide) (by decide) q176 (htX5_add (52, .getfield 13, 3) (gx_m 31 rfl)) (fun v9 hv9 => ?_)
    refine gx_iconst (pc := 55) (v := 1) (by decide) (htX5_add (55, .iconst 1, 1) (gx_m 32 rfl)) ?_
    refine gx_iadd (pc := 56) (htX5_add (56, .iadd, 1) (gx_m 33 rfl)) ?_
    refine gx_Jpi (pc := 57) (ci := 5) (kk := 1) (by decide) (Or.inl rfl) (by decide) rfl rfl q176 (Or.inl rfl) (htX5_add (57, .putfield 13, 3) (gx_m 34 rfl)) ?_
    exact gx_Jvret (pc := 60) rfl (fun _ => trivial) (fun _ _ => rfl) (htX5_add (60, .return_, 1) (gx_m 35 rfl))
  · refine gx_icmp_ne (pc := 9) (tgt := 40) (by decide) (htX5_add (9, .if_icmp .ne 31, 3) (gx_m 5 rfl)) (fun c2 => ?_) (fun c2 => ?_)
    · refine gx_iconst (pc := 12) (v := 2) (by decide) (htX5_add (12, .iconst 2, 1) (gx_m 6 rfl)) ?_
      refine gx_aload_n (pc := 13) (n := 0) (i := 0) rfl 0 rfl (htX5_add (13, .aload_n 0, 1) (gx_m 7 rfl)) ?_
      refine gx_Jgi (pc := 14) (ci := 5) (kk := 1) (by decide) (Or.inl rfl) (by decide) (by decide) q176 (htX5_add (14, .getfield 13, 3) (gx_m 8 rfl)) (fun v4 hv4 => ?_)
      refine gx_imul (pc := 17) (htX5_add (17, .imul, 1) (gx_m 9 rfl)) ?_
      refine gx_Jna (pc := 18) (t := 0) (by decide) rfl rfl q189 (htX5_add (18, .newarray .int, 2) (gx_m 10 rfl)) ?_
      refine gx_astore_n (pc := 20) (n := 2) (i := 2) (lv' := [(2, gx_r 100 (some ((2 * v4).toNatClampNeg :: 0 :: x0))), (0, gx_r 6 (some x0)), (1, gx_i x1)]) rfl (by decide) rfl (htX5_add (20, .astore_n 2, 1) (gx_m 11 rfl)) ?_
      refine gx_aload_n (pc := 21) (n := 0) (i := 0) rfl 1 rfl (htX5_add (21, .aload_n 0, 1) (gx_m 12 rfl)) ?_
      refine gx_Jgr (pc := 22) (ci := 5) (kk := 0) (t2 := 100) (by decide) (Or.inl rfl) (by decide) rfl rfl q175 (htX5_add (22, .getfield 7, 3) (gx_m 13 rfl)) (fun v5 => ?_)
      refine gx_iconst (pc := 25) (v := 0) (by decide) (htX5_add (25, .iconst 0, 1) (gx_m 14 rfl)) ?_
      refine gx_aload_n (pc := 26) (n := 2) (i := 2) rfl 0 rfl (htX5_add (26, .aload_n 2, 1) (gx_m 15 rfl)) ?_
      refine gx_iconst (pc := 27) (v := 0) (by decide) (htX5_add (27, .iconst 0, 1) (gx_m 16 rfl)) ?_
      refine gx_aload_n (pc := 28) (n := 0) (i := 0) rfl 1 rfl (htX5_add (28, .aload_n 0, 1) (gx_m 17 rfl)) ?_
      refine gx_Jgi (pc := 29) (ci := 5) (kk := 1) (by decide) (Or.inl rfl) (by decide) (by decide) q176 (htX5_add (29, .getfield 13, 3) (gx_m 18 rfl)) (fun v6 hv6 => ?_)
      refine gx_Jac (pc := 32) (t := 0) (by decide) rfl q645 q647 q646 q116 (by decide) (Nat.le_of_ble_eq_true rfl) (htX5_add (32, .invokestatic 17, 3) (gx_m 19 rfl)) ?_
      refine gx_aload_n (pc := 35) (n := 0) (i := 0) rfl 1 rfl (htX5_add (35, .aload_n 0, 1) (gx_m 20 rfl)) ?_
      refine gx_aload_n (pc := 36) (n := 2) (i := 2) rfl 0 rfl (htX5_add (36, .aload_n 2, 1) (gx_m 21 rfl)) ?_
      refine gx_Jpr (pc := 37) (ci := 5) (kk := 0) (by decide) (Or.inl rfl) (by decide) rfl rfl (by decide) (fun _ h => by cases h) (Or.inr ⟨_, rfl⟩) q175 (Or.inl rfl) (htX5_add (37, .putfield 7, 3) (gx_m 22 rfl)) ?_
      refine gx_Jw (lv := [(0, gx_r 6 (some x0)), (1, gx_i x1)]) [1, 2] rfl ?_
      exact hj1 () trivial
    · exact hj1 () trivial
theorem ct_X3_clear (Y : gx_Y) (x0 : gx_Nm) : gx_Ct Y yX3_clear (ws_ yX3_clear cX3_clear 1 none) 2 122 [gx_r 4 (some x0)] gx_Ov (f_X3_clear x0) := by
  refine gx_start (lv := [(0, gx_r 4 (some x0))]) gx_Ov_r pn_X3 (Nat.le_of_ble_eq_true rfl) rfl ?_
  unfold f_X3_clear
  refine gx_aload_n (pc := 0) (n := 0) (i := 0) rfl 0 rfl (htX3_clear (0, .aload_n 0, 1) (gx_m 0 rfl)) ?_
  refine gx_iconst (pc := 1) (v := 0) (by decide) (htX3_clear (1, .iconst 0, 1) (gx_m 1 rfl)) ?_
  refine gx_Jpi (pc := 2) (ci := 3) (kk := 4) (by decide) (Or.inl rfl) (by decide) rfl rfl q197 (Or.inl rfl) (htX3_clear (2, .putfield 30, 3) (gx_m 2 rfl)) ?_
  refine gx_aload_n (pc := 5) (n := 0) (i := 0) rfl 0 rfl (htX3_clear (5, .aload_n 0, 1) (gx_m 3 rfl)) ?_
  refine gx_Jgs (pc := 6) (ci := 3) (kk := 0) (t2 := 5) (by decide) (by decide) rfl rfl rfl q190 (htX3_clear (6, .getfield 14, 3) (gx_m 4 rfl)) ?_
  refine gx_Jcv (pc := 9) (gx_hst (as := []) (b := gx_r 5 (some (0 :: x0)))) (gx_runV (as := []) (ci := 4) (ct_X4_clear Y (0 :: x0)) (by decide) (Or.inl rfl) rfl rfl rfl rfl q633 q634 q635 q104 q636 rfl dd_X4_clear (by decide) (by decide) (Nat.le_of_ble_eq_true rfl) (htX3_clear (9, .invokevirtual 34, 3) (gx_m 5 rfl))) ?_
  refine gx_aload_n (pc := 12) (n := 0) (i := 0) rfl 0 rfl (htX3_clear (12, .aload_n 0, 1) (gx_m 6 rfl)) ?_
  refine gx_Jgs (pc := 13) (ci := 3) (kk := 1) (t2 := 6) (by decide) (by decide) rfl rfl rfl q194 (htX3_clear (13, .getfield 23, 3) (gx_m 7 rfl)) ?_
  refine gx_Jcv (pc := 16) (gx_hst (as := []) (b := gx_r 6 (some (1 :: x0)))) (gx_runV (as := []) (ci := 5) (ct_X5_clear Y (1 :: x0)) (by decide) (Or.inl rfl) rfl rfl rfl rfl q637 q638 q639 q105 q640 rfl dd_X5_clear (by decide) (by decide) (Nat.le_of_ble_eq_true rfl) (htX3_clear (16, .invokevirtual 37, 3) (gx_m 8 rfl))) ?_
  refine gx_aload_n (pc := 19) (n := 0) (i := 0) rfl 0 rfl (htX3_clear (19, .aload_n 0, 1) (gx_m 9 rfl)) ?_
  refine gx_Jgs (pc := 20) (ci := 3) (kk := 2) (t2 := 6) (by decide) (by decide) rfl rfl rfl q195 (htX3_clear (20, .getfield 27, 3) (gx_m 10 rfl)) ?_
  refine gx_Jcv (pc := 23) (gx_hst (as := []) (b := gx_r 6 (some (2 :: x0)))) (gx_runV (as := []) (ci := 5) (ct_X5_clear Y (2 :: x0)) (by decide) (Or.inl rfl) rfl rfl rfl rfl q637 q638 q639 q105 q640 rfl dd_X5_clear (by decide) (by decide) (Nat.le_of_ble_eq_true rfl) (htX3_clear (23, .invokevirtual 37, 3) (gx_m 11 rfl))) ?_
  refine gx_aload_n (pc := 26) (n := 0) (i := 0) rfl 0 rfl (htX3_clear (26, .aload_n 0, 1) (gx_m 12 rfl)) ?_
  refine gx_iconst (pc := 27) (v := 0) (by decide) (htX3_clear (27, .iconst 0, 1) (gx_m 13 rfl)) ?_
  refine gx_Jpi (pc := 28) (ci := 3) (kk := 3) (by decide) (Or.inl rfl) (by decide) rfl rfl q196 (Or.inl rfl) (htX3_clear (28, .putfield 38, 3) (gx_m 14 rfl)) ?_
  refine gx_aload_n (pc := 31) (n := 0) (i := 0) rfl 0 rfl (htX3_clear (31, .aload_n 0, 1) (gx_m 15 rfl)) ?_
  refine gx_Jgs (pc := 32) (ci := 3) (kk := 1) (t2 := 6) (by decide) (by decide) rfl rfl rfl q194 (htX3_clear (32, .getfield 23, 3) (gx_m 16 rfl)) ?_
  refine gx_iconst (pc := 35) (v := 0) (by decide) (htX3_clear (35, .iconst 0, 1) (gx_m 17 rfl)) ?_
  refine gx_Jcv (pc := 36) (gx_hst (as := [gx_i 0]) (b := gx_r 6 (some (1 :: x0)))) (gx_runV (as := [gx_i 0]) (ci := 5) (ct_X5_add Y (1 :: x0) 0) (by decide) (Or.inl rfl) rfl rfl rfl rfl q641 q642 q643 q105 q644 rfl dd_X5_add (by decide) (by decide) (Nat.le_of_ble_eq_true rfl) (htX3_clear (36, .invokevirtual 41, 3) (gx_m 18 rfl))) ?_
  exact gx_Jvret (pc := 39) rfl (fun _ => trivial) (fun _ _ => rfl) (htX3_clear (39, .return_, 1) (gx_m 19 rfl))
theorem ct_X6_clear (Y : gx_Y) (x0 : gx_Nm) : gx_Ct Y yX6_clear (ws_ yX6_clear cX6_clear 1 none) 2 120 [gx_r 7 (some x0)] gx_Ov (f_X6_clear x0) := by
  refine gx_start (lv := [(0, gx_r 7 (some x0))]) gx_Ov_r pn_X6 (Nat.le_of_ble_eq_true rfl) rfl ?_
  unfold f_X6_clear
  refine gx_aload_n (pc := 0) (n := 0) (i := 0) rfl 0 rfl (htX6_clear (0, .aload_n 0, 1) (gx_m 0 rfl)) ?_
  refine gx_Jgs (pc := 1) (ci := 6) (kk := 0) (t2 := 6) (by decide) (by decide) rfl rfl rfl q217 (htX6_clear (1, .getfield 12, 3) (gx_m 1 rfl)) ?_
  refine gx_Jcv (pc := 4) (gx_hst (as := []) (b := gx_r 6 (some (0 :: x0)))) (gx_runV (as := []) (ci := 5) (ct_X5_clear Y (0 :: x0)) (by decide) (Or.inl rfl) rfl rfl rfl rfl q652 q638 q639 q105 q640 rfl dd_X5_clear (by decide) (by decide) (Nat.le_of_ble_eq_true rfl) (htX6_clear (4, .invokevirtual 21, 3) (gx_m 2 rfl))) ?_
  refine gx_aload_n (pc := 7) (n := 0) (i := 0) rfl 0 rfl (htX6_clear (7, .aload_n 0, 1) (gx_m 3 rfl)) ?_
  refine gx_Jgs (pc := 8) (ci := 6) (kk := 1) (t2 := 6) (by decide) (by decide) rfl rfl rfl q220 (htX6_clear (8, .getfield 18, 3) (gx_m 4 rfl)) ?_
  refine gx_Jcv (pc := 11) (gx_hst (as := []) (b := gx_r 6 (some (1 :: x0)))) (gx_runV (as := []) (ci := 5) (ct_X5_clear Y (1 :: x0)) (by decide) (Or.inl rfl) rfl rfl rfl rfl q652 q638 q639 q105 q640 rfl dd_X5_clear (by decide) (by decide) (Nat.le_of_ble_eq_true rfl) (htX6_clear (11, .invokevirtual 21, 3) (gx_m 5 rfl))) ?_
  exact gx_Jvret (pc := 14) rfl (fun _ => trivial) (fun _ _ => rfl) (htX6_clear (14, .return_, 1) (gx_m 6 rfl))
theorem ct_X8_clear (Y : gx_Y) (x0 : gx_Nm) : gx_Ct Y yX8_clear (ws_ yX8_clear cX8_clear 1 none) 1 100 [gx_r 9 (some x0)] gx_Ov (f_X8_clear x0) := by
  refine gx_start (lv := [(0, gx_r 9 (some x0))]) gx_Ov_r pn_X8 (Nat.le_of_ble_eq_true rfl) rfl ?_
  unfold f_X8_clear
  refine gx_aload_n (pc := 0) (n := 0) (i := 0) rfl 0 rfl (htX8_clear (0, .aload_n 0, 1) (gx_m 0 rfl)) ?_
  refine gx_iconst (pc := 1) (v := 0) (by decide) (htX8_clear (1, .iconst 0, 1) (gx_m 1 rfl)) ?_
  refine gx_Jpi (pc := 2) (ci := 8) (kk := 1) (by decide) (Or.inl rfl) (by decide) rfl rfl q244 (Or.inl rfl) (htX8_clear (2, .putfield 15, 3) (gx_m 2 rfl)) ?_
  exact gx_Jvret (pc := 5) rfl (fun _ => trivial) (fun _ _ => rfl) (htX8_clear (5, .return_, 1) (gx_m 3 rfl))
theorem ct_X5_get (Y : gx_Y) (x0 : gx_Nm) (x1 : Int32) : gx_Ct Y yX5_get (ws_ yX5_get cX5_get 2 (some .int)) 1 100 [gx_r 6 (some x0), gx_i x1] gx_Oi (f_X5_get x0 x1) := by
  refine gx_start (lv := [(0, gx_r 6 (some x0)), (1, gx_i x1)]) gx_Oi_r pn_X5 (Nat.le_of_ble_eq_true rfl) rfl ?_
  unfold f_X5_get
  refine gx_aload_n (pc := 0) (n := 0) (i := 0) rfl 0 rfl (htX5_get (0, .aload_n 0, 1) (gx_m 0 rfl)) ?_
  refine gx_Jgr (pc := 1) (ci := 5) (kk := 0) (t2 := 100) (by decide) (Or.inl rfl) (by decide) rfl rfl q175 (htX5_get (1, .getfield 7, 3) (gx_m 1 rfl)) (fun v1 => ?_)
  refine gx_iload_n (pc := 4) (n := 1) (i := 1) rfl 1 rfl (htX5_get (4, .iload_n 1, 1) (gx_m 2 rfl)) ?_
  refine gx_Jia (pc := 5) (htX5_get (5, .iaload, 1) (gx_m 3 rfl)) (fun v2 => ?_)
  exact gx_Jiret (pc := 6) rfl (fun _ => trivial) (fun _ _ => rfl) (htX5_get (6, .ireturn, 1) (gx_m 4 rfl))
theorem ct_X5_set (Y : gx_Y) (x0 : gx_Nm) (x1 : Int32) (x2 : Int32) : gx_Ct Y yX5_set (ws_ yX5_set cX5_set 3 none) 1 100 [gx_r 6 (some x0), gx_i x1, gx_i x2] gx_Ov (f_X5_set x0 x1 x2) := by
  refine gx_start (lv := [(0, gx_r 6 (some x0)), (1, gx_i x1), (2, gx_i x2)]) gx_Ov_r pn_X5 (Nat.le_of_ble_eq_true rfl) rfl ?_
  unfold f_X5_set
  refine gx_aload_n (pc := 0) (n := 0) (i := 0) rfl 0 rfl (htX5_set (0, .aload_n 0, 1) (gx_m 0 rfl)) ?_
  refine gx_Jgr (pc := 1) (ci := 5) (kk := 0) (t2 := 100) (by decide) (Or.inl rfl) (by decide) rfl rfl q175 (htX5_set (1, .getfield 7, 3) (gx_m 1 rfl)) (fun v1 => ?_)
  refine gx_iload_n (pc := 4) (n := 1) (i := 1) rfl 1 rfl (htX5_set (4, .iload_n 1, 1) (gx_m 2 rfl)) ?_
  refine gx_iload_n (pc := 5) (n := 2) (i := 2) rfl 2 rfl (htX5_set (5, .iload_n 2, 1) (gx_m 3 rfl)) ?_
  refine gx_Jis (pc := 6) (htX5_set (6, .iastore, 1) (gx_m 4 rfl)) ?_
  exact gx_Jvret (pc := 7) rfl (fun _ => trivial) (fun _ _ => rfl) (htX5_set (7, .return_, 1) (gx_m 5 rfl))
theorem ct_X7_enter (Y : gx_Y) (x0 : gx_Nm) (x1 : Int32) (x2 : Int32) (x3 : Int32) (x4 : Int32) (x5 : Int32) (x6 : Int32) : gx_Ct Y yX7_enter (ws_ yX7_enter cX7_enter 9 (some .int)) 2 122 [gx_r 8 (some x0), gx_i x1, gx_i x2, gx_i x3, gx_i x4, gx_i x5, gx_i x6] gx_Oi (f_X7_enter x0 x1 x2 x3 x4 x5 x6) := by
  refine gx_start (lv := [(0, gx_r 8 (some x0)), (1, gx_i x1), (2, gx_i x2), (3, gx_i x3), (4, gx_i x4), (5, gx_i x5), (6, gx_i x6)]) gx_Oi_r pn_X7 (Nat.le_of_ble_eq_true rfl) rfl ?_
  unfold f_X7_enter
  refine gx_aload_n (pc := 0) (n := 0) (i := 0) rfl 0 rfl (htX7_enter (0, .aload_n 0, 1) (gx_m 0 rfl)) ?_
  refine gx_Jgs (pc := 1) (ci := 7) (kk := 1) (t2 := 6) (by decide) (by decide) rfl rfl rfl q307 (htX7_enter (1, .getfield 12, 3) (gx_m 1 rfl)) ?_
  refine gx_Jgi (pc := 4) (ci := 5) (kk := 1) (by decide) (Or.inl rfl) (by decide) (by decide) q177 (htX7_enter (4, .getfield 81, 3) (gx_m 2 rfl)) (fun v1 hv1 => ?_)
  refine gx_istore (pc := 7) (i := 7) (lv' := [(7, gx_i v1), (0, gx_r 8 (some x0)), (1, gx_i x1), (2, gx_i x2), (3, gx_i x3), (4, gx_i x4), (5, gx_i x5), (6, gx_i x6)]) (by decide) rfl (htX7_enter (7, .istore 7, 2) (gx_m 3 rfl)) ?_
  refine gx_aload_n (pc := 9) (n := 0) (i := 0) rfl 1 rfl (htX7_enter (9, .aload_n 0, 1) (gx_m 4 rfl)) ?_
  refine gx_Jgs (pc := 10) (ci := 7) (kk := 1) (t2 := 6) (by decide) (by decide) rfl rfl rfl q307 (htX7_enter (10, .getfield 12, 3) (gx_m 5 rfl)) ?_
  refine gx_iload_n (pc := 13) (n := 1) (i := 1) rfl 2 rfl (htX7_enter (13, .iload_n 1, 1) (gx_m 6 rfl)) ?_
  refine gx_Jcv (pc := 14) (gx_hst (as := [gx_i x1]) (b := gx_r 6 (some (1 :: x0)))) (gx_runV (as := [gx_i x1]) (ci := 5) (ct_X5_add Y (1 :: x0) x1) (by decide) (Or.inl rfl) rfl rfl rfl rfl q666 q642 q643 q105 q644 rfl dd_X5_add (by decide) (by decide) (Nat.le_of_ble_eq_true rfl) (htX7_enter (14, .invokevirtual 85, 3) (gx_m 7 rfl))) ?_
  refine gx_aload_n (pc := 17) (n := 0) (i := 0) rfl 1 rfl (htX7_enter (17, .aload_n 0, 1) (gx_m 8 rfl)) ?_
  refine gx_Jgs (pc := 18) (ci := 7) (kk := 2) (t2 := 6) (by decide) (by decide) rfl rfl rfl q308 (htX7_enter (18, .getfield 18, 3) (gx_m 9 rfl)) ?_
  refine gx_iload_n (pc := 21) (n := 2) (i := 2) rfl 3 rfl (htX7_enter (21, .iload_n 2, 1) (gx_m 10 rfl)) ?_
  refine gx_Jcv (pc := 22) (gx_hst (as := [gx_i x2]) (b := gx_r 6 (some (2 :: x0)))) (gx_runV (as := [gx_i x2]) (ci := 5) (ct_X5_add Y (2 :: x0) x2) (by decide) (Or.inl rfl) rfl rfl rfl rfl q666 q642 q643 q105 q644 rfl dd_X5_add (by decide) (by decide) (Nat.le_of_ble_eq_true rfl) (htX7_enter (22, .invokevirtual 85, 3) (gx_m 11 rfl))) ?_
  refine gx_aload_n (pc := 25) (n := 0) (i := 0) rfl 1 rfl (htX7_enter (25, .aload_n 0, 1) (gx_m 12 rfl)) ?_
  refine gx_Jgs (pc := 26) (ci := 7) (kk := 3) (t2 := 6) (by decide) (by decide) rfl rfl rfl q309 (htX7_enter (26, .getfield 21, 3) (gx_m 13 rfl)) ?_
  refine gx_iload_n (pc := 29) (n := 3) (i := 3) rfl 4 rfl (htX7_enter (29, .iload_n 3, 1) (gx_m 14 rfl)) ?_
  refine gx_Jcv (pc := 30) (gx_hst (as := [gx_i x3]) (b := gx_r 6 (some (3 :: x0)))) (gx_runV (as := [gx_i x3]) (ci := 5) (ct_X5_add Y (3 :: x0) x3) (by decide) (Or.inl rfl) rfl rfl rfl rfl q666 q642 q643 q105 q644 rfl dd_X5_add (by decide) (by decide) (Nat.le_of_ble_eq_true rfl) (htX7_enter (30, .invokevirtual 85, 3) (gx_m 15 rfl))) ?_
  refine gx_aload_n (pc := 33) (n := 0) (i := 0) rfl 1 rfl (htX7_enter (33, .aload_n 0, 1) (gx_m 16 rfl)) ?_
  refine gx_Jgs (pc := 34) (ci := 7) (kk := 4) (t2 := 6) (by decide) (by decide) rfl rfl rfl q310 (htX7_enter (34, .getfield 24, 3) (gx_m 17 rfl)) ?_
  refine gx_iload (pc := 37) (i := 4) 5 rfl (htX7_enter (37, .iload 4, 2) (gx_m 18 rfl)) ?_
  refine gx_Jcv (pc := 39) (gx_hst (as := [gx_i x4]) (b := gx_r 6 (some (4 :: x0)))) (gx_runV (as := [gx_i x4]) (ci := 5) (ct_X5_add Y (4 :: x0) x4) (by decide) (Or.inl rfl) rfl rfl rfl rfl q666 q642 q643 q105 q644 rfl dd_X5_add (by decide) (by decide) (Nat.le_of_ble_eq_true rfl) (htX7_enter (39, .invokevirtual 85, 3) (gx_m 19 rfl))) ?_
  refine gx_aload_n (pc := 42) (n := 0) (i := 0) rfl 1 rfl (htX7_enter (42, .aload_n 0, 1) (gx_m 20 rfl)) ?_
  refine gx_Jgs (pc := 43) (ci := 7) (kk := 5) (t2 := 6) (by decide) (by decide) rfl rfl rfl q311 (htX7_enter (43, .getfield 27, 3) (gx_m 21 rfl)) ?_
  refine gx_iload (pc := 46) (i := 5) 6 rfl (htX7_enter (46, .iload 5, 2) (gx_m 22 rfl)) ?_
  refine gx_Jcv (pc := 48) (gx_hst (as := [gx_i x5]) (b := gx_r 6 (some (5 :: x0)))) (gx_runV (as := [gx_i x5]) (ci := 5) (ct_X5_add Y (5 :: x0) x5) (by decide) (Or.inl rfl) rfl rfl rfl rfl q666 q642 q643 q105 q644 rfl dd_X5_add (by decide) (by decide) (Nat.le_of_ble_eq_true rfl) (htX7_enter (48, .invokevirtual 85, 3) (gx_m 23 rfl))) ?_
  refine gx_aload_n (pc := 51) (n := 0) (i := 0) rfl 1 rfl (htX7_enter (51, .aload_n 0, 1) (gx_m 24 rfl)) ?_
  refine gx_Jgs (pc := 52) (ci := 7) (kk := 6) (t2 := 6) (by decide) (by decide) rfl rfl rfl q312 (htX7_enter (52, .getfield 30, 3) (gx_m 25 rfl)) ?_
  refine gx_iload (pc := 55) (i := 6) 7 rfl (htX7_enter (55, .iload 6, 2) (gx_m 26 rfl)) ?_
  refine gx_Jcv (pc := 57) (gx_hst (as := [gx_i x6]) (b := gx_r 6 (some (6 :: x0)))) (gx_runV (as := [gx_i x6]) (ci := 5) (ct_X5_add Y (6 :: x0) x6) (by decide) (Or.inl rfl) rfl rfl rfl rfl q666 q642 q643 q105 q644 rfl dd_X5_add (by decide) (by decide) (Nat.le_of_ble_eq_true rfl) (htX7_enter (57, .invokevirtual 85, 3) (gx_m 27 rfl))) ?_
  refine gx_iconst (pc := 60) (v := 0) (by decide) (htX7_enter (60, .iconst 0, 1) (gx_m 28 rfl)) ?_
  refine gx_istore (pc := 61) (i := 8) (lv' := [(8, gx_i 0), (7, gx_i v1), (0, gx_r 8 (some x0)), (1, gx_i x1), (2, gx_i x2), (3, gx_i x3), (4, gx_i x4), (5, gx_i x5), (6, gx_i x6)]) (by decide) rfl (htX7_enter (61, .istore 8, 2) (gx_m 29 rfl)) ?_
  refine gx_Jjoin (pcJ := 89) (lvJ := fun (j_1 : Unit) => [(0, gx_r 8 (some x0)), (1, gx_i x1), (7, gx_i v1)]) (stJ := fun (j_1 : Unit) => []) (fun _ => True) (fun j_1 _ => ?_) (fun kk1 hj1 => ?_)
  · refine gx_aload_n (pc := 89) (n := 0) (i := 0) rfl 0 rfl (htX7_enter (89, .aload_n 0, 1) (gx_m 42 rfl)) ?_
    refine gx_Jgs (pc := 90) (ci := 7) (kk := 8) (t2 := 6) (by decide) (by decide) rfl rfl rfl q314 (htX7_enter (90, .getfield 36, 3) (gx_m 43 rfl)) ?_
    refine gx_aload_n (pc := 93) (n := 0) (i := 0) rfl 0 rfl (htX7_enter (93, .aload_n 0, 1) (gx_m 44 rfl)) ?_
    refine gx_Jgs (pc := 94) (ci := 7) (kk := 9) (t2 := 9) (by decide) (by decide) rfl rfl rfl q315 (htX7_enter (94, .getfield 42, 3) (gx_m 45 rfl)) ?_
    refine gx_Jgi (pc := 97) (ci := 8) (kk := 1) (by decide) (Or.inl rfl) (by decide) (by decide) q245 (htX7_enter (97, .getfield 88, 3) (gx_m 46 rfl)) (fun v4 hv4 => ?_)
    refine gx_Jcv (pc := 100) (gx_hst (as := [gx_i v4]) (b := gx_r 6 (some (8 :: x0)))) (gx_runV (as := [gx_i v4]) (ci := 5) (ct_X5_add Y (8 :: x0) v4) (by decide) (Or.inl rfl) rfl rfl rfl rfl q666 q642 q643 q105 q644 rfl dd_X5_add (by decide) (by decide) (Nat.le_of_ble_eq_true rfl) (htX7_enter (100, .invokevirtual 85, 3) (gx_m 47 rfl))) ?_
    refine gx_aload_n (pc := 103) (n := 0) (i := 0) rfl 0 rfl (htX7_enter (103, .aload_n 0, 1) (gx_m 48 rfl)) ?_
    refine gx_Jgs (pc := 104) (ci := 7) (kk := 10) (t2 := 6) (by decide) (by decide) rfl rfl rfl q316 (htX7_enter (104, .getfield 46, 3) (gx_m 49 rfl)) ?_
    refine gx_iconst (pc := 107) (v := (-1)) (by decide) (htX7_enter (107, .iconst (-1), 1) (gx_m 50 rfl)) ?_
    refine gx_Jcv (pc := 108) (gx_hst (as := [gx_i (-1)]) (b := gx_r 6 (some (10 :: x0)))) (gx_runV (as := [gx_i (-1)]) (ci := 5) (ct_X5_add Y (10 :: x0) (-1)) (by decide) (Or.inl rfl) rfl rfl rfl rfl q666 q642 q643 q105 q644 rfl dd_X5_add (by decide) (by decide) (Nat.le_of_ble_eq_true rfl) (htX7_enter (108, .invokevirtual 85, 3) (gx_m 51 rfl))) ?_
    refine gx_aload_n (pc := 111) (n := 0) (i := 0) rfl 0 rfl (htX7_enter (111, .aload_n 0, 1) (gx_m 52 rfl)) ?_
    refine gx_Jgs (pc := 112) (ci := 7) (kk := 11) (t2 := 6) (by decide) (by decide) rfl rfl rfl q317 (htX7_enter (112, .getfield 49, 3) (gx_m 53 rfl)) ?_
    refine gx_iconst (pc := 115) (v := (-1)) (by decide) (htX7_enter (115, .iconst (-1), 1) (gx_m 54 rfl)) ?_
    refine gx_Jcv (pc := 116) (gx_hst (as := [gx_i (-1)]) (b := gx_r 6 (some (11 :: x0)))) (gx_runV (as := [gx_i (-1)]) (ci := 5) (ct_X5_add Y (11 :: x0) (-1)) (by decide) (Or.inl rfl) rfl rfl rfl rfl q666 q642 q643 q105 q644 rfl dd_X5_add (by decide) (by decide) (Nat.le_of_ble_eq_true rfl) (htX7_enter (116, .invokevirtual 85, 3) (gx_m 55 rfl))) ?_
    refine gx_iload_n (pc := 119) (n := 1) (i := 1) rfl 1 rfl (htX7_enter (119, .iload_n 1, 1) (gx_m 56 rfl)) ?_
    refine gx_Jjoin (pcJ := 150) (lvJ := fun (j_2 : Unit) => [(7, gx_i v1)]) (stJ := fun (j_2 : Unit) => []) (fun _ => True) (fun j_2 hj_2 => ?_) (fun kk2 hj2 => ?_)
    · refine gx_iload (pc := 150) (i := 7) 0 rfl (htX7_enter (150, .iload 7, 2) (gx_m 71 rfl)) ?_
      exact gx_Jiret (pc := 152) rfl (fun _ => trivial) (fun _ _ => rfl) (htX7_enter (152, .ireturn, 1) (gx_m 72 rfl))
    · refine gx_if_lt (pc := 120) (y := 0) (tgt := 150) (by decide) (htX7_enter (120, .ifCond .lt 30, 3) (gx_m 57 rfl)) (fun c3 => ?_) (fun c3 => ?_)
      · refine gx_Jw (lv := [(7, gx_i v1)]) [2] rfl ?_
        exact hj2 () trivial
      · refine gx_aload_n (pc := 123) (n := 0) (i := 0) rfl 0 rfl (htX7_enter (123, .aload_n 0, 1) (gx_m 58 rfl)) ?_
        refine gx_Jgs (pc := 124) (ci := 7) (kk := 11) (t2 := 6) (by decide) (by decide) rfl rfl rfl q317 (htX7_enter (124, .getfield 49, 3) (gx_m 59 rfl)) ?_
        refine gx_iload (pc := 127) (i := 7) 2 rfl (htX7_enter (127, .iload 7, 2) (gx_m 60 rfl)) ?_
        refine gx_aload_n (pc := 129) (n := 0) (i := 0) rfl 0 rfl (htX7_enter (129, .aload_n 0, 1) (gx_m 61 rfl)) ?_
        refine gx_Jgs (pc := 130) (ci := 7) (kk := 10) (t2 := 6) (by decide) (by decide) rfl rfl rfl q316 (htX7_enter (130, .getfield 46, 3) (gx_m 62 rfl)) ?_
        refine gx_iload_n (pc := 133) (n := 1) (i := 1) rfl 1 rfl (htX7_enter (133, .iload_n 1, 1) (gx_m 63 rfl)) ?_
        refine gx_Jci (pc := 134) (gx_hst (as := [gx_i x1]) (b := gx_r 6 (some (10 :: x0)))) (gx_runV (as := [gx_i x1]) (ci := 5) (ct_X5_get Y (10 :: x0) x1) (by decide) (Or.inl rfl) rfl rfl rfl rfl q667 q668 q669 q105 q670 rfl dd_X5_get (by decide) (by decide) (Nat.le_of_ble_eq_true rfl) (htX7_enter (134, .invokevirtual 89, 3) (gx_m 64 rfl))) (fun v5 => ?_)
        refine gx_Jcv (pc := 137) (gx_hst (as := [gx_i v1, gx_i v5]) (b := gx_r 6 (some (11 :: x0)))) (gx_runV (as := [gx_i v1, gx_i v5]) (ci := 5) (ct_X5_set Y (11 :: x0) v1 v5) (by decide) (Or.inl rfl) rfl rfl rfl rfl q671 q672 q673 q105 q674 rfl dd_X5_set (by decide) (by decide) (Nat.le_of_ble_eq_true rfl) (htX7_enter (137, .invokevirtual 93, 3) (gx_m 65 rfl))) ?_
        refine gx_aload_n (pc := 140) (n := 0) (i := 0) rfl 0 rfl (htX7_enter (140, .aload_n 0, 1) (gx_m 66 rfl)) ?_
        refine gx_Jgs (pc := 141) (ci := 7) (kk := 10) (t2 := 6) (by decide) (by decide) rfl rfl rfl q316 (htX7_enter (141, .getfield 46, 3) (gx_m 67 rfl)) ?_
        refine gx_iload_n (pc := 144) (n := 1) (i := 1) rfl 1 rfl (htX7_enter (144, .iload_n 1, 1) (gx_m 68 rfl)) ?_
        refine gx_iload (pc := 145) (i := 7) 2 rfl (htX7_enter (145, .iload 7, 2) (gx_m 69 rfl)) ?_
        refine gx_Jcv (pc := 147) (gx_hst (as := [gx_i x1, gx_i v1]) (b := gx_r 6 (some (10 :: x0)))) (gx_runV (as := [gx_i x1, gx_i v1]) (ci := 5) (ct_X5_set Y (10 :: x0) x1 v1) (by decide) (Or.inl rfl) rfl rfl rfl rfl q671 q672 q673 q105 q674 rfl dd_X5_set (by decide) (by decide) (Nat.le_of_ble_eq_true rfl) (htX7_enter (147, .invokevirtual 93, 3) (gx_m 70 rfl))) ?_
        refine gx_Jw (lv := [(7, gx_i v1)]) [2] rfl ?_
        exact hj2 () trivial
  · refine gx_Jw (lv := [(0, gx_r 8 (some x0)), (1, gx_i x1), (7, gx_i v1), (8, gx_i 0)]) [2, 3, 1, 0] rfl ?_
    refine gx_Jlp (pc := 63) (lvh := fun (s2 : Int32) => [(0, gx_r 8 (some x0)), (1, gx_i x1), (7, gx_i v1), (8, gx_i s2)]) (fun s2 kl1 ha1 hb1 => ?_) _
    unfold lb_X7_enter_1
    refine gx_iload (pc := 63) (i := 8) 3 rfl (htX7_enter (63, .iload 8, 2) (gx_m 30 rfl)) ?_
    refine gx_iconst (pc := 65) (v := 4) (by decide) (htX7_enter (65, .iconst 4, 1) (gx_m 31 rfl)) ?_
    refine gx_icmp_ge (pc := 66) (tgt := 89) (by decide) (htX7_enter (66, .if_icmp .ge 23, 3) (gx_m 32 rfl)) (fun c4 => ?_) (fun c4 => ?_)
    · refine gx_Jw (lv := [(0, gx_r 8 (some x0)), (1, gx_i x1), (7, gx_i v1)]) [0, 1, 2] rfl ?_
      exact gx_Jout hb1 (hj1 () trivial)
    · refine gx_aload_n (pc := 69) (n := 0) (i := 0) rfl 0 rfl (htX7_enter (69, .aload_n 0, 1) (gx_m 33 rfl)) ?_
      refine gx_Jgs (pc := 70) (ci := 7) (kk := 7) (t2 := 6) (by decide) (by decide) rfl rfl rfl q313 (htX7_enter (70, .getfield 33, 3) (gx_m 34 rfl)) ?_
      refine gx_aload_n (pc := 73) (n := 0) (i := 0) rfl 0 rfl (htX7_enter (73, .aload_n 0, 1) (gx_m 35 rfl)) ?_
      refine gx_Jgs (pc := 74) (ci := 7) (kk := 14) (t2 := 100) (by decide) (by decide) rfl rfl rfl q320 (htX7_enter (74, .getfield 62, 3) (gx_m 36 rfl)) ?_
      refine gx_iload (pc := 77) (i := 8) 3 rfl (htX7_enter (77, .iload 8, 2) (gx_m 37 rfl)) ?_
      refine gx_Jia (pc := 79) (htX7_enter (79, .iaload, 1) (gx_m 38 rfl)) (fun v3 => ?_)
      refine gx_Jcv (pc := 80) (gx_hst (as := [gx_i v3]) (b := gx_r 6 (some (7 :: x0)))) (gx_runV (as := [gx_i v3]) (ci := 5) (ct_X5_add Y (7 :: x0) v3) (by decide) (Or.inl rfl) rfl rfl rfl rfl q666 q642 q643 q105 q644 rfl dd_X5_add (by decide) (by decide) (Nat.le_of_ble_eq_true rfl) (htX7_enter (80, .invokevirtual 85, 3) (gx_m 39 rfl))) ?_
      refine gx_iinc (pc := 83) (i := 8) (j := 3) (v := (s2 + 1)) (lv' := [(8, gx_i (s2 + 1)), (0, gx_r 8 (some x0)), (1, gx_i x1), (7, gx_i v1)]) rfl (gx_iv (by decide)) (by decide) rfl (htX7_enter (83, .iinc 8 1, 3) (gx_m 40 rfl)) ?_
      refine gx_goto (pc := 86) (tgt := 63) (by decide) (htX7_enter (86, .goto (-23), 3) (gx_m 41 rfl)) ?_
      refine gx_Jw (lv := [(0, gx_r 8 (some x0)), (1, gx_i x1), (7, gx_i v1), (8, gx_i (s2 + 1))]) [1, 2, 3, 0] rfl ?_
      exact ha1 ((s2 + 1) : Int32)
theorem ct_X7_clear (Y : gx_Y) (x0 : gx_Nm) : gx_Ct Y yX7_clear (ws_ yX7_clear cX7_clear 2 none) 3 150 [gx_r 8 (some x0)] gx_Ov (f_X7_clear x0) := by
  refine gx_start (lv := [(0, gx_r 8 (some x0))]) gx_Ov_r pn_X7 (Nat.le_of_ble_eq_true rfl) rfl ?_
  unfold f_X7_clear
  refine gx_aload_n (pc := 0) (n := 0) (i := 0) rfl 0 rfl (htX7_clear (0, .aload_n 0, 1) (gx_m 0 rfl)) ?_
  refine gx_Jgs (pc := 1) (ci := 7) (kk := 1) (t2 := 6) (by decide) (by decide) rfl rfl rfl q307 (htX7_clear (1, .getfield 12, 3) (gx_m 1 rfl)) ?_
  refine gx_Jcv (pc := 4) (gx_hst (as := []) (b := gx_r 6 (some (1 :: x0)))) (gx_runV (as := []) (ci := 5) (ct_X5_clear Y (1 :: x0)) (by decide) (Or.inl rfl) rfl rfl rfl rfl q657 q638 q639 q105 q640 rfl dd_X5_clear (by decide) (by decide) (Nat.le_of_ble_eq_true rfl) (htX7_clear (4, .invokevirtual 73, 3) (gx_m 2 rfl))) ?_
  refine gx_aload_n (pc := 7) (n := 0) (i := 0) rfl 0 rfl (htX7_clear (7, .aload_n 0, 1) (gx_m 3 rfl)) ?_
  refine gx_Jgs (pc := 8) (ci := 7) (kk := 2) (t2 := 6) (by decide) (by decide) rfl rfl rfl q308 (htX7_clear (8, .getfield 18, 3) (gx_m 4 rfl)) ?_
  refine gx_Jcv (pc := 11) (gx_hst (as := []) (b := gx_r 6 (some (2 :: x0)))) (gx_runV (as := []) (ci := 5) (ct_X5_clear Y (2 :: x0)) (by decide) (Or.inl rfl) rfl rfl rfl rfl q657 q638 q639 q105 q640 rfl dd_X5_clear (by decide) (by decide) (Nat.le_of_ble_eq_true rfl) (htX7_clear (11, .invokevirtual 73, 3) (gx_m 5 rfl))) ?_
  refine gx_aload_n (pc := 14) (n := 0) (i := 0) rfl 0 rfl (htX7_clear (14, .aload_n 0, 1) (gx_m 6 rfl)) ?_
  refine gx_Jgs (pc := 15) (ci := 7) (kk := 3) (t2 := 6) (by decide) (by decide) rfl rfl rfl q309 (htX7_clear (15, .getfield 21, 3) (gx_m 7 rfl)) ?_
  refine gx_Jcv (pc := 18) (gx_hst (as := []) (b := gx_r 6 (some (3 :: x0)))) (gx_runV (as := []) (ci := 5) (ct_X5_clear Y (3 :: x0)) (by decide) (Or.inl rfl) rfl rfl rfl rfl q657 q638 q639 q105 q640 rfl dd_X5_clear (by decide) (by decide) (Nat.le_of_ble_eq_true rfl) (htX7_clear (18, .invokevirtual 73, 3) (gx_m 8 rfl))) ?_
  refine gx_aload_n (pc := 21) (n := 0) (i := 0) rfl 0 rfl (htX7_clear (21, .aload_n 0, 1) (gx_m 9 rfl)) ?_
  refine gx_Jgs (pc := 22) (ci := 7) (kk := 4) (t2 := 6) (by decide) (by decide) rfl rfl rfl q310 (htX7_clear (22, .getfield 24, 3) (gx_m 10 rfl)) ?_
  refine gx_Jcv (pc := 25) (gx_hst (as := []) (b := gx_r 6 (some (4 :: x0)))) (gx_runV (as := []) (ci := 5) (ct_X5_clear Y (4 :: x0)) (by decide) (Or.inl rfl) rfl rfl rfl rfl q657 q638 q639 q105 q640 rfl dd_X5_clear (by decide) (by decide) (Nat.le_of_ble_eq_true rfl) (htX7_clear (25, .invokevirtual 73, 3) (gx_m 11 rfl))) ?_
  refine gx_aload_n (pc := 28) (n := 0) (i := 0) rfl 0 rfl (htX7_clear (28, .aload_n 0, 1) (gx_m 12 rfl)) ?_
  refine gx_Jgs (pc := 29) (ci := 7) (kk := 5) (t2 := 6) (by decide) (by decide) rfl rfl rfl q311 (htX7_clear (29, .getfield 27, 3) (gx_m 13 rfl)) ?_
  refine gx_Jcv (pc := 32) (gx_hst (as := []) (b := gx_r 6 (some (5 :: x0)))) (gx_runV (as := []) (ci := 5) (ct_X5_clear Y (5 :: x0)) (by decide) (Or.inl rfl) rfl rfl rfl rfl q657 q638 q639 q105 q640 rfl dd_X5_clear (by decide) (by decide) (Nat.le_of_ble_eq_true rfl) (htX7_clear (32, .invokevirtual 73, 3) (gx_m 14 rfl))) ?_
  refine gx_aload_n (pc := 35) (n := 0) (i := 0) rfl 0 rfl (htX7_clear (35, .aload_n 0, 1) (gx_m 15 rfl)) ?_
  refine gx_Jgs (pc := 36) (ci := 7) (kk := 6) (t2 := 6) (by decide) (by decide) rfl rfl rfl q312 (htX7_clear (36, .getfield 30, 3) (gx_m 16 rfl)) ?_
  refine gx_Jcv (pc := 39) (gx_hst (as := []) (b := gx_r 6 (some (6 :: x0)))) (gx_runV (as := []) (ci := 5) (ct_X5_clear Y (6 :: x0)) (by decide) (Or.inl rfl) rfl rfl rfl rfl q657 q638 q639 q105 q640 rfl dd_X5_clear (by decide) (by decide) (Nat.le_of_ble_eq_true rfl) (htX7_clear (39, .invokevirtual 73, 3) (gx_m 17 rfl))) ?_
  refine gx_aload_n (pc := 42) (n := 0) (i := 0) rfl 0 rfl (htX7_clear (42, .aload_n 0, 1) (gx_m 18 rfl)) ?_
  refine gx_Jgs (pc := 43) (ci := 7) (kk := 7) (t2 := 6) (by decide) (by decide) rfl rfl rfl q313 (htX7_clear (43, .getfield 33, 3) (gx_m 19 rfl)) ?_
  refine gx_Jcv (pc := 46) (gx_hst (as := []) (b := gx_r 6 (some (7 :: x0)))) (gx_runV (as := []) (ci := 5) (ct_X5_clear Y (7 :: x0)) (by decide) (Or.inl rfl) rfl rfl rfl rfl q657 q638 q639 q105 q640 rfl dd_X5_clear (by decide) (by decide) (Nat.le_of_ble_eq_true rfl) (htX7_clear (46, .invokevirtual 73, 3) (gx_m 20 rfl))) ?_
  refine gx_aload_n (pc := 49) (n := 0) (i := 0) rfl 0 rfl (htX7_clear (49, .aload_n 0, 1) (gx_m 21 rfl)) ?_
  refine gx_Jgs (pc := 50) (ci := 7) (kk := 8) (t2 := 6) (by decide) (by decide) rfl rfl rfl q314 (htX7_clear (50, .getfield 36, 3) (gx_m 22 rfl)) ?_
  refine gx_Jcv (pc := 53) (gx_hst (as := []) (b := gx_r 6 (some (8 :: x0)))) (gx_runV (as := []) (ci := 5) (ct_X5_clear Y (8 :: x0)) (by decide) (Or.inl rfl) rfl rfl rfl rfl q657 q638 q639 q105 q640 rfl dd_X5_clear (by decide) (by decide) (Nat.le_of_ble_eq_true rfl) (htX7_clear (53, .invokevirtual 73, 3) (gx_m 23 rfl))) ?_
  refine gx_aload_n (pc := 56) (n := 0) (i := 0) rfl 0 rfl (htX7_clear (56, .aload_n 0, 1) (gx_m 24 rfl)) ?_
  refine gx_Jgs (pc := 57) (ci := 7) (kk := 9) (t2 := 9) (by decide) (by decide) rfl rfl rfl q315 (htX7_clear (57, .getfield 42, 3) (gx_m 25 rfl)) ?_
  refine gx_Jcv (pc := 60) (gx_hst (as := []) (b := gx_r 9 (some (9 :: x0)))) (gx_runV (as := []) (ci := 8) (ct_X8_clear Y (9 :: x0)) (by decide) (Or.inl rfl) rfl rfl rfl rfl q658 q659 q660 q108 q661 rfl dd_X8_clear (by decide) (by decide) (Nat.le_of_ble_eq_true rfl) (htX7_clear (60, .invokevirtual 76, 3) (gx_m 26 rfl))) ?_
  refine gx_aload_n (pc := 63) (n := 0) (i := 0) rfl 0 rfl (htX7_clear (63, .aload_n 0, 1) (gx_m 27 rfl)) ?_
  refine gx_Jgs (pc := 64) (ci := 7) (kk := 10) (t2 := 6) (by decide) (by decide) rfl rfl rfl q316 (htX7_clear (64, .getfield 46, 3) (gx_m 28 rfl)) ?_
  refine gx_Jcv (pc := 67) (gx_hst (as := []) (b := gx_r 6 (some (10 :: x0)))) (gx_runV (as := []) (ci := 5) (ct_X5_clear Y (10 :: x0)) (by decide) (Or.inl rfl) rfl rfl rfl rfl q657 q638 q639 q105 q640 rfl dd_X5_clear (by decide) (by decide) (Nat.le_of_ble_eq_true rfl) (htX7_clear (67, .invokevirtual 73, 3) (gx_m 29 rfl))) ?_
  refine gx_aload_n (pc := 70) (n := 0) (i := 0) rfl 0 rfl (htX7_clear (70, .aload_n 0, 1) (gx_m 30 rfl)) ?_
  refine gx_Jgs (pc := 71) (ci := 7) (kk := 11) (t2 := 6) (by decide) (by decide) rfl rfl rfl q317 (htX7_clear (71, .getfield 49, 3) (gx_m 31 rfl)) ?_
  refine gx_Jcv (pc := 74) (gx_hst (as := []) (b := gx_r 6 (some (11 :: x0)))) (gx_runV (as := []) (ci := 5) (ct_X5_clear Y (11 :: x0)) (by decide) (Or.inl rfl) rfl rfl rfl rfl q657 q638 q639 q105 q640 rfl dd_X5_clear (by decide) (by decide) (Nat.le_of_ble_eq_true rfl) (htX7_clear (74, .invokevirtual 73, 3) (gx_m 32 rfl))) ?_
  refine gx_iconst (pc := 77) (v := 0) (by decide) (htX7_clear (77, .iconst 0, 1) (gx_m 33 rfl)) ?_
  refine gx_istore_n (pc := 78) (n := 1) (i := 1) (lv' := [(1, gx_i 0), (0, gx_r 8 (some x0))]) rfl (by decide) rfl (htX7_clear (78, .istore_n 1, 1) (gx_m 34 rfl)) ?_
  refine gx_Jjoin (pcJ := 97) (lvJ := fun (j_1 : Unit) => [(0, gx_r 8 (some x0))]) (stJ := fun (j_1 : Unit) => []) (fun _ => True) (fun j_1 _ => ?_) (fun kk1 hj1 => ?_)
  · refine gx_aload_n (pc := 97) (n := 0) (i := 0) rfl 0 rfl (htX7_clear (97, .aload_n 0, 1) (gx_m 45 rfl)) ?_
    refine gx_iconst (pc := 98) (v := (-1)) (by decide) (htX7_clear (98, .iconst (-1), 1) (gx_m 46 rfl)) ?_
    refine gx_iconst (pc := 99) (v := (-1)) (by decide) (htX7_clear (99, .iconst (-1), 1) (gx_m 47 rfl)) ?_
    refine gx_iconst (pc := 100) (v := 0) (by decide) (htX7_clear (100, .iconst 0, 1) (gx_m 48 rfl)) ?_
    refine gx_iconst (pc := 101) (v := 1) (by decide) (htX7_clear (101, .iconst 1, 1) (gx_m 49 rfl)) ?_
    refine gx_iconst (pc := 102) (v := 0) (by decide) (htX7_clear (102, .iconst 0, 1) (gx_m 50 rfl)) ?_
    refine gx_iconst (pc := 103) (v := 0) (by decide) (htX7_clear (103, .iconst 0, 1) (gx_m 51 rfl)) ?_
    refine gx_Jci (pc := 104) (gx_hst (as := [gx_i (-1), gx_i (-1), gx_i 0, gx_i 1, gx_i 0, gx_i 0]) (b := gx_r 8 (some x0))) (gx_runV (as := [gx_i (-1), gx_i (-1), gx_i 0, gx_i 1, gx_i 0, gx_i 0]) (ci := 7) (ct_X7_enter Y x0 (-1) (-1) 0 1 0 0) (by decide) (Or.inl rfl) rfl rfl rfl rfl q662 q664 qs0 q107 q665 rfl dd_X7_enter (by decide) (by decide) (Nat.le_of_ble_eq_true rfl) (htX7_clear (104, .invokevirtual 77, 3) (gx_m 52 rfl))) (fun v2 => ?_)
    refine gx_pop (pc := 107) rfl (htX7_clear (107, .pop, 1) (gx_m 53 rfl)) ?_
    exact gx_Jvret (pc := 108) rfl (fun _ => trivial) (fun _ _ => rfl) (htX7_clear (108, .return_, 1) (gx_m 54 rfl))
  · refine gx_Jw (lv := [(0, gx_r 8 (some x0)), (1, gx_i 0)]) [1, 0] rfl ?_
    refine gx_Jlp (pc := 79) (lvh := fun (s1 : Int32) => [(0, gx_r 8 (some x0)), (1, gx_i s1)]) (fun s1 kl1 ha1 hb1 => ?_) _
    unfold lb_X7_clear_1
    refine gx_iload_n (pc := 79) (n := 1) (i := 1) rfl 1 rfl (htX7_clear (79, .iload_n 1, 1) (gx_m 35 rfl)) ?_
    refine gx_iconst (pc := 80) (v := 4) (by decide) (htX7_clear (80, .iconst 4, 1) (gx_m 36 rfl)) ?_
    refine gx_icmp_ge (pc := 81) (tgt := 97) (by decide) (htX7_clear (81, .if_icmp .ge 16, 3) (gx_m 37 rfl)) (fun c2 => ?_) (fun c2 => ?_)
    · refine gx_Jw (lv := [(0, gx_r 8 (some x0))]) [0] rfl ?_
      exact gx_Jout hb1 (hj1 () trivial)
    · refine gx_aload_n (pc := 84) (n := 0) (i := 0) rfl 0 rfl (htX7_clear (84, .aload_n 0, 1) (gx_m 38 rfl)) ?_
      refine gx_Jgs (pc := 85) (ci := 7) (kk := 14) (t2 := 100) (by decide) (by decide) rfl rfl rfl q320 (htX7_clear (85, .getfield 62, 3) (gx_m 39 rfl)) ?_
      refine gx_iload_n (pc := 88) (n := 1) (i := 1) rfl 1 rfl (htX7_clear (88, .iload_n 1, 1) (gx_m 40 rfl)) ?_
      refine gx_iconst (pc := 89) (v := 0) (by decide) (htX7_clear (89, .iconst 0, 1) (gx_m 41 rfl)) ?_
      refine gx_Jis (pc := 90) (htX7_clear (90, .iastore, 1) (gx_m 42 rfl)) ?_
      refine gx_iinc (pc := 91) (i := 1) (j := 1) (v := (s1 + 1)) (lv' := [(1, gx_i (s1 + 1)), (0, gx_r 8 (some x0))]) rfl (gx_iv (by decide)) (by decide) rfl (htX7_clear (91, .iinc 1 1, 3) (gx_m 43 rfl)) ?_
      refine gx_goto (pc := 94) (tgt := 79) (by decide) (htX7_clear (94, .goto (-15), 3) (gx_m 44 rfl)) ?_
      refine gx_Jw (lv := [(0, gx_r 8 (some x0)), (1, gx_i (s1 + 1))]) [1, 0] rfl ?_
      exact ha1 ((s1 + 1) : Int32)
theorem ct_X11_pop (Y : gx_Y) (x0 : gx_Nm) : gx_Ct Y yX11_pop (ws_ yX11_pop cX11_pop 1 (some (.object "CouncilStore$Message"))) 1 100 [gx_r 12 (some x0)] (gx_Or Y 18) (f_X11_pop x0) := by
  refine gx_start (lv := [(0, gx_r 12 (some x0))]) gx_Or_r pn_X11 (Nat.le_of_ble_eq_true rfl) rfl ?_
  unfold f_X11_pop
  refine gx_aload_n (pc := 0) (n := 0) (i := 0) rfl 0 rfl (htX11_pop (0, .aload_n 0, 1) (gx_m 0 rfl)) ?_
  refine gx_dup (pc := 1) rfl (htX11_pop (1, .dup, 1) (gx_m 1 rfl)) ?_
  refine gx_Jgi (pc := 2) (ci := 11) (kk := 1) (by decide) (Or.inl rfl) (by decide) (by decide) q381 (htX11_pop (2, .getfield 15, 3) (gx_m 2 rfl)) (fun v1 hv1 => ?_)
  refine gx_iconst (pc := 5) (v := 1) (by decide) (htX11_pop (5, .iconst 1, 1) (gx_m 3 rfl)) ?_
  refine gx_isub (pc := 6) (htX11_pop (6, .isub, 1) (gx_m 4 rfl)) ?_
  refine gx_Jpi (pc := 7) (ci := 11) (kk := 1) (by decide) (Or.inl rfl) (by decide) rfl rfl q381 (Or.inl rfl) (htX11_pop (7, .putfield 15, 3) (gx_m 5 rfl)) ?_
  refine gx_aload_n (pc := 10) (n := 0) (i := 0) rfl 0 rfl (htX11_pop (10, .aload_n 0, 1) (gx_m 6 rfl)) ?_
  refine gx_Jgr (pc := 11) (ci := 11) (kk := 0) (t2 := 108) (by decide) (Or.inl rfl) (by decide) rfl rfl q378 (htX11_pop (11, .getfield 9, 3) (gx_m 7 rfl)) (fun v2 => ?_)
  refine gx_aload_n (pc := 14) (n := 0) (i := 0) rfl 0 rfl (htX11_pop (14, .aload_n 0, 1) (gx_m 8 rfl)) ?_
  refine gx_Jgi (pc := 15) (ci := 11) (kk := 1) (by decide) (Or.inl rfl) (by decide) (by decide) q381 (htX11_pop (15, .getfield 15, 3) (gx_m 9 rfl)) (fun v3 hv3 => ?_)
  refine gx_Jra (pc := 18) (t := 8) (t2 := 18) (by decide) (by decide) rfl (htX11_pop (18, .aaload, 1) (gx_m 10 rfl)) (fun v4 => ?_)
  exact gx_Jaret (pc := 19) rfl (Or.inl ⟨_, rfl⟩) (fun _ h => h) (fun _ _ => rfl) (htX11_pop (19, .areturn, 1) (gx_m 11 rfl))
theorem ct_X11_add (Y : gx_Y) (x0 : gx_Nm) (x1 : gx_Nm) : gx_Ct Y yX11_add (ws_ yX11_add cX11_add 4 none) 1 100 [gx_r 12 (some x0), gx_r 18 (some x1)] gx_Ov (f_X11_add x0 x1) := by
  refine gx_start (lv := [(0, gx_r 12 (some x0)), (1, gx_r 18 (some x1))]) gx_Ov_r pn_X11 (Nat.le_of_ble_eq_true rfl) rfl ?_
  unfold f_X11_add
  refine gx_aload_n (pc := 0) (n := 0) (i := 0) rfl 0 rfl (htX11_add (0, .aload_n 0, 1) (gx_m 0 rfl)) ?_
  refine gx_Jgi (pc := 1) (ci := 11) (kk := 1) (by decide) (Or.inl rfl) (by decide) (by decide) q381 (htX11_add (1, .getfield 15, 3) (gx_m 1 rfl)) (fun v1 hv1 => ?_)
  refine gx_aload_n (pc := 4) (n := 0) (i := 0) rfl 0 rfl (htX11_add (4, .aload_n 0, 1) (gx_m 2 rfl)) ?_
  refine gx_Jgr (pc := 5) (ci := 11) (kk := 0) (t2 := 108) (by decide) (Or.inl rfl) (by decide) rfl rfl q378 (htX11_add (5, .getfield 9, 3) (gx_m 3 rfl)) (fun v2 => ?_)
  refine gx_Jal (pc := 8) (t := 8) (by decide) (htX11_add (8, .arraylength, 1) (gx_m 4 rfl)) (fun v3 => ?_)
  refine gx_Jjoin (pcJ := 52) (lvJ := fun (j_1 : Unit) => [(0, gx_r 12 (some x0)), (1, gx_r 18 (some x1))]) (stJ := fun (j_1 : Unit) => []) (fun _ => True) (fun j_1 hj_1 => ?_) (fun kk1 hj1 => ?_)
  · refine gx_aload_n (pc := 52) (n := 0) (i := 0) rfl 0 rfl (htX11_add (52, .aload_n 0, 1) (gx_m 30 rfl)) ?_
    refine gx_Jgr (pc := 53) (ci := 11) (kk := 0) (t2 := 108) (by decide) (Or.inl rfl) (by decide) rfl rfl q378 (htX11_add (53, .getfield 9, 3) (gx_m 31 rfl)) (fun v9 => ?_)
    refine gx_aload_n (pc := 56) (n := 0) (i := 0) rfl 0 rfl (htX11_add (56, .aload_n 0, 1) (gx_m 32 rfl)) ?_
    refine gx_Jgi (pc := 57) (ci := 11) (kk := 1) (by decide) (Or.inl rfl) (by decide) (by decide) q381 (htX11_add (57, .getfield 15, 3) (gx_m 33 rfl)) (fun v10 hv10 => ?_)
    refine gx_aload_n (pc := 60) (n := 1) (i := 1) rfl 1 rfl (htX11_add (60, .aload_n 1, 1) (gx_m 34 rfl)) ?_
    refine gx_Jrs (pc := 61) (t := 8) (ci := 17) (by decide) (by decide) rfl (by decide) rfl rfl (htX11_add (61, .aastore, 1) (gx_m 35 rfl)) ?_
    refine gx_aload_n (pc := 62) (n := 0) (i := 0) rfl 0 rfl (htX11_add (62, .aload_n 0, 1) (gx_m 36 rfl)) ?_
    refine gx_dup (pc := 63) rfl (htX11_add (63, .dup, 1) (gx_m 37 rfl)) ?_
    refine gx_Jgi (pc := 64) (ci := 11) (kk := 1) (by decide) (Or.inl rfl) (by decide) (by decide) q381 (htX11_add (64, .getfield 15, 3) (gx_m 38 rfl)) (fun v11 hv11 => ?_)
    refine gx_iconst (pc := 67) (v := 1) (by decide) (htX11_add (67, .iconst 1, 1) (gx_m 39 rfl)) ?_
    refine gx_iadd (pc := 68) (htX11_add (68, .iadd, 1) (gx_m 40 rfl)) ?_
    refine gx_Jpi (pc := 69) (ci := 11) (kk := 1) (by decide) (Or.inl rfl) (by decide) rfl rfl q381 (Or.inl rfl) (htX11_add (69, .putfield 15, 3) (gx_m 41 rfl)) ?_
    exact gx_Jvret (pc := 72) rfl (fun _ => trivial) (fun _ _ => rfl) (htX11_add (72, .return_, 1) (gx_m 42 rfl))
  · refine gx_icmp_ne (pc := 9) (tgt := 52) (by decide) (htX11_add (9, .if_icmp .ne 43, 3) (gx_m 5 rfl)) (fun c2 => ?_) (fun c2 => ?_)
    · refine gx_iconst (pc := 12) (v := 2) (by decide) (htX11_add (12, .iconst 2, 1) (gx_m 6 rfl)) ?_
      refine gx_aload_n (pc := 13) (n := 0) (i := 0) rfl 0 rfl (htX11_add (13, .aload_n 0, 1) (gx_m 7 rfl)) ?_
      refine gx_Jgi (pc := 14) (ci := 11) (kk := 1) (by decide) (Or.inl rfl) (by decide) (by decide) q381 (htX11_add (14, .getfield 15, 3) (gx_m 8 rfl)) (fun v4 hv4 => ?_)
      refine gx_imul (pc := 17) (htX11_add (17, .imul, 1) (gx_m 9 rfl)) ?_
      refine gx_Jnr (pc := 18) (t := 8) (ci := 17) (by decide) rfl rfl rfl q376 q377 (htX11_add (18, .anewarray 7, 3) (gx_m 10 rfl)) ?_
      refine gx_astore_n (pc := 21) (n := 2) (i := 2) (lv' := [(2, gx_r 108 (some ((2 * v4).toNatClampNeg :: 0 :: x0))), (0, gx_r 12 (some x0)), (1, gx_r 18 (some x1))]) rfl (by decide) rfl (htX11_add (21, .astore_n 2, 1) (gx_m 11 rfl)) ?_
      refine gx_iconst (pc := 22) (v := 0) (by decide) (htX11_add (22, .iconst 0, 1) (gx_m 12 rfl)) ?_
      refine gx_istore_n (pc := 23) (n := 3) (i := 3) (lv' := [(3, gx_i 0), (2, gx_r 108 (some ((2 * v4).toNatClampNeg :: 0 :: x0))), (0, gx_r 12 (some x0)), (1, gx_r 18 (some x1))]) rfl (by decide) rfl (htX11_add (23, .istore_n 3, 1) (gx_m 13 rfl)) ?_
      refine gx_Jjoin (pcJ := 47) (lvJ := fun (j_3 : Unit) => [(0, gx_r 12 (some x0)), (1, gx_r 18 (some x1)), (2, gx_r 108 (some ((2 * v4).toNatClampNeg :: 0 :: x0)))]) (stJ := fun (j_3 : Unit) => []) (fun _ => True) (fun j_3 _ => ?_) (fun kk3 hj3 => ?_)
      · refine gx_aload_n (pc := 47) (n := 0) (i := 0) rfl 0 rfl (htX11_add (47, .aload_n 0, 1) (gx_m 27 rfl)) ?_
        refine gx_aload_n (pc := 48) (n := 2) (i := 2) rfl 2 rfl (htX11_add (48, .aload_n 2, 1) (gx_m 28 rfl)) ?_
        refine gx_Jpr (pc := 49) (ci := 11) (kk := 0) (by decide) (Or.inl rfl) (by decide) rfl rfl (by decide) (fun _ h => by cases h) (Or.inr ⟨_, rfl⟩) q378 (Or.inl rfl) (htX11_add (49, .putfield 9, 3) (gx_m 29 rfl)) ?_
        refine gx_Jw (lv := [(0, gx_r 12 (some x0)), (1, gx_r 18 (some x1))]) [0, 1] rfl ?_
        exact hj1 () trivial
      · refine gx_Jw (lv := [(0, gx_r 12 (some x0)), (1, gx_r 18 (some x1)), (2, gx_r 108 (some ((2 * v4).toNatClampNeg :: 0 :: x0))), (3, gx_i 0)]) [2, 3, 1, 0] rfl ?_
        refine gx_Jlp (pc := 24) (lvh := fun (s5 : Int32) => [(0, gx_r 12 (some x0)), (1, gx_r 18 (some x1)), (2, gx_r 108 (some ((2 * v4).toNatClampNeg :: 0 :: x0))), (3, gx_i s5)]) (fun s5 kl3 ha3 hb3 => ?_) _
        unfold lb_X11_add_1
        refine gx_iload_n (pc := 24) (n := 3) (i := 3) rfl 3 rfl (htX11_add (24, .iload_n 3, 1) (gx_m 14 rfl)) ?_
        refine gx_aload_n (pc := 25) (n := 0) (i := 0) rfl 0 rfl (htX11_add (25, .aload_n 0, 1) (gx_m 15 rfl)) ?_
        refine gx_Jgi (pc := 26) (ci := 11) (kk := 1) (by decide) (Or.inl rfl) (by decide) (by decide) q381 (htX11_add (26, .getfield 15, 3) (gx_m 16 rfl)) (fun v6 hv6 => ?_)
        refine gx_icmp_ge (pc := 29) (tgt := 47) (by decide) (htX11_add (29, .if_icmp .ge 18, 3) (gx_m 17 rfl)) (fun c4 => ?_) (fun c4 => ?_)
        · refine gx_Jw (lv := [(0, gx_r 12 (some x0)), (1, gx_r 18 (some x1)), (2, gx_r 108 (some ((2 * v4).toNatClampNeg :: 0 :: x0)))]) [0, 1, 2] rfl ?_
          exact gx_Jout hb3 (hj3 () trivial)
        · refine gx_aload_n (pc := 32) (n := 2) (i := 2) rfl 2 rfl (htX11_add (32, .aload_n 2, 1) (gx_m 18 rfl)) ?_
          refine gx_iload_n (pc := 33) (n := 3) (i := 3) rfl 3 rfl (htX11_add (33, .iload_n 3, 1) (gx_m 19 rfl)) ?_
          refine gx_aload_n (pc := 34) (n := 0) (i := 0) rfl 0 rfl (htX11_add (34, .aload_n 0, 1) (gx_m 20 rfl)) ?_
          refine gx_Jgr (pc := 35) (ci := 11) (kk := 0) (t2 := 108) (by decide) (Or.inl rfl) (by decide) rfl rfl q378 (htX11_add (35, .getfield 9, 3) (gx_m 21 rfl)) (fun v7 => ?_)
          refine gx_iload_n (pc := 38) (n := 3) (i := 3) rfl 3 rfl (htX11_add (38, .iload_n 3, 1) (gx_m 22 rfl)) ?_
          refine gx_Jra (pc := 39) (t := 8) (t2 := 18) (by decide) (by decide) rfl (htX11_add (39, .aaload, 1) (gx_m 23 rfl)) (fun v8 => ?_)
          refine gx_Jrs (pc := 40) (t := 8) (ci := 17) (by decide) (by decide) rfl (by decide) rfl rfl (htX11_add (40, .aastore, 1) (gx_m 24 rfl)) ?_
          refine gx_iinc (pc := 41) (i := 3) (j := 3) (v := (s5 + 1)) (lv' := [(3, gx_i (s5 + 1)), (0, gx_r 12 (some x0)), (1, gx_r 18 (some x1)), (2, gx_r 108 (some ((2 * v4).toNatClampNeg :: 0 :: x0)))]) rfl (gx_iv (by decide)) (by decide) rfl (htX11_add (41, .iinc 3 1, 3) (gx_m 25 rfl)) ?_
          refine gx_goto (pc := 44) (tgt := 24) (by decide) (htX11_add (44, .goto (-20), 3) (gx_m 26 rfl)) ?_
          refine gx_Jw (lv := [(0, gx_r 12 (some x0)), (1, gx_r 18 (some x1)), (2, gx_r 108 (some ((2 * v4).toNatClampNeg :: 0 :: x0))), (3, gx_i (s5 + 1))]) [1, 2, 3, 0] rfl ?_
          exact ha3 ((s5 + 1) : Int32)
    · exact hj1 () trivial
theorem ct_X10_clear (Y : gx_Y) (x0 : gx_Nm) : gx_Ct Y yX10_clear (ws_ yX10_clear cX10_clear 1 none) 2 123 [gx_r 11 (some x0)] gx_Ov (f_X10_clear x0) := by
  refine gx_start (lv := [(0, gx_r 11 (some x0))]) gx_Ov_r pn_X10 (Nat.le_of_ble_eq_true rfl) rfl ?_
  unfold f_X10_clear
  refine gx_Jjoin (pcJ := 27) (lvJ := fun (j_1 : Unit) => [(0, gx_r 11 (some x0))]) (stJ := fun (j_1 : Unit) => []) (fun _ => True) (fun j_1 _ => ?_) (fun kk1 hj1 => ?_)
  · refine gx_aload_n (pc := 27) (n := 0) (i := 0) rfl 0 rfl (htX10_clear (27, .aload_n 0, 1) (gx_m 11 rfl)) ?_
    refine gx_iconst (pc := 28) (v := 0) (by decide) (htX10_clear (28, .iconst 0, 1) (gx_m 12 rfl)) ?_
    refine gx_Jpi (pc := 29) (ci := 10) (kk := 2) (by decide) (Or.inl rfl) (by decide) rfl rfl q391 (Or.inl rfl) (htX10_clear (29, .putfield 31, 3) (gx_m 13 rfl)) ?_
    exact gx_Jvret (pc := 32) rfl (fun _ => trivial) (fun _ _ => rfl) (htX10_clear (32, .return_, 1) (gx_m 14 rfl))
  · refine gx_Jlp (pc := 0) (lvh := fun (s1 : Unit) => [(0, gx_r 11 (some x0))]) (fun s1 kl1 ha1 hb1 => ?_) _
    unfold lb_X10_clear_1
    refine gx_aload_n (pc := 0) (n := 0) (i := 0) rfl 0 rfl (htX10_clear (0, .aload_n 0, 1) (gx_m 0 rfl)) ?_
    refine gx_Jgs (pc := 1) (ci := 10) (kk := 0) (t2 := 12) (by decide) (by decide) rfl rfl rfl q388 (htX10_clear (1, .getfield 10, 3) (gx_m 1 rfl)) ?_
    refine gx_Jgi (pc := 4) (ci := 11) (kk := 1) (by decide) (Or.inl rfl) (by decide) (by decide) q379 (htX10_clear (4, .getfield 19, 3) (gx_m 2 rfl)) (fun v2 hv2 => ?_)
    refine gx_if_le (pc := 7) (y := 0) (tgt := 27) (by decide) (htX10_clear (7, .ifCond .le 20, 3) (gx_m 3 rfl)) (fun c2 => ?_) (fun c2 => ?_)
    · exact gx_Jout hb1 (hj1 () trivial)
    · refine gx_aload_n (pc := 10) (n := 0) (i := 0) rfl 0 rfl (htX10_clear (10, .aload_n 0, 1) (gx_m 4 rfl)) ?_
      refine gx_Jgs (pc := 11) (ci := 10) (kk := 1) (t2 := 12) (by decide) (by decide) rfl rfl rfl q390 (htX10_clear (11, .getfield 16, 3) (gx_m 5 rfl)) ?_
      refine gx_aload_n (pc := 14) (n := 0) (i := 0) rfl 0 rfl (htX10_clear (14, .aload_n 0, 1) (gx_m 6 rfl)) ?_
      refine gx_Jgs (pc := 15) (ci := 10) (kk := 0) (t2 := 12) (by decide) (by decide) rfl rfl rfl q388 (htX10_clear (15, .getfield 10, 3) (gx_m 7 rfl)) ?_
      refine gx_Jcr (pc := 18) (t2 := 18) (gx_hst (as := []) (b := gx_r 12 (some (0 :: x0)))) (gx_runV (as := []) (ci := 11) (ct_X11_pop Y (0 :: x0)) (by decide) (Or.inl rfl) rfl rfl rfl rfl q679 q680 q681 q111 q682 rfl dd_X11_pop (by decide) (by decide) (Nat.le_of_ble_eq_true rfl) (htX10_clear (18, .invokevirtual 23, 3) (gx_m 8 rfl))) (fun v3 => ?_)
      refine gx_Jcv (pc := 21) (gx_hst (as := [gx_r 18 (some v3)]) (b := gx_r 12 (some (1 :: x0)))) (gx_runV (as := [gx_r 18 (some v3)]) (ci := 11) (ct_X11_add Y (1 :: x0) v3) (by decide) (Or.inl rfl) rfl rfl rfl rfl q683 q684 q685 q111 q686 rfl dd_X11_add (by decide) (by decide) (Nat.le_of_ble_eq_true rfl) (htX10_clear (21, .invokevirtual 27, 3) (gx_m 9 rfl))) ?_
      refine gx_goto (pc := 24) (tgt := 0) (by decide) (htX10_clear (24, .goto (-24), 3) (gx_m 10 rfl)) ?_
      exact ha1 ()
theorem ct_X7_zero (Y : gx_Y) (x0 : gx_Nm) (x1 : Int32) : gx_Ct Y yX7_zero (ws_ yX7_zero cX7_zero 2 none) 1 100 [gx_r 8 (some x0), gx_i x1] gx_Ov (f_X7_zero x0 x1) := by
  refine gx_start (lv := [(0, gx_r 8 (some x0)), (1, gx_i x1)]) gx_Ov_r pn_X7 (Nat.le_of_ble_eq_true rfl) rfl ?_
  unfold f_X7_zero
  refine gx_aload_n (pc := 0) (n := 0) (i := 0) rfl 0 rfl (htX7_zero (0, .aload_n 0, 1) (gx_m 0 rfl)) ?_
  refine gx_iload_n (pc := 1) (n := 1) (i := 1) rfl 1 rfl (htX7_zero (1, .iload_n 1, 1) (gx_m 1 rfl)) ?_
  refine gx_Jpi (pc := 2) (ci := 7) (kk := 18) (by decide) (Or.inl rfl) (by decide) rfl rfl q324 (Or.inl rfl) (htX7_zero (2, .putfield 215, 3) (gx_m 2 rfl)) ?_
  exact gx_Jvret (pc := 5) rfl (fun _ => trivial) (fun _ _ => rfl) (htX7_zero (5, .return_, 1) (gx_m 3 rfl))
theorem ct_X4_add (Y : gx_Y) (x0 : gx_Nm) (x1 : Int32) : gx_Ct Y yX4_add (ws_ yX4_add cX4_add 3 none) 1 100 [gx_r 5 (some x0), gx_i x1] gx_Ov (f_X4_add x0 x1) := by
  refine gx_start (lv := [(0, gx_r 5 (some x0)), (1, gx_i x1)]) gx_Ov_r pn_X4 (Nat.le_of_ble_eq_true rfl) rfl ?_
  unfold f_X4_add
  refine gx_aload_n (pc := 0) (n := 0) (i := 0) rfl 0 rfl (htX4_add (0, .aload_n 0, 1) (gx_m 0 rfl)) ?_
  refine gx_Jgi (pc := 1) (ci := 4) (kk := 1) (by decide) (Or.inl rfl) (by decide) (by decide) q158 (htX4_add (1, .getfield 13, 3) (gx_m 1 rfl)) (fun v1 hv1 => ?_)
  refine gx_aload_n (pc := 4) (n := 0) (i := 0) rfl 0 rfl (htX4_add (4, .aload_n 0, 1) (gx_m 2 rfl)) ?_
  refine gx_Jgr (pc := 5) (ci := 4) (kk := 0) (t2 := 101) (by decide) (Or.inl rfl) (by decide) rfl rfl q156 (htX4_add (5, .getfield 7, 3) (gx_m 3 rfl)) (fun v2 => ?_)
  refine gx_Jal (pc := 8) (t := 1) (by decide) (htX4_add (8, .arraylength, 1) (gx_m 4 rfl)) (fun v3 => ?_)
  refine gx_Jjoin (pcJ := 40) (lvJ := fun (j_1 : Unit) => [(0, gx_r 5 (some x0)), (1, gx_i x1)]) (stJ := fun (j_1 : Unit) => []) (fun _ => True) (fun j_1 hj_1 => ?_) (fun kk1 hj1 => ?_)
  · refine gx_aload_n (pc := 40) (n := 0) (i := 0) rfl 0 rfl (htX4_add (40, .aload_n 0, 1) (gx_m 23 rfl)) ?_
    refine gx_Jgr (pc := 41) (ci := 4) (kk := 0) (t2 := 101) (by decide) (Or.inl rfl) (by decide) rfl rfl q156 (htX4_add (41, .getfield 7, 3) (gx_m 24 rfl)) (fun v7 => ?_)
    refine gx_aload_n (pc := 44) (n := 0) (i := 0) rfl 0 rfl (htX4_add (44, .aload_n 0, 1) (gx_m 25 rfl)) ?_
    refine gx_Jgi (pc := 45) (ci := 4) (kk := 1) (by decide) (Or.inl rfl) (by decide) (by decide) q158 (htX4_add (45, .getfield 13, 3) (gx_m 26 rfl)) (fun v8 hv8 => ?_)
    refine gx_iload_n (pc := 48) (n := 1) (i := 1) rfl 1 rfl (htX4_add (48, .iload_n 1, 1) (gx_m 27 rfl)) ?_
    refine gx_i2b (pc := 49) (htX4_add (49, .i2b, 1) (gx_m 28 rfl)) ?_
    refine gx_Jbs (pc := 50) (htX4_add (50, .bastore, 1) (gx_m 29 rfl)) ?_
    refine gx_aload_n (pc := 51) (n := 0) (i := 0) rfl 0 rfl (htX4_add (51, .aload_n 0, 1) (gx_m 30 rfl)) ?_
    refine gx_dup (pc := 52) rfl (htX4_add (52, .dup, 1) (gx_m 31 rfl)) ?_
    refine gx_Jgi (pc := 53) (ci := 4) (kk := 1) (by decide) (Or.inl rfl) (by decide) (by decide) q158 (htX4_add (53, .getfield 13, 3) (gx_m 32 rfl)) (fun v9 hv9 => ?_)
    refine gx_iconst (pc := 56) (v := 1) (by decide) (htX4_add (56, .iconst 1, 1) (gx_m 33 rfl)) ?_
    refine gx_iadd (pc := 57) (htX4_add (57, .iadd, 1) (gx_m 34 rfl)) ?_
    refine gx_Jpi (pc := 58) (ci := 4) (kk := 1) (by decide) (Or.inl rfl) (by decide) rfl rfl q158 (Or.inl rfl) (htX4_add (58, .putfield 13, 3) (gx_m 35 rfl)) ?_
    exact gx_Jvret (pc := 61) rfl (fun _ => trivial) (fun _ _ => rfl) (htX4_add (61, .return_, 1) (gx_m 36 rfl))
  · refine gx_icmp_ne (pc := 9) (tgt := 40) (by decide) (htX4_add (9, .if_icmp .ne 31, 3) (gx_m 5 rfl)) (fun c2 => ?_) (fun c2 => ?_)
    · refine gx_iconst (pc := 12) (v := 2) (by decide) (htX4_add (12, .iconst 2, 1) (gx_m 6 rfl)) ?_
      refine gx_aload_n (pc := 13) (n := 0) (i := 0) rfl 0 rfl (htX4_add (13, .aload_n 0, 1) (gx_m 7 rfl)) ?_
      refine gx_Jgi (pc := 14) (ci := 4) (kk := 1) (by decide) (Or.inl rfl) (by decide) (by decide) q158 (htX4_add (14, .getfield 13, 3) (gx_m 8 rfl)) (fun v4 hv4 => ?_)
      refine gx_imul (pc := 17) (htX4_add (17, .imul, 1) (gx_m 9 rfl)) ?_
      refine gx_Jna (pc := 18) (t := 1) (by decide) rfl rfl q168 (htX4_add (18, .newarray .byte, 2) (gx_m 10 rfl)) ?_
      refine gx_astore_n (pc := 20) (n := 2) (i := 2) (lv' := [(2, gx_r 101 (some ((2 * v4).toNatClampNeg :: 0 :: x0))), (0, gx_r 5 (some x0)), (1, gx_i x1)]) rfl (by decide) rfl (htX4_add (20, .astore_n 2, 1) (gx_m 11 rfl)) ?_
      refine gx_aload_n (pc := 21) (n := 0) (i := 0) rfl 1 rfl (htX4_add (21, .aload_n 0, 1) (gx_m 12 rfl)) ?_
      refine gx_Jgr (pc := 22) (ci := 4) (kk := 0) (t2 := 101) (by decide) (Or.inl rfl) (by decide) rfl rfl q156 (htX4_add (22, .getfield 7, 3) (gx_m 13 rfl)) (fun v5 => ?_)
      refine gx_iconst (pc := 25) (v := 0) (by decide) (htX4_add (25, .iconst 0, 1) (gx_m 14 rfl)) ?_
      refine gx_aload_n (pc := 26) (n := 2) (i := 2) rfl 0 rfl (htX4_add (26, .aload_n 2, 1) (gx_m 15 rfl)) ?_
      refine gx_iconst (pc := 27) (v := 0) (by decide) (htX4_add (27, .iconst 0, 1) (gx_m 16 rfl)) ?_
      refine gx_aload_n (pc := 28) (n := 0) (i := 0) rfl 1 rfl (htX4_add (28, .aload_n 0, 1) (gx_m 17 rfl)) ?_
      refine gx_Jgi (pc := 29) (ci := 4) (kk := 1) (by decide) (Or.inl rfl) (by decide) (by decide) q158 (htX4_add (29, .getfield 13, 3) (gx_m 18 rfl)) (fun v6 hv6 => ?_)
      refine gx_Jac (pc := 32) (t := 1) (by decide) rfl q696 q647 q646 q116 (by decide) (Nat.le_of_ble_eq_true rfl) (htX4_add (32, .invokestatic 17, 3) (gx_m 19 rfl)) ?_
      refine gx_aload_n (pc := 35) (n := 0) (i := 0) rfl 1 rfl (htX4_add (35, .aload_n 0, 1) (gx_m 20 rfl)) ?_
      refine gx_aload_n (pc := 36) (n := 2) (i := 2) rfl 0 rfl (htX4_add (36, .aload_n 2, 1) (gx_m 21 rfl)) ?_
      refine gx_Jpr (pc := 37) (ci := 4) (kk := 0) (by decide) (Or.inl rfl) (by decide) rfl rfl (by decide) (fun _ h => by cases h) (Or.inr ⟨_, rfl⟩) q156 (Or.inl rfl) (htX4_add (37, .putfield 7, 3) (gx_m 22 rfl)) ?_
      refine gx_Jw (lv := [(0, gx_r 5 (some x0)), (1, gx_i x1)]) [1, 2] rfl ?_
      exact hj1 () trivial
    · exact hj1 () trivial
theorem ct_X2_clear (Y : gx_Y) (x0 : gx_Nm) (x1 : Int32) : gx_Ct Y yX2_clear (ws_ yX2_clear cX2_clear 2 none) 4 171 [gx_r 3 (some x0), gx_i x1] gx_Ov (f_X2_clear x0 x1) := by
  refine gx_start (lv := [(0, gx_r 3 (some x0)), (1, gx_i x1)]) gx_Ov_r pn_X2 (Nat.le_of_ble_eq_true rfl) rfl ?_
  unfold f_X2_clear
  refine gx_aload_n (pc := 0) (n := 0) (i := 0) rfl 0 rfl (htX2_clear (0, .aload_n 0, 1) (gx_m 0 rfl)) ?_
  refine gx_iload_n (pc := 1) (n := 1) (i := 1) rfl 1 rfl (htX2_clear (1, .iload_n 1, 1) (gx_m 1 rfl)) ?_
  refine gx_Jpi (pc := 2) (ci := 2) (kk := 4) (by decide) (Or.inl rfl) (by decide) rfl rfl q412 (Or.inl rfl) (htX2_clear (2, .putfield 51, 3) (gx_m 2 rfl)) ?_
  refine gx_aload_n (pc := 5) (n := 0) (i := 0) rfl 0 rfl (htX2_clear (5, .aload_n 0, 1) (gx_m 3 rfl)) ?_
  refine gx_iconst (pc := 6) (v := 0) (by decide) (htX2_clear (6, .iconst 0, 1) (gx_m 4 rfl)) ?_
  refine gx_Jpi (pc := 7) (ci := 2) (kk := 5) (by decide) (Or.inl rfl) (by decide) rfl rfl q415 (Or.inl rfl) (htX2_clear (7, .putfield 55, 3) (gx_m 5 rfl)) ?_
  refine gx_aload_n (pc := 10) (n := 0) (i := 0) rfl 0 rfl (htX2_clear (10, .aload_n 0, 1) (gx_m 6 rfl)) ?_
  refine gx_iconst (pc := 11) (v := 0) (by decide) (htX2_clear (11, .iconst 0, 1) (gx_m 7 rfl)) ?_
  refine gx_Jpi (pc := 12) (ci := 2) (kk := 6) (by decide) (Or.inl rfl) (by decide) rfl rfl q418 (Or.inl rfl) (htX2_clear (12, .putfield 58, 3) (gx_m 8 rfl)) ?_
  refine gx_aload_n (pc := 15) (n := 0) (i := 0) rfl 0 rfl (htX2_clear (15, .aload_n 0, 1) (gx_m 9 rfl)) ?_
  refine gx_Jgs (pc := 16) (ci := 2) (kk := 0) (t2 := 4) (by decide) (by decide) rfl rfl rfl q401 (htX2_clear (16, .getfield 10, 3) (gx_m 10 rfl)) ?_
  refine gx_Jcv (pc := 19) (gx_hst (as := []) (b := gx_r 4 (some (0 :: x0)))) (gx_runV (as := []) (ci := 3) (ct_X3_clear Y (0 :: x0)) (by decide) (Or.inl rfl) rfl rfl rfl rfl q629 q630 q631 q103 q632 rfl dd_X3_clear (by decide) (by decide) (Nat.le_of_ble_eq_true rfl) (htX2_clear (19, .invokevirtual 61, 3) (gx_m 11 rfl))) ?_
  refine gx_aload_n (pc := 22) (n := 0) (i := 0) rfl 0 rfl (htX2_clear (22, .aload_n 0, 1) (gx_m 12 rfl)) ?_
  refine gx_Jgs (pc := 23) (ci := 2) (kk := 1) (t2 := 7) (by decide) (by decide) rfl rfl rfl q404 (htX2_clear (23, .getfield 19, 3) (gx_m 13 rfl)) ?_
  refine gx_Jcv (pc := 26) (gx_hst (as := []) (b := gx_r 7 (some (1 :: x0)))) (gx_runV (as := []) (ci := 6) (ct_X6_clear Y (1 :: x0)) (by decide) (Or.inl rfl) rfl rfl rfl rfl q648 q649 q650 q106 q651 rfl dd_X6_clear (by decide) (by decide) (Nat.le_of_ble_eq_true rfl) (htX2_clear (26, .invokevirtual 64, 3) (gx_m 14 rfl))) ?_
  refine gx_aload_n (pc := 29) (n := 0) (i := 0) rfl 0 rfl (htX2_clear (29, .aload_n 0, 1) (gx_m 15 rfl)) ?_
  refine gx_Jgs (pc := 30) (ci := 2) (kk := 2) (t2 := 8) (by decide) (by decide) rfl rfl rfl q406 (htX2_clear (30, .getfield 28, 3) (gx_m 16 rfl)) ?_
  refine gx_Jcv (pc := 33) (gx_hst (as := []) (b := gx_r 8 (some (2 :: x0)))) (gx_runV (as := []) (ci := 7) (ct_X7_clear Y (2 :: x0)) (by decide) (Or.inl rfl) rfl rfl rfl rfl q653 q654 q655 q107 q656 rfl dd_X7_clear (by decide) (by decide) (Nat.le_of_ble_eq_true rfl) (htX2_clear (33, .invokevirtual 65, 3) (gx_m 17 rfl))) ?_
  refine gx_aload_n (pc := 36) (n := 0) (i := 0) rfl 0 rfl (htX2_clear (36, .aload_n 0, 1) (gx_m 18 rfl)) ?_
  refine gx_Jgs (pc := 37) (ci := 2) (kk := 3) (t2 := 11) (by decide) (by decide) rfl rfl rfl q409 (htX2_clear (37, .getfield 35, 3) (gx_m 19 rfl)) ?_
  refine gx_Jcv (pc := 40) (gx_hst (as := []) (b := gx_r 11 (some (3 :: x0)))) (gx_runV (as := []) (ci := 10) (ct_X10_clear Y (3 :: x0)) (by decide) (Or.inl rfl) rfl rfl rfl rfl q675 q676 q677 q110 q678 rfl dd_X10_clear (by decide) (by decide) (Nat.le_of_ble_eq_true rfl) (htX2_clear (40, .invokevirtual 66, 3) (gx_m 20 rfl))) ?_
  refine gx_aload_n (pc := 43) (n := 0) (i := 0) rfl 0 rfl (htX2_clear (43, .aload_n 0, 1) (gx_m 21 rfl)) ?_
  refine gx_Jgs (pc := 44) (ci := 2) (kk := 7) (t2 := 6) (by decide) (by decide) rfl rfl rfl q420 (htX2_clear (44, .getfield 44, 3) (gx_m 22 rfl)) ?_
  refine gx_Jcv (pc := 47) (gx_hst (as := []) (b := gx_r 6 (some (7 :: x0)))) (gx_runV (as := []) (ci := 5) (ct_X5_clear Y (7 :: x0)) (by decide) (Or.inl rfl) rfl rfl rfl rfl q687 q638 q639 q105 q640 rfl dd_X5_clear (by decide) (by decide) (Nat.le_of_ble_eq_true rfl) (htX2_clear (47, .invokevirtual 67, 3) (gx_m 23 rfl))) ?_
  refine gx_aload_n (pc := 50) (n := 0) (i := 0) rfl 0 rfl (htX2_clear (50, .aload_n 0, 1) (gx_m 24 rfl)) ?_
  refine gx_Jgs (pc := 51) (ci := 2) (kk := 8) (t2 := 6) (by decide) (by decide) rfl rfl rfl q421 (htX2_clear (51, .getfield 48, 3) (gx_m 25 rfl)) ?_
  refine gx_Jcv (pc := 54) (gx_hst (as := []) (b := gx_r 6 (some (8 :: x0)))) (gx_runV (as := []) (ci := 5) (ct_X5_clear Y (8 :: x0)) (by decide) (Or.inl rfl) rfl rfl rfl rfl q687 q638 q639 q105 q640 rfl dd_X5_clear (by decide) (by decide) (Nat.le_of_ble_eq_true rfl) (htX2_clear (54, .invokevirtual 67, 3) (gx_m 26 rfl))) ?_
  refine gx_aload_n (pc := 57) (n := 0) (i := 0) rfl 0 rfl (htX2_clear (57, .aload_n 0, 1) (gx_m 27 rfl)) ?_
  refine gx_Jgs (pc := 58) (ci := 2) (kk := 2) (t2 := 8) (by decide) (by decide) rfl rfl rfl q406 (htX2_clear (58, .getfield 28, 3) (gx_m 28 rfl)) ?_
  refine gx_aload_n (pc := 61) (n := 0) (i := 0) rfl 0 rfl (htX2_clear (61, .aload_n 0, 1) (gx_m 29 rfl)) ?_
  refine gx_Jgs (pc := 62) (ci := 2) (kk := 0) (t2 := 4) (by decide) (by decide) rfl rfl rfl q401 (htX2_clear (62, .getfield 10, 3) (gx_m 30 rfl)) ?_
  refine gx_Jgs (pc := 65) (ci := 3) (kk := 0) (t2 := 5) (by decide) (by decide) rfl rfl rfl q191 (htX2_clear (65, .getfield 68, 3) (gx_m 31 rfl)) ?_
  refine gx_Jgi (pc := 68) (ci := 4) (kk := 1) (by decide) (Or.inl rfl) (by decide) (by decide) q159 (htX2_clear (68, .getfield 72, 3) (gx_m 32 rfl)) (fun v1 hv1 => ?_)
  refine gx_Jcv (pc := 71) (gx_hst (as := [gx_i v1]) (b := gx_r 8 (some (2 :: x0)))) (gx_runV (as := [gx_i v1]) (ci := 7) (ct_X7_zero Y (2 :: x0) v1) (by decide) (Or.inl rfl) rfl rfl rfl rfl q688 q689 q690 q107 q691 rfl dd_X7_zero (by decide) (by decide) (Nat.le_of_ble_eq_true rfl) (htX2_clear (71, .invokevirtual 77, 3) (gx_m 33 rfl))) ?_
  refine gx_aload_n (pc := 74) (n := 0) (i := 0) rfl 0 rfl (htX2_clear (74, .aload_n 0, 1) (gx_m 34 rfl)) ?_
  refine gx_Jgs (pc := 75) (ci := 2) (kk := 0) (t2 := 4) (by decide) (by decide) rfl rfl rfl q401 (htX2_clear (75, .getfield 10, 3) (gx_m 35 rfl)) ?_
  refine gx_Jgs (pc := 78) (ci := 3) (kk := 0) (t2 := 5) (by decide) (by decide) rfl rfl rfl q191 (htX2_clear (78, .getfield 68, 3) (gx_m 36 rfl)) ?_
  refine gx_iconst (pc := 81) (v := 0) (by decide) (htX2_clear (81, .iconst 0, 1) (gx_m 37 rfl)) ?_
  refine gx_Jcv (pc := 82) (gx_hst (as := [gx_i 0]) (b := gx_r 5 (some (0 :: 0 :: x0)))) (gx_runV (as := [gx_i 0]) (ci := 4) (ct_X4_add Y (0 :: 0 :: x0) 0) (by decide) (Or.inl rfl) rfl rfl rfl rfl q692 q693 q694 q104 q695 rfl dd_X4_add (by decide) (by decide) (Nat.le_of_ble_eq_true rfl) (htX2_clear (82, .invokevirtual 80, 3) (gx_m 38 rfl))) ?_
  exact gx_Jvret (pc := 85) rfl (fun _ => trivial) (fun _ _ => rfl) (htX2_clear (85, .return_, 1) (gx_m 39 rfl))
theorem ct_X1_init (Y : gx_Y) (x0 : gx_Nm) : gx_Ct Y yX1_init (ws_ yX1_init cX1_init 2 none) 5 192 [gx_r 31 (some x0)] gx_Ov (f_X1_init x0) := by
  refine gx_start (lv := [(0, gx_r 31 (some x0))]) gx_Ov_r pn_X1 (Nat.le_of_ble_eq_true rfl) rfl ?_
  unfold f_X1_init
  refine gx_aload_n (pc := 0) (n := 0) (i := 0) rfl 0 rfl (htX1_init (0, .aload_n 0, 1) (gx_m 0 rfl)) ?_
  refine gx_Jobj (pc := 1) rfl q135 q136 q137 (by decide) (Nat.le_of_ble_eq_true rfl) (htX1_init (1, .invokespecial 16, 3) (gx_m 1 rfl)) ?_
  refine gx_aload_n (pc := 4) (n := 0) (i := 0) rfl 0 rfl (htX1_init (4, .aload_n 0, 1) (gx_m 2 rfl)) ?_
  refine gx_Jnw (pc := 5) (ci := 2) (by decide) rfl rfl rfl q138 q139 q102 (htX1_init (5, .new 19, 3) (gx_m 3 rfl)) ?_
  refine gx_dup (pc := 8) rfl (htX1_init (8, .dup, 1) (gx_m 4 rfl)) ?_
  refine gx_Jcv (pc := 9) (gx_hst (as := []) (b := gx_r 32 (some (0 :: x0)))) (gx_runIN (as := []) (ct_X2_init Y (0 :: x0)) rfl rfl rfl rfl q140 q141 q102 q142 rfl dd_X2_init (by decide) (by decide) (Nat.le_of_ble_eq_true rfl) (htX1_init (9, .invokespecial 21, 3) (gx_m 5 rfl))) ?_
  refine gx_Jfu (ci := 2) (by decide) rfl rfl sn_2 ?_
  refine gx_Jpr (pc := 12) (ci := 1) (kk := 0) (by decide) (Or.inr rfl) (by decide) rfl rfl (by decide) (fun _ h => (Option.some.inj h).symm) (Or.inl ⟨_, rfl⟩) q697 (Or.inr ⟨rfl, rfl, rfl⟩) (htX1_init (12, .putfield 22, 3) (gx_m 6 rfl)) ?_
  refine gx_aload_n (pc := 15) (n := 0) (i := 0) rfl 0 rfl (htX1_init (15, .aload_n 0, 1) (gx_m 7 rfl)) ?_
  refine gx_bipush (pc := 16) (v := 7) (by decide) (htX1_init (16, .bipush 7, 2) (gx_m 8 rfl)) ?_
  refine gx_Jnr (pc := 18) (t := 4) (ci := 13) (by decide) rfl rfl rfl q441 q442 (htX1_init (18, .anewarray 28, 3) (gx_m 9 rfl)) ?_
  refine gx_Jpr (pc := 21) (ci := 1) (kk := 1) (by decide) (Or.inr rfl) (by decide) rfl rfl (by decide) (fun _ h => (Option.some.inj h).symm) (Or.inr ⟨_, rfl⟩) q698 (Or.inr ⟨rfl, rfl, rfl⟩) (htX1_init (21, .putfield 30, 3) (gx_m 10 rfl)) ?_
  refine gx_aload_n (pc := 24) (n := 0) (i := 0) rfl 0 rfl (htX1_init (24, .aload_n 0, 1) (gx_m 11 rfl)) ?_
  refine gx_Jnw (pc := 25) (ci := 12) (by decide) rfl rfl rfl q443 q444 q112 (htX1_init (25, .new 34, 3) (gx_m 12 rfl)) ?_
  refine gx_dup (pc := 28) rfl (htX1_init (28, .dup, 1) (gx_m 13 rfl)) ?_
  refine gx_Jcv (pc := 29) (gx_hst (as := []) (b := gx_r 42 (some (2 :: x0)))) (gx_runIN (as := []) (ct_X12_init Y (2 :: x0)) rfl rfl rfl rfl q445 q446 q112 q447 rfl dd_X12_init (by decide) (by decide) (Nat.le_of_ble_eq_true rfl) (htX1_init (29, .invokespecial 36, 3) (gx_m 14 rfl))) ?_
  refine gx_Jfu (ci := 12) (by decide) rfl rfl sn_12 ?_
  refine gx_Jpr (pc := 32) (ci := 1) (kk := 2) (by decide) (Or.inr rfl) (by decide) rfl rfl (by decide) (fun _ h => (Option.some.inj h).symm) (Or.inl ⟨_, rfl⟩) q699 (Or.inr ⟨rfl, rfl, rfl⟩) (htX1_init (32, .putfield 37, 3) (gx_m 15 rfl)) ?_
  refine gx_aload_n (pc := 35) (n := 0) (i := 0) rfl 0 rfl (htX1_init (35, .aload_n 0, 1) (gx_m 16 rfl)) ?_
  refine gx_Jnw (pc := 36) (ci := 4) (by decide) rfl rfl rfl q474 q151 q104 (htX1_init (36, .new 41, 3) (gx_m 17 rfl)) ?_
  refine gx_dup (pc := 39) rfl (htX1_init (39, .dup, 1) (gx_m 18 rfl)) ?_
  refine gx_bipush (pc := 40) (v := 64) (by decide) (htX1_init (40, .bipush 64, 2) (gx_m 19 rfl)) ?_
  refine gx_Jcv (pc := 42) (gx_hst (as := [gx_i 64]) (b := gx_r 34 (some (3 :: x0)))) (gx_runI (as := [gx_i 64]) (ct_X4_init Y (3 :: x0) 64) rfl rfl rfl rfl q475 q153 q104 q154 rfl dd_X4_init (by decide) (by decide) (Nat.le_of_ble_eq_true rfl) (htX1_init (42, .invokespecial 43, 3) (gx_m 20 rfl))) ?_
  refine gx_Jfu (ci := 4) (by decide) rfl rfl sn_4 ?_
  refine gx_Jpr (pc := 45) (ci := 1) (kk := 3) (by decide) (Or.inr rfl) (by decide) rfl rfl (by decide) (fun _ h => (Option.some.inj h).symm) (Or.inl ⟨_, rfl⟩) q700 (Or.inr ⟨rfl, rfl, rfl⟩) (htX1_init (45, .putfield 46, 3) (gx_m 21 rfl)) ?_
  refine gx_aload_n (pc := 48) (n := 0) (i := 0) rfl 0 rfl (htX1_init (48, .aload_n 0, 1) (gx_m 22 rfl)) ?_
  refine gx_Jnw (pc := 49) (ci := 4) (by decide) rfl rfl rfl q474 q151 q104 (htX1_init (49, .new 41, 3) (gx_m 23 rfl)) ?_
  refine gx_dup (pc := 52) rfl (htX1_init (52, .dup, 1) (gx_m 24 rfl)) ?_
  refine gx_bipush (pc := 53) (v := 64) (by decide) (htX1_init (53, .bipush 64, 2) (gx_m 25 rfl)) ?_
  refine gx_Jcv (pc := 55) (gx_hst (as := [gx_i 64]) (b := gx_r 34 (some (4 :: x0)))) (gx_runI (as := [gx_i 64]) (ct_X4_init Y (4 :: x0) 64) rfl rfl rfl rfl q475 q153 q104 q154 rfl dd_X4_init (by decide) (by decide) (Nat.le_of_ble_eq_true rfl) (htX1_init (55, .invokespecial 43, 3) (gx_m 26 rfl))) ?_
  refine gx_Jfu (ci := 4) (by decide) rfl rfl sn_4 ?_
  refine gx_Jpr (pc := 58) (ci := 1) (kk := 4) (by decide) (Or.inr rfl) (by decide) rfl rfl (by decide) (fun _ h => by cases h) (Or.inl ⟨_, rfl⟩) q701 (Or.inl rfl) (htX1_init (58, .putfield 50, 3) (gx_m 27 rfl)) ?_
  refine gx_aload_n (pc := 61) (n := 0) (i := 0) rfl 0 rfl (htX1_init (61, .aload_n 0, 1) (gx_m 28 rfl)) ?_
  refine gx_Jnw (pc := 62) (ci := 4) (by decide) rfl rfl rfl q474 q151 q104 (htX1_init (62, .new 41, 3) (gx_m 29 rfl)) ?_
  refine gx_dup (pc := 65) rfl (htX1_init (65, .dup, 1) (gx_m 30 rfl)) ?_
  refine gx_bipush (pc := 66) (v := 64) (by decide) (htX1_init (66, .bipush 64, 2) (gx_m 31 rfl)) ?_
  refine gx_Jcv (pc := 68) (gx_hst (as := [gx_i 64]) (b := gx_r 34 (some (5 :: x0)))) (gx_runI (as := [gx_i 64]) (ct_X4_init Y (5 :: x0) 64) rfl rfl rfl rfl q475 q153 q104 q154 rfl dd_X4_init (by decide) (by decide) (Nat.le_of_ble_eq_true rfl) (htX1_init (68, .invokespecial 43, 3) (gx_m 32 rfl))) ?_
  refine gx_Jfu (ci := 4) (by decide) rfl rfl sn_4 ?_
  refine gx_Jpr (pc := 71) (ci := 1) (kk := 5) (by decide) (Or.inr rfl) (by decide) rfl rfl (by decide) (fun _ h => by cases h) (Or.inl ⟨_, rfl⟩) q702 (Or.inl rfl) (htX1_init (71, .putfield 53, 3) (gx_m 33 rfl)) ?_
  refine gx_aload_n (pc := 74) (n := 0) (i := 0) rfl 0 rfl (htX1_init (74, .aload_n 0, 1) (gx_m 34 rfl)) ?_
  refine gx_Jnw (pc := 75) (ci := 8) (by decide) rfl rfl rfl q476 q236 q108 (htX1_init (75, .new 56, 3) (gx_m 35 rfl)) ?_
  refine gx_dup (pc := 78) rfl (htX1_init (78, .dup, 1) (gx_m 36 rfl)) ?_
  refine gx_Jcv (pc := 79) (gx_hst (as := []) (b := gx_r 38 (some (7 :: x0)))) (gx_runIN (as := []) (ct_X8_init Y (7 :: x0)) rfl rfl rfl rfl q477 q238 q108 q239 rfl dd_X8_init (by decide) (by decide) (Nat.le_of_ble_eq_true rfl) (htX1_init (79, .invokespecial 58, 3) (gx_m 37 rfl))) ?_
  refine gx_Jfu (ci := 8) (by decide) rfl rfl sn_8 ?_
  refine gx_Jpr (pc := 82) (ci := 1) (kk := 7) (by decide) (Or.inr rfl) (by decide) rfl rfl (by decide) (fun _ h => (Option.some.inj h).symm) (Or.inl ⟨_, rfl⟩) q704 (Or.inr ⟨rfl, rfl, rfl⟩) (htX1_init (82, .putfield 59, 3) (gx_m 38 rfl)) ?_
  refine gx_iconst (pc := 85) (v := 0) (by decide) (htX1_init (85, .iconst 0, 1) (gx_m 39 rfl)) ?_
  refine gx_istore_n (pc := 86) (n := 1) (i := 1) (lv' := [(1, gx_i 0), (0, gx_r 31 (some x0))]) rfl (by decide) rfl (htX1_init (86, .istore_n 1, 1) (gx_m 40 rfl)) ?_
  refine gx_Jjoin (pcJ := 117) (lvJ := fun (j_1 : Unit) => [(0, gx_r 31 (some x0))]) (stJ := fun (j_1 : Unit) => []) (fun _ => True) (fun j_1 _ => ?_) (fun kk1 hj1 => ?_)
  · refine gx_aload_n (pc := 117) (n := 0) (i := 0) rfl 0 rfl (htX1_init (117, .aload_n 0, 1) (gx_m 56 rfl)) ?_
    refine gx_Jgr (pc := 118) (ci := 1) (kk := 0) (t2 := 3) (by decide) (Or.inr rfl) (by decide) rfl rfl q697 (htX1_init (118, .getfield 22, 3) (gx_m 57 rfl)) (fun v4 => ?_)
    refine gx_iconst (pc := 121) (v := 0) (by decide) (htX1_init (121, .iconst 0, 1) (gx_m 58 rfl)) ?_
    refine gx_Jcv (pc := 122) (gx_hst (as := [gx_i 0]) (b := gx_r 3 (some v4))) (gx_runV (as := [gx_i 0]) (ci := 2) (ct_X2_clear Y v4 0) (by decide) (Or.inl rfl) rfl rfl rfl rfl q625 q626 q627 q102 q628 rfl dd_X2_clear (by decide) (by decide) (Nat.le_of_ble_eq_true rfl) (htX1_init (122, .invokevirtual 66, 3) (gx_m 59 rfl))) ?_
    exact gx_Jvret (pc := 125) rfl (fun _ => trivial) (fun _ _ => rfl) (htX1_init (125, .return_, 1) (gx_m 60 rfl))
  · refine gx_Jw (lv := [(0, gx_r 31 (some x0)), (1, gx_i 0)]) [1, 0] rfl ?_
    refine gx_Jlp (pc := 87) (lvh := fun (s1 : Int32) => [(0, gx_r 31 (some x0)), (1, gx_i s1)]) (fun s1 kl1 ha1 hb1 => ?_) _
    unfold lb_X1_init_1
    refine gx_iload_n (pc := 87) (n := 1) (i := 1) rfl 1 rfl (htX1_init (87, .iload_n 1, 1) (gx_m 41 rfl)) ?_
    refine gx_bipush (pc := 88) (v := 7) (by decide) (htX1_init (88, .bipush 7, 2) (gx_m 42 rfl)) ?_
    refine gx_icmp_ge (pc := 90) (tgt := 117) (by decide) (htX1_init (90, .if_icmp .ge 27, 3) (gx_m 43 rfl)) (fun c2 => ?_) (fun c2 => ?_)
    · refine gx_Jw (lv := [(0, gx_r 31 (some x0))]) [0] rfl ?_
      exact gx_Jout hb1 (hj1 () trivial)
    · refine gx_aload_n (pc := 93) (n := 0) (i := 0) rfl 0 rfl (htX1_init (93, .aload_n 0, 1) (gx_m 44 rfl)) ?_
      refine gx_Jgr (pc := 94) (ci := 1) (kk := 1) (t2 := 104) (by decide) (Or.inr rfl) (by decide) rfl rfl q698 (htX1_init (94, .getfield 30, 3) (gx_m 45 rfl)) (fun v2 => ?_)
      refine gx_iload_n (pc := 97) (n := 1) (i := 1) rfl 1 rfl (htX1_init (97, .iload_n 1, 1) (gx_m 46 rfl)) ?_
      refine gx_Jnw (pc := 98) (ci := 13) (by decide) rfl rfl rfl q441 q478 q113 (htX1_init (98, .new 28, 3) (gx_m 47 rfl)) ?_
      refine gx_dup (pc := 101) rfl (htX1_init (101, .dup, 1) (gx_m 48 rfl)) ?_
      refine gx_aload_n (pc := 102) (n := 0) (i := 0) rfl 0 rfl (htX1_init (102, .aload_n 0, 1) (gx_m 49 rfl)) ?_
      refine gx_Jgr (pc := 103) (ci := 1) (kk := 0) (t2 := 3) (by decide) (Or.inr rfl) (by decide) rfl rfl q697 (htX1_init (103, .getfield 22, 3) (gx_m 50 rfl)) (fun v3 => ?_)
      refine gx_iload_n (pc := 106) (n := 1) (i := 1) rfl 1 rfl (htX1_init (106, .iload_n 1, 1) (gx_m 51 rfl)) ?_
      refine gx_Jcv (pc := 107) (gx_hst (as := [gx_r 3 (some v3), gx_i s1]) (b := gx_r 43 (some (s1.toNatClampNeg :: 1 :: x0)))) (gx_runI (as := [gx_r 3 (some v3), gx_i s1]) (ct_X13_init Y (s1.toNatClampNeg :: 1 :: x0) v3 s1) rfl rfl rfl rfl q479 q480 q113 q481 rfl dd_X13_init (by decide) (by decide) (Nat.le_of_ble_eq_true rfl) (htX1_init (107, .invokespecial 63, 3) (gx_m 52 rfl))) ?_
      refine gx_Jfu (ci := 13) (by decide) rfl rfl sn_13 ?_
      refine gx_Jrs (pc := 110) (t := 4) (ci := 13) (by decide) (by decide) rfl (by decide) rfl rfl (htX1_init (110, .aastore, 1) (gx_m 53 rfl)) ?_
      refine gx_iinc (pc := 111) (i := 1) (j := 1) (v := (s1 + 1)) (lv' := [(1, gx_i (s1 + 1)), (0, gx_r 31 (some x0))]) rfl (gx_iv (by decide)) (by decide) rfl (htX1_init (111, .iinc 1 1, 3) (gx_m 54 rfl)) ?_
      refine gx_goto (pc := 114) (tgt := 87) (by decide) (htX1_init (114, .goto (-27), 3) (gx_m 55 rfl)) ?_
      refine gx_Jw (lv := [(0, gx_r 31 (some x0)), (1, gx_i (s1 + 1))]) [1, 0] rfl ?_
      exact ha1 ((s1 + 1) : Int32)
theorem ct_X12_clear (Y : gx_Y) (x0 : gx_Nm) : gx_Ct Y yX12_clear (ws_ yX12_clear cX12_clear 1 none) 2 120 [gx_r 13 (some x0)] gx_Ov (f_X12_clear x0) := by
  refine gx_start (lv := [(0, gx_r 13 (some x0))]) gx_Ov_r pn_X12 (Nat.le_of_ble_eq_true rfl) rfl ?_
  unfold f_X12_clear
  refine gx_aload_n (pc := 0) (n := 0) (i := 0) rfl 0 rfl (htX12_clear (0, .aload_n 0, 1) (gx_m 0 rfl)) ?_
  refine gx_Jgs (pc := 1) (ci := 12) (kk := 0) (t2 := 5) (by decide) (by decide) rfl rfl rfl q453 (htX12_clear (1, .getfield 12, 3) (gx_m 1 rfl)) ?_
  refine gx_Jcv (pc := 4) (gx_hst (as := []) (b := gx_r 5 (some (0 :: x0)))) (gx_runV (as := []) (ci := 4) (ct_X4_clear Y (0 :: x0)) (by decide) (Or.inl rfl) rfl rfl rfl rfl q730 q634 q635 q104 q636 rfl dd_X4_clear (by decide) (by decide) (Nat.le_of_ble_eq_true rfl) (htX12_clear (4, .invokevirtual 31, 3) (gx_m 2 rfl))) ?_
  refine gx_aload_n (pc := 7) (n := 0) (i := 0) rfl 0 rfl (htX12_clear (7, .aload_n 0, 1) (gx_m 3 rfl)) ?_
  refine gx_Jgs (pc := 8) (ci := 12) (kk := 1) (t2 := 6) (by decide) (by decide) rfl rfl rfl q456 (htX12_clear (8, .getfield 21, 3) (gx_m 4 rfl)) ?_
  refine gx_Jcv (pc := 11) (gx_hst (as := []) (b := gx_r 6 (some (1 :: x0)))) (gx_runV (as := []) (ci := 5) (ct_X5_clear Y (1 :: x0)) (by decide) (Or.inl rfl) rfl rfl rfl rfl q731 q638 q639 q105 q640 rfl dd_X5_clear (by decide) (by decide) (Nat.le_of_ble_eq_true rfl) (htX12_clear (11, .invokevirtual 34, 3) (gx_m 5 rfl))) ?_
  refine gx_aload_n (pc := 14) (n := 0) (i := 0) rfl 0 rfl (htX12_clear (14, .aload_n 0, 1) (gx_m 6 rfl)) ?_
  refine gx_Jgs (pc := 15) (ci := 12) (kk := 2) (t2 := 6) (by decide) (by decide) rfl rfl rfl q459 (htX12_clear (15, .getfield 25, 3) (gx_m 7 rfl)) ?_
  refine gx_Jcv (pc := 18) (gx_hst (as := []) (b := gx_r 6 (some (2 :: x0)))) (gx_runV (as := []) (ci := 5) (ct_X5_clear Y (2 :: x0)) (by decide) (Or.inl rfl) rfl rfl rfl rfl q731 q638 q639 q105 q640 rfl dd_X5_clear (by decide) (by decide) (Nat.le_of_ble_eq_true rfl) (htX12_clear (18, .invokevirtual 34, 3) (gx_m 8 rfl))) ?_
  refine gx_aload_n (pc := 21) (n := 0) (i := 0) rfl 0 rfl (htX12_clear (21, .aload_n 0, 1) (gx_m 9 rfl)) ?_
  refine gx_Jgs (pc := 22) (ci := 12) (kk := 3) (t2 := 6) (by decide) (by decide) rfl rfl rfl q462 (htX12_clear (22, .getfield 28, 3) (gx_m 10 rfl)) ?_
  refine gx_Jcv (pc := 25) (gx_hst (as := []) (b := gx_r 6 (some (3 :: x0)))) (gx_runV (as := []) (ci := 5) (ct_X5_clear Y (3 :: x0)) (by decide) (Or.inl rfl) rfl rfl rfl rfl q731 q638 q639 q105 q640 rfl dd_X5_clear (by decide) (by decide) (Nat.le_of_ble_eq_true rfl) (htX12_clear (25, .invokevirtual 34, 3) (gx_m 11 rfl))) ?_
  exact gx_Jvret (pc := 28) rfl (fun _ => trivial) (fun _ _ => rfl) (htX12_clear (28, .return_, 1) (gx_m 12 rfl))
theorem ct_X1_forget (Y : gx_Y) (x0 : gx_Nm) : gx_Ct Y yX1_forget (ws_ yX1_forget cX1_forget 1 none) 3 140 [gx_r 2 (some x0)] gx_Ov (f_X1_forget x0) := by
  refine gx_start (lv := [(0, gx_r 2 (some x0))]) gx_Ov_r pn_X1 (Nat.le_of_ble_eq_true rfl) rfl ?_
  unfold f_X1_forget
  refine gx_aload_n (pc := 0) (n := 0) (i := 0) rfl 0 rfl (htX1_forget (0, .aload_n 0, 1) (gx_m 0 rfl)) ?_
  refine gx_Jgs (pc := 1) (ci := 1) (kk := 2) (t2 := 13) (by decide) (by decide) rfl rfl rfl q699 (htX1_forget (1, .getfield 37, 3) (gx_m 1 rfl)) ?_
  refine gx_Jcv (pc := 4) (gx_hst (as := []) (b := gx_r 13 (some (2 :: x0)))) (gx_runV (as := []) (ci := 12) (ct_X12_clear Y (2 :: x0)) (by decide) (Or.inl rfl) rfl rfl rfl rfl q726 q727 q728 q112 q729 rfl dd_X12_clear (by decide) (by decide) (Nat.le_of_ble_eq_true rfl) (htX1_forget (4, .invokevirtual 79, 3) (gx_m 2 rfl))) ?_
  exact gx_Jvret (pc := 7) rfl (fun _ => trivial) (fun _ _ => rfl) (htX1_forget (7, .return_, 1) (gx_m 3 rfl))
theorem ct_X10_lost (Y : gx_Y) (x0 : gx_Nm) : gx_Ct Y yX10_lost (ws_ yX10_lost cX10_lost 1 (some .int)) 1 100 [gx_r 11 (some x0)] gx_Oi (f_X10_lost x0) := by
  refine gx_start (lv := [(0, gx_r 11 (some x0))]) gx_Oi_r pn_X10 (Nat.le_of_ble_eq_true rfl) rfl ?_
  unfold f_X10_lost
  refine gx_aload_n (pc := 0) (n := 0) (i := 0) rfl 0 rfl (htX10_lost (0, .aload_n 0, 1) (gx_m 0 rfl)) ?_
  refine gx_Jgi (pc := 1) (ci := 10) (kk := 2) (by decide) (Or.inl rfl) (by decide) (by decide) q391 (htX10_lost (1, .getfield 31, 3) (gx_m 1 rfl)) (fun v1 hv1 => ?_)
  exact gx_Jiret (pc := 4) rfl (fun _ => trivial) (fun _ _ => rfl) (htX10_lost (4, .ireturn, 1) (gx_m 2 rfl))
theorem ct_X12_size (Y : gx_Y) (x0 : gx_Nm) : gx_Ct Y yX12_size (ws_ yX12_size cX12_size 1 (some .int)) 1 100 [gx_r 13 (some x0)] gx_Oi (f_X12_size x0) := by
  refine gx_start (lv := [(0, gx_r 13 (some x0))]) gx_Oi_r pn_X12 (Nat.le_of_ble_eq_true rfl) rfl ?_
  unfold f_X12_size
  refine gx_aload_n (pc := 0) (n := 0) (i := 0) rfl 0 rfl (htX12_size (0, .aload_n 0, 1) (gx_m 0 rfl)) ?_
  refine gx_Jgs (pc := 1) (ci := 12) (kk := 1) (t2 := 6) (by decide) (by decide) rfl rfl rfl q456 (htX12_size (1, .getfield 21, 3) (gx_m 1 rfl)) ?_
  refine gx_Jgi (pc := 4) (ci := 5) (kk := 1) (by decide) (Or.inl rfl) (by decide) (by decide) q179 (htX12_size (4, .getfield 35, 3) (gx_m 2 rfl)) (fun v1 hv1 => ?_)
  refine gx_iconst (pc := 7) (v := 5) (by decide) (htX12_size (7, .iconst 5, 1) (gx_m 3 rfl)) ?_
  refine gx_idiv (pc := 8) (by decide) (htX12_size (8, .idiv, 1) (gx_m 4 rfl)) ?_
  refine gx_aload_n (pc := 9) (n := 0) (i := 0) rfl 0 rfl (htX12_size (9, .aload_n 0, 1) (gx_m 5 rfl)) ?_
  refine gx_Jgs (pc := 10) (ci := 12) (kk := 2) (t2 := 6) (by decide) (by decide) rfl rfl rfl q459 (htX12_size (10, .getfield 25, 3) (gx_m 6 rfl)) ?_
  refine gx_Jgi (pc := 13) (ci := 5) (kk := 1) (by decide) (Or.inl rfl) (by decide) (by decide) q179 (htX12_size (13, .getfield 35, 3) (gx_m 7 rfl)) (fun v2 hv2 => ?_)
  refine gx_aload_n (pc := 16) (n := 0) (i := 0) rfl 0 rfl (htX12_size (16, .aload_n 0, 1) (gx_m 8 rfl)) ?_
  refine gx_Jgs (pc := 17) (ci := 12) (kk := 3) (t2 := 6) (by decide) (by decide) rfl rfl rfl q462 (htX12_size (17, .getfield 28, 3) (gx_m 9 rfl)) ?_
  refine gx_Jgi (pc := 20) (ci := 5) (kk := 1) (by decide) (Or.inl rfl) (by decide) (by decide) q179 (htX12_size (20, .getfield 35, 3) (gx_m 10 rfl)) (fun v3 hv3 => ?_)
  refine gx_iadd (pc := 23) (htX12_size (23, .iadd, 1) (gx_m 11 rfl)) ?_
  refine gx_bipush (pc := 24) (v := 6) (by decide) (htX12_size (24, .bipush 6, 2) (gx_m 12 rfl)) ?_
  refine gx_idiv (pc := 26) (by decide) (htX12_size (26, .idiv, 1) (gx_m 13 rfl)) ?_
  refine gx_iadd (pc := 27) (htX12_size (27, .iadd, 1) (gx_m 14 rfl)) ?_
  exact gx_Jiret (pc := 28) rfl (fun _ => trivial) (fun _ _ => rfl) (htX12_size (28, .ireturn, 1) (gx_m 15 rfl))
theorem ct_X3_many (Y : gx_Y) (x0 : gx_Nm) : gx_Ct Y yX3_many (ws_ yX3_many cX3_many 1 (some .int)) 1 100 [gx_r 4 (some x0)] gx_Oi (f_X3_many x0) := by
  refine gx_start (lv := [(0, gx_r 4 (some x0))]) gx_Oi_r pn_X3 (Nat.le_of_ble_eq_true rfl) rfl ?_
  unfold f_X3_many
  refine gx_aload_n (pc := 0) (n := 0) (i := 0) rfl 0 rfl (htX3_many (0, .aload_n 0, 1) (gx_m 0 rfl)) ?_
  refine gx_Jgi (pc := 1) (ci := 3) (kk := 3) (by decide) (Or.inl rfl) (by decide) (by decide) q196 (htX3_many (1, .getfield 38, 3) (gx_m 1 rfl)) (fun v1 hv1 => ?_)
  exact gx_Jiret (pc := 4) rfl (fun _ => trivial) (fun _ _ => rfl) (htX3_many (4, .ireturn, 1) (gx_m 2 rfl))
theorem ct_X1_count (Y : gx_Y) (x0 : gx_Nm) (x1 : Int32) : gx_Ct Y yX1_count (ws_ yX1_count cX1_count 2 (some .int)) 2 120 [gx_r 2 (some x0), gx_i x1] gx_Oi (f_X1_count x0 x1) := by
  refine gx_start (lv := [(0, gx_r 2 (some x0)), (1, gx_i x1)]) gx_Oi_r pn_X1 (Nat.le_of_ble_eq_true rfl) rfl ?_
  unfold f_X1_count
  refine gx_iload_n (pc := 0) (n := 1) (i := 1) rfl 1 rfl (htX1_count (0, .iload_n 1, 1) (gx_m 0 rfl)) ?_
  refine gx_Jite (fun c1 => ?_) (fun c1 => ?_)
  · refine gx_Jtab (pc := 1) (tgt := 44) (htX1_count (1, .tableswitch 108 0 6 #[43, 51, 56, 70, 81, 89, 100], 43) (gx_m 1 rfl)) (by decide) (gx_tD c1 (by decide)) (gx_tI c1 (by decide)) ?_
    refine gx_aload_n (pc := 44) (n := 0) (i := 0) rfl 0 rfl (htX1_count (44, .aload_n 0, 1) (gx_m 2 rfl)) ?_
    refine gx_Jgs (pc := 45) (ci := 1) (kk := 3) (t2 := 5) (by decide) (by decide) rfl rfl rfl q700 (htX1_count (45, .getfield 46, 3) (gx_m 3 rfl)) ?_
    refine gx_Jgi (pc := 48) (ci := 4) (kk := 1) (by decide) (Or.inl rfl) (by decide) (by decide) q162 (htX1_count (48, .getfield 94, 3) (gx_m 4 rfl)) (fun v1 hv1 => ?_)
    exact gx_Jiret (pc := 51) rfl (fun _ => trivial) (fun _ _ => rfl) (htX1_count (51, .ireturn, 1) (gx_m 5 rfl))
  · refine gx_Jite (fun c2 => ?_) (fun c2 => ?_)
    · refine gx_Jtab (pc := 1) (tgt := 52) (htX1_count (1, .tableswitch 108 0 6 #[43, 51, 56, 70, 81, 89, 100], 43) (gx_m 1 rfl)) (by decide) (gx_tD c2 (by decide)) (gx_tI c2 (by decide)) ?_
      refine gx_aload_n (pc := 52) (n := 0) (i := 0) rfl 0 rfl (htX1_count (52, .aload_n 0, 1) (gx_m 6 rfl)) ?_
      refine gx_Jgi (pc := 53) (ci := 1) (kk := 6) (by decide) (Or.inl rfl) (by decide) (by decide) q703 (htX1_count (53, .getfield 97, 3) (gx_m 7 rfl)) (fun v2 hv2 => ?_)
      exact gx_Jiret (pc := 56) rfl (fun _ => trivial) (fun _ _ => rfl) (htX1_count (56, .ireturn, 1) (gx_m 8 rfl))
    · refine gx_Jite (fun c3 => ?_) (fun c3 => ?_)
      · refine gx_Jtab (pc := 1) (tgt := 57) (htX1_count (1, .tableswitch 108 0 6 #[43, 51, 56, 70, 81, 89, 100], 43) (gx_m 1 rfl)) (by decide) (gx_tD c3 (by decide)) (gx_tI c3 (by decide)) ?_
        refine gx_aload_n (pc := 57) (n := 0) (i := 0) rfl 0 rfl (htX1_count (57, .aload_n 0, 1) (gx_m 9 rfl)) ?_
        refine gx_Jgs (pc := 58) (ci := 1) (kk := 0) (t2 := 3) (by decide) (by decide) rfl rfl rfl q697 (htX1_count (58, .getfield 22, 3) (gx_m 10 rfl)) ?_
        refine gx_Jgs (pc := 61) (ci := 2) (kk := 3) (t2 := 11) (by decide) (by decide) rfl rfl rfl q411 (htX1_count (61, .getfield 197, 3) (gx_m 11 rfl)) ?_
        refine gx_Jgs (pc := 64) (ci := 10) (kk := 0) (t2 := 12) (by decide) (by decide) rfl rfl rfl q389 (htX1_count (64, .getfield 201, 3) (gx_m 12 rfl)) ?_
        refine gx_Jgi (pc := 67) (ci := 11) (kk := 1) (by decide) (Or.inl rfl) (by decide) (by decide) q382 (htX1_count (67, .getfield 207, 3) (gx_m 13 rfl)) (fun v3 hv3 => ?_)
        exact gx_Jiret (pc := 70) rfl (fun _ => trivial) (fun _ _ => rfl) (htX1_count (70, .ireturn, 1) (gx_m 14 rfl))
      · refine gx_Jite (fun c4 => ?_) (fun c4 => ?_)
        · refine gx_Jtab (pc := 1) (tgt := 71) (htX1_count (1, .tableswitch 108 0 6 #[43, 51, 56, 70, 81, 89, 100], 43) (gx_m 1 rfl)) (by decide) (gx_tD c4 (by decide)) (gx_tI c4 (by decide)) ?_
          refine gx_aload_n (pc := 71) (n := 0) (i := 0) rfl 0 rfl (htX1_count (71, .aload_n 0, 1) (gx_m 15 rfl)) ?_
          refine gx_Jgs (pc := 72) (ci := 1) (kk := 0) (t2 := 3) (by decide) (by decide) rfl rfl rfl q697 (htX1_count (72, .getfield 22, 3) (gx_m 16 rfl)) ?_
          refine gx_Jgs (pc := 75) (ci := 2) (kk := 3) (t2 := 11) (by decide) (by decide) rfl rfl rfl q411 (htX1_count (75, .getfield 197, 3) (gx_m 17 rfl)) ?_
          refine gx_Jci (pc := 78) (gx_hst (as := []) (b := gx_r 11 (some (3 :: 0 :: x0)))) (gx_runV (as := []) (ci := 10) (ct_X10_lost Y (3 :: 0 :: x0)) (by decide) (Or.inl rfl) rfl rfl rfl rfl q736 q737 q738 q110 q739 rfl dd_X10_lost (by decide) (by decide) (Nat.le_of_ble_eq_true rfl) (htX1_count (78, .invokevirtual 409, 3) (gx_m 18 rfl))) (fun v4 => ?_)
          exact gx_Jiret (pc := 81) rfl (fun _ => trivial) (fun _ _ => rfl) (htX1_count (81, .ireturn, 1) (gx_m 19 rfl))
        · refine gx_Jite (fun c5 => ?_) (fun c5 => ?_)
          · refine gx_Jtab (pc := 1) (tgt := 82) (htX1_count (1, .tableswitch 108 0 6 #[43, 51, 56, 70, 81, 89, 100], 43) (gx_m 1 rfl)) (by decide) (gx_tD c5 (by decide)) (gx_tI c5 (by decide)) ?_
            refine gx_aload_n (pc := 82) (n := 0) (i := 0) rfl 0 rfl (htX1_count (82, .aload_n 0, 1) (gx_m 20 rfl)) ?_
            refine gx_Jgs (pc := 83) (ci := 1) (kk := 2) (t2 := 13) (by decide) (by decide) rfl rfl rfl q699 (htX1_count (83, .getfield 37, 3) (gx_m 21 rfl)) ?_
            refine gx_Jci (pc := 86) (gx_hst (as := []) (b := gx_r 13 (some (2 :: x0)))) (gx_runV (as := []) (ci := 12) (ct_X12_size Y (2 :: x0)) (by decide) (Or.inl rfl) rfl rfl rfl rfl q740 q741 q742 q112 q743 rfl dd_X12_size (by decide) (by decide) (Nat.le_of_ble_eq_true rfl) (htX1_count (86, .invokevirtual 412, 3) (gx_m 22 rfl))) (fun v5 => ?_)
            exact gx_Jiret (pc := 89) rfl (fun _ => trivial) (fun _ _ => rfl) (htX1_count (89, .ireturn, 1) (gx_m 23 rfl))
          · refine gx_Jite (fun c6 => ?_) (fun c6 => ?_)
            · refine gx_Jtab (pc := 1) (tgt := 90) (htX1_count (1, .tableswitch 108 0 6 #[43, 51, 56, 70, 81, 89, 100], 43) (gx_m 1 rfl)) (by decide) (gx_tD c6 (by decide)) (gx_tI c6 (by decide)) ?_
              refine gx_aload_n (pc := 90) (n := 0) (i := 0) rfl 0 rfl (htX1_count (90, .aload_n 0, 1) (gx_m 24 rfl)) ?_
              refine gx_Jgs (pc := 91) (ci := 1) (kk := 0) (t2 := 3) (by decide) (by decide) rfl rfl rfl q697 (htX1_count (91, .getfield 22, 3) (gx_m 25 rfl)) ?_
              refine gx_Jgs (pc := 94) (ci := 2) (kk := 0) (t2 := 4) (by decide) (by decide) rfl rfl rfl q403 (htX1_count (94, .getfield 157, 3) (gx_m 26 rfl)) ?_
              refine gx_Jci (pc := 97) (gx_hst (as := []) (b := gx_r 4 (some (0 :: 0 :: x0)))) (gx_runV (as := []) (ci := 3) (ct_X3_many Y (0 :: 0 :: x0)) (by decide) (Or.inl rfl) rfl rfl rfl rfl q744 q745 q746 q103 q747 rfl dd_X3_many (by decide) (by decide) (Nat.le_of_ble_eq_true rfl) (htX1_count (97, .invokevirtual 414, 3) (gx_m 27 rfl))) (fun v6 => ?_)
              exact gx_Jiret (pc := 100) rfl (fun _ => trivial) (fun _ _ => rfl) (htX1_count (100, .ireturn, 1) (gx_m 28 rfl))
            · refine gx_Jite (fun c7 => ?_) (fun c7 => ?_)
              · refine gx_Jtab (pc := 1) (tgt := 101) (htX1_count (1, .tableswitch 108 0 6 #[43, 51, 56, 70, 81, 89, 100], 43) (gx_m 1 rfl)) (by decide) (gx_tD c7 (by decide)) (gx_tI c7 (by decide)) ?_
                refine gx_aload_n (pc := 101) (n := 0) (i := 0) rfl 0 rfl (htX1_count (101, .aload_n 0, 1) (gx_m 29 rfl)) ?_
                refine gx_Jgs (pc := 102) (ci := 1) (kk := 0) (t2 := 3) (by decide) (by decide) rfl rfl rfl q697 (htX1_count (102, .getfield 22, 3) (gx_m 30 rfl)) ?_
                refine gx_Jgi (pc := 105) (ci := 2) (kk := 5) (by decide) (Or.inl rfl) (by decide) (by decide) q417 (htX1_count (105, .getfield 416, 3) (gx_m 31 rfl)) (fun v7 hv7 => ?_)
                exact gx_Jiret (pc := 108) rfl (fun _ => trivial) (fun _ _ => rfl) (htX1_count (108, .ireturn, 1) (gx_m 32 rfl))
              · refine gx_Jtab (pc := 1) (tgt := 109) (htX1_count (1, .tableswitch 108 0 6 #[43, 51, 56, 70, 81, 89, 100], 43) (gx_m 1 rfl)) (by decide) (fun _ => by decide) (gx_tN (ks := [0, 1, 2, 3, 4, 5, 6]) (by simp only [List.mem_cons, List.not_mem_nil, or_false, not_or]; exact ⟨c1, c2, c3, c4, c5, c6, c7⟩) (by decide)) ?_
                refine gx_iconst (pc := 109) (v := (-1)) (by decide) (htX1_count (109, .iconst (-1), 1) (gx_m 33 rfl)) ?_
                exact gx_Jiret (pc := 110) rfl (fun _ => trivial) (fun _ _ => rfl) (htX1_count (110, .ireturn, 1) (gx_m 34 rfl))
theorem ct_X1_in (Y : gx_Y) (x0 : Int32) (x1 : Int32) (x2 : Int32) : gx_Ct Y yX1_in (ws_ yX1_in cX1_in 3 (some .boolean)) 1 100 [gx_i x0, gx_i x1, gx_i x2] gx_Oz (f_X1_in x0 x1 x2) := by
  refine gx_start (lv := [(0, gx_i x0), (1, gx_i x1), (2, gx_i x2)]) gx_Oz_r pn_X1 (Nat.le_of_ble_eq_true rfl) rfl ?_
  unfold f_X1_in
  refine gx_iload_n (pc := 0) (n := 0) (i := 0) rfl 0 rfl (htX1_in (0, .iload_n 0, 1) (gx_m 0 rfl)) ?_
  refine gx_iload_n (pc := 1) (n := 1) (i := 1) rfl 1 rfl (htX1_in (1, .iload_n 1, 1) (gx_m 1 rfl)) ?_
  refine gx_Jjoin (pcJ := 15) (lvJ := fun (j1 : Int32) => []) (stJ := fun (j1 : Int32) => [gx_i j1]) (fun (j1 : Int32) => j1 &&& 1 = j1) (fun j1 hj1 => ?_) (fun kk1 hj1 => ?_)
  · exact gx_Jzret (pc := 15) rfl hj1 (fun _ => hj1) (fun _ _ => rfl) (htX1_in (15, .ireturn, 1) (gx_m 9 rfl))
  · refine gx_icmp_lt (pc := 2) (tgt := 14) (by decide) (htX1_in (2, .if_icmp .lt 12, 3) (gx_m 2 rfl)) (fun c2 => ?_) (fun c2 => ?_)
    · refine gx_iconst (pc := 14) (v := 0) (by decide) (htX1_in (14, .iconst 0, 1) (gx_m 8 rfl)) ?_
      refine gx_Jw (lv := []) [] rfl ?_
      exact hj1 (0 : Int32) gx_b0
    · refine gx_iload_n (pc := 5) (n := 0) (i := 0) rfl 0 rfl (htX1_in (5, .iload_n 0, 1) (gx_m 3 rfl)) ?_
      refine gx_iload_n (pc := 6) (n := 2) (i := 2) rfl 2 rfl (htX1_in (6, .iload_n 2, 1) (gx_m 4 rfl)) ?_
      refine gx_icmp_gt (pc := 7) (tgt := 14) (by decide) (htX1_in (7, .if_icmp .gt 7, 3) (gx_m 5 rfl)) (fun c3 => ?_) (fun c3 => ?_)
      · refine gx_iconst (pc := 14) (v := 0) (by decide) (htX1_in (14, .iconst 0, 1) (gx_m 8 rfl)) ?_
        refine gx_Jw (lv := []) [] rfl ?_
        exact hj1 (0 : Int32) gx_b0
      · refine gx_iconst (pc := 10) (v := 1) (by decide) (htX1_in (10, .iconst 1, 1) (gx_m 6 rfl)) ?_
        refine gx_goto (pc := 11) (tgt := 15) (by decide) (htX1_in (11, .goto 4, 3) (gx_m 7 rfl)) ?_
        refine gx_Jw (lv := []) [] rfl ?_
        exact hj1 (1 : Int32) gx_b1
theorem ct_X15_clear (Y : gx_Y) (x0 : gx_Nm) : gx_Ct Y yX15_clear (ws_ yX15_clear cX15_clear 1 none) 2 120 [gx_r 16 (some x0)] gx_Ov (f_X15_clear x0) := by
  refine gx_start (lv := [(0, gx_r 16 (some x0))]) gx_Ov_r pn_X15 (Nat.le_of_ble_eq_true rfl) rfl ?_
  unfold f_X15_clear
  refine gx_aload_n (pc := 0) (n := 0) (i := 0) rfl 0 rfl (htX15_clear (0, .aload_n 0, 1) (gx_m 0 rfl)) ?_
  refine gx_iconst (pc := 1) (v := 0) (by decide) (htX15_clear (1, .iconst 0, 1) (gx_m 1 rfl)) ?_
  refine gx_Jpi (pc := 2) (ci := 15) (kk := 1) (by decide) (Or.inl rfl) (by decide) rfl rfl q506 (Or.inl rfl) (htX15_clear (2, .putfield 22, 3) (gx_m 2 rfl)) ?_
  refine gx_aload_n (pc := 5) (n := 0) (i := 0) rfl 0 rfl (htX15_clear (5, .aload_n 0, 1) (gx_m 3 rfl)) ?_
  refine gx_iconst (pc := 6) (v := 0) (by decide) (htX15_clear (6, .iconst 0, 1) (gx_m 4 rfl)) ?_
  refine gx_Jpi (pc := 7) (ci := 15) (kk := 2) (by decide) (Or.inl rfl) (by decide) rfl rfl q509 (Or.inl rfl) (htX15_clear (7, .putfield 26, 3) (gx_m 5 rfl)) ?_
  refine gx_aload_n (pc := 10) (n := 0) (i := 0) rfl 0 rfl (htX15_clear (10, .aload_n 0, 1) (gx_m 6 rfl)) ?_
  refine gx_iconst (pc := 11) (v := 0) (by decide) (htX15_clear (11, .iconst 0, 1) (gx_m 7 rfl)) ?_
  refine gx_Jpi (pc := 12) (ci := 15) (kk := 3) (by decide) (Or.inl rfl) (by decide) rfl rfl q511 (Or.inl rfl) (htX15_clear (12, .putfield 29, 3) (gx_m 8 rfl)) ?_
  refine gx_aload_n (pc := 15) (n := 0) (i := 0) rfl 0 rfl (htX15_clear (15, .aload_n 0, 1) (gx_m 9 rfl)) ?_
  refine gx_Jgs (pc := 16) (ci := 15) (kk := 4) (t2 := 6) (by decide) (by decide) rfl rfl rfl q513 (htX15_clear (16, .getfield 12, 3) (gx_m 10 rfl)) ?_
  refine gx_Jcv (pc := 19) (gx_hst (as := []) (b := gx_r 6 (some (4 :: x0)))) (gx_runV (as := []) (ci := 5) (ct_X5_clear Y (4 :: x0)) (by decide) (Or.inl rfl) rfl rfl rfl rfl q840 q638 q639 q105 q640 rfl dd_X5_clear (by decide) (by decide) (Nat.le_of_ble_eq_true rfl) (htX15_clear (19, .invokevirtual 32, 3) (gx_m 11 rfl))) ?_
  exact gx_Jvret (pc := 22) rfl (fun _ => trivial) (fun _ _ => rfl) (htX15_clear (22, .return_, 1) (gx_m 12 rfl))
theorem ct_X14_clear (Y : gx_Y) (x0 : gx_Nm) : gx_Ct Y yX14_clear (ws_ yX14_clear cX14_clear 1 none) 3 140 [gx_r 15 (some x0)] gx_Ov (f_X14_clear x0) := by
  refine gx_start (lv := [(0, gx_r 15 (some x0))]) gx_Ov_r pn_X14 (Nat.le_of_ble_eq_true rfl) rfl ?_
  unfold f_X14_clear
  refine gx_aload_n (pc := 0) (n := 0) (i := 0) rfl 0 rfl (htX14_clear (0, .aload_n 0, 1) (gx_m 0 rfl)) ?_
  refine gx_iconst (pc := 1) (v := 0) (by decide) (htX14_clear (1, .iconst 0, 1) (gx_m 1 rfl)) ?_
  refine gx_Jpi (pc := 2) (ci := 14) (kk := 0) (by decide) (Or.inl rfl) (by decide) rfl rfl q525 (Or.inl rfl) (htX14_clear (2, .putfield 27, 3) (gx_m 2 rfl)) ?_
  refine gx_aload_n (pc := 5) (n := 0) (i := 0) rfl 0 rfl (htX14_clear (5, .aload_n 0, 1) (gx_m 3 rfl)) ?_
  refine gx_iconst (pc := 6) (v := (-1)) (by decide) (htX14_clear (6, .iconst (-1), 1) (gx_m 4 rfl)) ?_
  refine gx_Jpi (pc := 7) (ci := 14) (kk := 1) (by decide) (Or.inl rfl) (by decide) rfl rfl q528 (Or.inl rfl) (htX14_clear (7, .putfield 31, 3) (gx_m 5 rfl)) ?_
  refine gx_aload_n (pc := 10) (n := 0) (i := 0) rfl 0 rfl (htX14_clear (10, .aload_n 0, 1) (gx_m 6 rfl)) ?_
  refine gx_Jgs (pc := 11) (ci := 14) (kk := 2) (t2 := 16) (by decide) (by decide) rfl rfl rfl q531 (htX14_clear (11, .getfield 23, 3) (gx_m 7 rfl)) ?_
  refine gx_Jcv (pc := 14) (gx_hst (as := []) (b := gx_r 16 (some (2 :: x0)))) (gx_runV (as := []) (ci := 15) (ct_X15_clear Y (2 :: x0)) (by decide) (Or.inl rfl) rfl rfl rfl rfl q836 q837 q838 q115 q839 rfl dd_X15_clear (by decide) (by decide) (Nat.le_of_ble_eq_true rfl) (htX14_clear (14, .invokevirtual 34, 3) (gx_m 8 rfl))) ?_
  refine gx_aload_n (pc := 17) (n := 0) (i := 0) rfl 0 rfl (htX14_clear (17, .aload_n 0, 1) (gx_m 9 rfl)) ?_
  refine gx_Jgs (pc := 18) (ci := 14) (kk := 3) (t2 := 6) (by decide) (by decide) rfl rfl rfl q534 (htX14_clear (18, .getfield 12, 3) (gx_m 10 rfl)) ?_
  refine gx_Jcv (pc := 21) (gx_hst (as := []) (b := gx_r 6 (some (3 :: x0)))) (gx_runV (as := []) (ci := 5) (ct_X5_clear Y (3 :: x0)) (by decide) (Or.inl rfl) rfl rfl rfl rfl q841 q638 q639 q105 q640 rfl dd_X5_clear (by decide) (by decide) (Nat.le_of_ble_eq_true rfl) (htX14_clear (21, .invokevirtual 37, 3) (gx_m 11 rfl))) ?_
  exact gx_Jvret (pc := 24) rfl (fun _ => trivial) (fun _ _ => rfl) (htX14_clear (24, .return_, 1) (gx_m 12 rfl))
