/-! ===== the wrappers as functions (printed by gen/wprint.py) ===== -/
noncomputable def f_X0_nodes (x0 : gx_Nm) (x1 : Int32) : gx_M (Int32) :=
  gx_cx (f_X1_nodes x0 x1) (fun _ =>
  gx_rt 0) (fun kx => if kx = 0 then gx_rt 1 else gx_no)
noncomputable def f_X0_feed (x0 : gx_Nm) (x1 : Int32) (x2 : Int32) (x3 : Int32) (x4 : Int32) (x5 : Int32) (x6 : gx_Nm) : gx_M (Int32) :=
  gx_cx (f_X1_feed x0 x1 x2 x3 x4 x5) (fun v1 =>
  gx_bd (gx_ls x6 0 v1.toInt64) fun _ =>
  gx_rt 0) (fun kx => if kx = 3 then gx_rt 1 else gx_no)
noncomputable def f_X0_end (x0 : gx_Nm) (x1 : Int32) (x2 : gx_Nm) : gx_M (Int32) :=
  gx_cx (f_X1_end x0 x1) (fun v1 =>
  gx_bd (gx_ls x2 0 v1.toInt64) fun _ =>
  gx_rt 0) (fun kx => if kx = 0 then gx_rt 1 else gx_no)
noncomputable def f_X0_when (x0 : gx_Nm) (x1 : Int32) (x2 : Int32) (x3 : Int32) : gx_M (Int32) :=
  gx_cx (f_X1_when x0 x1 x2 x3) (fun _ =>
  gx_rt 0) (fun kx => if kx = 0 then gx_rt 1 else if kx = 3 then gx_rt 2 else gx_no)
noncomputable def f_X0_put (x0 : gx_Nm) (x1 : Int32) (x2 : Int32) : gx_M (Int32) :=
  gx_cx (f_X1_put x0 x1 x2) (fun _ =>
  gx_rt 0) (fun kx => if kx = 0 then gx_rt 1 else if kx = 3 then gx_rt 2 else gx_no)
noncomputable def f_X0_erase (x0 : gx_Nm) (x1 : Int32) : gx_M (Int32) :=
  gx_cx (f_X1_erase x0 x1) (fun _ =>
  gx_rt 0) (fun kx => if kx = 0 then gx_rt 1 else if kx = 3 then gx_rt 2 else gx_no)
noncomputable def f_X0_lease (x0 : gx_Nm) (x1 : Int32) (x2 : Int32) (x3 : Int32) : gx_M (Int32) :=
  gx_cx (f_X1_lease x0 x1 x2 x3) (fun _ =>
  gx_rt 0) (fun kx => if kx = 0 then gx_rt 1 else if kx = 3 then gx_rt 2 else gx_no)
noncomputable def f_X0_propose (x0 : gx_Nm) (x1 : Int32) (x2 : gx_Nm) : gx_M (Int32) :=
  gx_cx (f_X1_propose x0 x1) (fun v1 =>
  gx_bd (gx_ls x2 0 v1.toInt64) fun _ =>
  gx_rt 0) (fun kx => if kx = 2 then gx_rt 1 else if kx = 1 then gx_rt 2 else if kx = 3 then gx_rt 3 else gx_no)
noncomputable def f_X0_rise (x0 : gx_Nm) (x1 : Int32) : gx_M (Int32) :=
  gx_cx (f_X1_rise x0 x1) (fun _ =>
  gx_rt 0) (fun kx => if kx = 2 then gx_rt 1 else if kx = 1 then gx_rt 2 else if kx = 3 then gx_rt 3 else gx_no)
noncomputable def f_X0_beat (x0 : gx_Nm) (x1 : Int32) : gx_M (Int32) :=
  gx_cx (f_X1_beat x0 x1) (fun _ =>
  gx_rt 0) (fun kx => if kx = 2 then gx_rt 1 else if kx = 1 then gx_rt 2 else gx_no)
noncomputable def f_X0_sync (x0 : gx_Nm) (x1 : Int32) (x2 : gx_Nm) : gx_M (Int32) :=
  gx_cx (f_X1_sync x0 x1) (fun v1 =>
  gx_bd (gx_ls x2 0 v1.toInt64) fun _ =>
  gx_rt 0) (fun kx => if kx = 1 then gx_rt 1 else gx_no)
noncomputable def f_X0_crash (x0 : gx_Nm) (x1 : Int32) (x2 : Int32) : gx_M (Int32) :=
  gx_cx (f_X1_crash x0 x1 x2) (fun _ =>
  gx_rt 0) (fun kx => if kx = 0 then gx_rt 1 else if kx = 1 then gx_rt 2 else gx_no)
noncomputable def f_X0_start (x0 : gx_Nm) (x1 : Int32) : gx_M (Int32) :=
  gx_cx (f_X1_start x0 x1) (fun _ =>
  gx_rt 0) (fun kx => if kx = 1 then gx_rt 1 else gx_no)
noncomputable def f_X0_deliver (x0 : gx_Nm) (x1 : Int32) (x2 : Int32) : gx_M (Int32) :=
  gx_cx (f_X1_deliver x0 x1 x2) (fun _ =>
  gx_rt 0) (fun kx => if kx = 1 then gx_rt 1 else if kx = 3 then gx_rt 2 else gx_no)
noncomputable def f_X0_lose (x0 : gx_Nm) (x1 : Int32) : gx_M (Int32) :=
  gx_cx (f_X1_lose x0 x1) (fun _ =>
  gx_rt 0) (fun kx => if kx = 1 then gx_rt 1 else gx_no)
noncomputable def f_X0_snapshot (x0 : gx_Nm) (x1 : Int32) (x2 : gx_Nm) : gx_M (Int32) :=
  gx_cx (f_X1_snapshot x0 x1) (fun v1 =>
  gx_bd (gx_ls x2 0 v1.toInt64) fun _ =>
  gx_rt 0) (fun kx => if kx = 2 then gx_rt 1 else if kx = 1 then gx_rt 2 else gx_no)
noncomputable def f_X0_read (x0 : gx_Nm) (x1 : Int32) (x2 : gx_Nm) : gx_M (Int32) :=
  gx_cx (f_X1_read x0 x1) (fun v1 =>
  gx_bd (gx_ls x2 0 v1.toInt64) fun _ =>
  gx_rt 0) (fun kx => if kx = 0 then gx_rt 1 else if kx = 2 then gx_rt 2 else if kx = 1 then gx_rt 3 else if kx = 3 then gx_rt 4 else gx_no)
noncomputable def f_X0_answer (x0 : gx_Nm) (x1 : Int32) (x2 : Int32) (x3 : Int32) (x4 : gx_Nm) : gx_M (Int32) :=
  gx_cx (f_X1_answer x0 x1 x2 x3) (fun v1 =>
  gx_bd (gx_ls x4 0 v1.toInt64) fun _ =>
  gx_rt 0) (fun kx => if kx = 0 then gx_rt 1 else if kx = 1 then gx_rt 2 else gx_no)
noncomputable def f_X0_pair (x0 : gx_Nm) (x1 : Int32) (x2 : Int32) (x3 : Int32) (x4 : gx_Nm) : gx_M (Int32) :=
  gx_cx (f_X1_pair x0 x1 x2 x3) (fun v1 =>
  gx_bd (gx_ls x4 0 v1.toInt64) fun _ =>
  gx_rt 0) (fun kx => if kx = 0 then gx_rt 1 else if kx = 2 then gx_rt 2 else if kx = 1 then gx_rt 3 else gx_no)
noncomputable def f_X0_range (x0 : gx_Nm) (x1 : Int32) (x2 : Int32) (x3 : Int32) (x4 : Int32) (x5 : Int32) (x6 : gx_Nm) : gx_M (Int32) :=
  gx_cx (f_X1_range x0 x1 x2 x3 x4 x5) (fun v1 =>
  gx_bd (gx_ls x6 0 v1.toInt64) fun _ =>
  gx_rt 0) (fun kx => if kx = 0 then gx_rt 1 else if kx = 2 then gx_rt 2 else if kx = 1 then gx_rt 3 else gx_no)
noncomputable def f_X0_event (x0 : gx_Nm) (x1 : Int32) (x2 : Int32) (x3 : Int32) (x4 : Int32) (x5 : Int32) (x6 : gx_Nm) : gx_M (Int32) :=
  gx_cx (f_X1_event x0 x1 x2 x3 x4 x5) (fun v1 =>
  gx_bd (gx_ls x6 0 v1.toInt64) fun _ =>
  gx_rt 0) (fun kx => if kx = 0 then gx_rt 1 else if kx = 2 then gx_rt 2 else if kx = 1 then gx_rt 3 else gx_no)
noncomputable def f_X0_compact (x0 : gx_Nm) (x1 : Int32) (x2 : Int32) : gx_M (Int32) :=
  gx_cx (f_X1_compact x0 x1 x2) (fun _ =>
  gx_rt 0) (fun kx => if kx = 2 then gx_rt 1 else if kx = 1 then gx_rt 2 else gx_no)
noncomputable def f_X0_outcome (x0 : gx_Nm) (x1 : Int32) (x2 : Int32) (x3 : Int32) (x4 : gx_Nm) : gx_M (Int32) :=
  gx_cx (f_X1_outcome x0 x1 x2 x3) (fun v1 =>
  gx_bd (gx_ls x4 0 v1.toInt64) fun _ =>
  gx_rt 0) (fun kx => if kx = 0 then gx_rt 1 else if kx = 1 then gx_rt 2 else gx_no)
noncomputable def f_X0_message (x0 : gx_Nm) (x1 : Int32) (x2 : Int32) (x3 : gx_Nm) : gx_M (Int32) :=
  gx_cx (f_X1_message x0 x1 x2) (fun v1 =>
  gx_bd (gx_ls x3 0 v1.toInt64) fun _ =>
  gx_rt 0) (fun kx => if kx = 0 then gx_rt 1 else if kx = 1 then gx_rt 2 else gx_no)
noncomputable def f_X0_told (x0 : gx_Nm) (x1 : Int32) (x2 : Int32) (x3 : gx_Nm) : gx_M (Int32) :=
  gx_cx (f_X1_told x0 x1 x2) (fun v1 =>
  gx_bd (gx_ls x3 0 v1.toInt64) fun _ =>
  gx_rt 0) (fun kx => if kx = 0 then gx_rt 1 else if kx = 1 then gx_rt 2 else gx_no)
