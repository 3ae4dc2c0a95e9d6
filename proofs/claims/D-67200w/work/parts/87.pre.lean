/-! ===== WALK 10: facts of methods and kinds (printed by gen/pprint.py) ===== -/
set_option maxRecDepth 100000
theorem pn_X0 : plainName RX0 = true := by decide +kernel
theorem pn_X1 : plainName RX1 = true := by decide +kernel
theorem pn_X2 : plainName RX2 = true := by decide +kernel
theorem pn_X3 : plainName RX3 = true := by decide +kernel
theorem pn_X4 : plainName RX4 = true := by decide +kernel
theorem pn_X5 : plainName RX5 = true := by decide +kernel
theorem pn_X6 : plainName RX6 = true := by decide +kernel
theorem pn_X7 : plainName RX7 = true := by decide +kernel
theorem pn_X8 : plainName RX8 = true := by decide +kernel
theorem pn_X9 : plainName RX9 = true := by decide +kernel
theorem pn_X10 : plainName RX10 = true := by decide +kernel
theorem pn_X11 : plainName RX11 = true := by decide +kernel
theorem pn_X12 : plainName RX12 = true := by decide +kernel
theorem pn_X13 : plainName RX13 = true := by decide +kernel
theorem pn_X14 : plainName RX14 = true := by decide +kernel
theorem pn_X15 : plainName RX15 = true := by decide +kernel
theorem pn_X16 : plainName RX16 = true := by decide +kernel
theorem pn_X17 : plainName RX17 = true := by decide +kernel
theorem pn_X18 : plainName RX18 = true := by decide +kernel
theorem dd_X0_nodes : yX0_nodes.cls ≠ "java/lang/invoke/MethodHandle" ∧ yX0_nodes.cls ≠ "java/lang/invoke/VarHandle" ∧ (parseMethodDescriptor yX0_nodes.desc).map (fun d => d.parameters.length) = some 2 := by decide +kernel
theorem dd_X0_feed : yX0_feed.cls ≠ "java/lang/invoke/MethodHandle" ∧ yX0_feed.cls ≠ "java/lang/invoke/VarHandle" ∧ (parseMethodDescriptor yX0_feed.desc).map (fun d => d.parameters.length) = some 7 := by decide +kernel
theorem dd_X0_end : yX0_end.cls ≠ "java/lang/invoke/MethodHandle" ∧ yX0_end.cls ≠ "java/lang/invoke/VarHandle" ∧ (parseMethodDescriptor yX0_end.desc).map (fun d => d.parameters.length) = some 3 := by decide +kernel
theorem dd_X0_when : yX0_when.cls ≠ "java/lang/invoke/MethodHandle" ∧ yX0_when.cls ≠ "java/lang/invoke/VarHandle" ∧ (parseMethodDescriptor yX0_when.desc).map (fun d => d.parameters.length) = some 4 := by decide +kernel
theorem dd_X0_put : yX0_put.cls ≠ "java/lang/invoke/MethodHandle" ∧ yX0_put.cls ≠ "java/lang/invoke/VarHandle" ∧ (parseMethodDescriptor yX0_put.desc).map (fun d => d.parameters.length) = some 3 := by decide +kernel
theorem dd_X0_erase : yX0_erase.cls ≠ "java/lang/invoke/MethodHandle" ∧ yX0_erase.cls ≠ "java/lang/invoke/VarHandle" ∧ (parseMethodDescriptor yX0_erase.desc).map (fun d => d.parameters.length) = some 2 := by decide +kernel
theorem dd_X0_lease : yX0_lease.cls ≠ "java/lang/invoke/MethodHandle" ∧ yX0_lease.cls ≠ "java/lang/invoke/VarHandle" ∧ (parseMethodDescriptor yX0_lease.desc).map (fun d => d.parameters.length) = some 4 := by decide +kernel
theorem dd_X0_propose : yX0_propose.cls ≠ "java/lang/invoke/MethodHandle" ∧ yX0_propose.cls ≠ "java/lang/invoke/VarHandle" ∧ (parseMethodDescriptor yX0_propose.desc).map (fun d => d.parameters.length) = some 3 := by decide +kernel
theorem dd_X0_rise : yX0_rise.cls ≠ "java/lang/invoke/MethodHandle" ∧ yX0_rise.cls ≠ "java/lang/invoke/VarHandle" ∧ (parseMethodDescriptor yX0_rise.desc).map (fun d => d.parameters.length) = some 2 := by decide +kernel
theorem dd_X0_beat : yX0_beat.cls ≠ "java/lang/invoke/MethodHandle" ∧ yX0_beat.cls ≠ "java/lang/invoke/VarHandle" ∧ (parseMethodDescriptor yX0_beat.desc).map (fun d => d.parameters.length) = some 2 := by decide +kernel
theorem dd_X0_sync : yX0_sync.cls ≠ "java/lang/invoke/MethodHandle" ∧ yX0_sync.cls ≠ "java/lang/invoke/VarHandle" ∧ (parseMethodDescriptor yX0_sync.desc).map (fun d => d.parameters.length) = some 3 := by decide +kernel
theorem dd_X0_crash : yX0_crash.cls ≠ "java/lang/invoke/MethodHandle" ∧ yX0_crash.cls ≠ "java/lang/invoke/VarHandle" ∧ (parseMethodDescriptor yX0_crash.desc).map (fun d => d.parameters.length) = some 3 := by decide +kernel
theorem dd_X0_start : yX0_start.cls ≠ "java/lang/invoke/MethodHandle" ∧ yX0_start.cls ≠ "java/lang/invoke/VarHandle" ∧ (parseMethodDescriptor yX0_start.desc).map (fun d => d.parameters.length) = some 2 := by decide +kernel
theorem dd_X0_deliver : yX0_deliver.cls ≠ "java/lang/invoke/MethodHandle" ∧ yX0_deliver.cls ≠ "java/lang/invoke/VarHandle" ∧ (parseMethodDescriptor yX0_deliver.desc).map (fun d => d.parameters.length) = some 3 := by decide +kernel
theorem dd_X0_lose : yX0_lose.cls ≠ "java/lang/invoke/MethodHandle" ∧ yX0_lose.cls ≠ "java/lang/invoke/VarHandle" ∧ (parseMethodDescriptor yX0_lose.desc).map (fun d => d.parameters.length) = some 2 := by decide +kernel
theorem dd_X0_snapshot : yX0_snapshot.cls ≠ "java/lang/invoke/MethodHandle" ∧ yX0_snapshot.cls ≠ "java/lang/invoke/VarHandle" ∧ (parseMethodDescriptor yX0_snapshot.desc).map (fun d => d.parameters.length) = some 3 := by decide +kernel
theorem dd_X0_read : yX0_read.cls ≠ "java/lang/invoke/MethodHandle" ∧ yX0_read.cls ≠ "java/lang/invoke/VarHandle" ∧ (parseMethodDescriptor yX0_read.desc).map (fun d => d.parameters.length) = some 3 := by decide +kernel
theorem dd_X0_answer : yX0_answer.cls ≠ "java/lang/invoke/MethodHandle" ∧ yX0_answer.cls ≠ "java/lang/invoke/VarHandle" ∧ (parseMethodDescriptor yX0_answer.desc).map (fun d => d.parameters.length) = some 5 := by decide +kernel
theorem dd_X0_pair : yX0_pair.cls ≠ "java/lang/invoke/MethodHandle" ∧ yX0_pair.cls ≠ "java/lang/invoke/VarHandle" ∧ (parseMethodDescriptor yX0_pair.desc).map (fun d => d.parameters.length) = some 5 := by decide +kernel
theorem dd_X0_range : yX0_range.cls ≠ "java/lang/invoke/MethodHandle" ∧ yX0_range.cls ≠ "java/lang/invoke/VarHandle" ∧ (parseMethodDescriptor yX0_range.desc).map (fun d => d.parameters.length) = some 7 := by decide +kernel
theorem dd_X0_event : yX0_event.cls ≠ "java/lang/invoke/MethodHandle" ∧ yX0_event.cls ≠ "java/lang/invoke/VarHandle" ∧ (parseMethodDescriptor yX0_event.desc).map (fun d => d.parameters.length) = some 7 := by decide +kernel
theorem dd_X0_compact : yX0_compact.cls ≠ "java/lang/invoke/MethodHandle" ∧ yX0_compact.cls ≠ "java/lang/invoke/VarHandle" ∧ (parseMethodDescriptor yX0_compact.desc).map (fun d => d.parameters.length) = some 3 := by decide +kernel
theorem dd_X0_outcome : yX0_outcome.cls ≠ "java/lang/invoke/MethodHandle" ∧ yX0_outcome.cls ≠ "java/lang/invoke/VarHandle" ∧ (parseMethodDescriptor yX0_outcome.desc).map (fun d => d.parameters.length) = some 5 := by decide +kernel
theorem dd_X0_message : yX0_message.cls ≠ "java/lang/invoke/MethodHandle" ∧ yX0_message.cls ≠ "java/lang/invoke/VarHandle" ∧ (parseMethodDescriptor yX0_message.desc).map (fun d => d.parameters.length) = some 4 := by decide +kernel
theorem dd_X0_told : yX0_told.cls ≠ "java/lang/invoke/MethodHandle" ∧ yX0_told.cls ≠ "java/lang/invoke/VarHandle" ∧ (parseMethodDescriptor yX0_told.desc).map (fun d => d.parameters.length) = some 4 := by decide +kernel
theorem dd_X1_init : yX1_init.cls ≠ "java/lang/invoke/MethodHandle" ∧ yX1_init.cls ≠ "java/lang/invoke/VarHandle" ∧ (parseMethodDescriptor yX1_init.desc).map (fun d => d.parameters.length) = some 0 := by decide +kernel
theorem dd_X1_forget : yX1_forget.cls ≠ "java/lang/invoke/MethodHandle" ∧ yX1_forget.cls ≠ "java/lang/invoke/VarHandle" ∧ (parseMethodDescriptor yX1_forget.desc).map (fun d => d.parameters.length) = some 0 := by decide +kernel
theorem dd_X1_count : yX1_count.cls ≠ "java/lang/invoke/MethodHandle" ∧ yX1_count.cls ≠ "java/lang/invoke/VarHandle" ∧ (parseMethodDescriptor yX1_count.desc).map (fun d => d.parameters.length) = some 1 := by decide +kernel
theorem dd_X1_nodes : yX1_nodes.cls ≠ "java/lang/invoke/MethodHandle" ∧ yX1_nodes.cls ≠ "java/lang/invoke/VarHandle" ∧ (parseMethodDescriptor yX1_nodes.desc).map (fun d => d.parameters.length) = some 1 := by decide +kernel
theorem dd_X1_in : yX1_in.cls ≠ "java/lang/invoke/MethodHandle" ∧ yX1_in.cls ≠ "java/lang/invoke/VarHandle" ∧ (parseMethodDescriptor yX1_in.desc).map (fun d => d.parameters.length) = some 3 := by decide +kernel
theorem dd_X1_good : yX1_good.cls ≠ "java/lang/invoke/MethodHandle" ∧ yX1_good.cls ≠ "java/lang/invoke/VarHandle" ∧ (parseMethodDescriptor yX1_good.desc).map (fun d => d.parameters.length) = some 1 := by decide +kernel
theorem dd_X1_feed : yX1_feed.cls ≠ "java/lang/invoke/MethodHandle" ∧ yX1_feed.cls ≠ "java/lang/invoke/VarHandle" ∧ (parseMethodDescriptor yX1_feed.desc).map (fun d => d.parameters.length) = some 5 := by decide +kernel
theorem dd_X1_room : yX1_room.cls ≠ "java/lang/invoke/MethodHandle" ∧ yX1_room.cls ≠ "java/lang/invoke/VarHandle" ∧ (parseMethodDescriptor yX1_room.desc).map (fun d => d.parameters.length) = some 1 := by decide +kernel
theorem dd_X1_end : yX1_end.cls ≠ "java/lang/invoke/MethodHandle" ∧ yX1_end.cls ≠ "java/lang/invoke/VarHandle" ∧ (parseMethodDescriptor yX1_end.desc).map (fun d => d.parameters.length) = some 1 := by decide +kernel
theorem dd_X1_when : yX1_when.cls ≠ "java/lang/invoke/MethodHandle" ∧ yX1_when.cls ≠ "java/lang/invoke/VarHandle" ∧ (parseMethodDescriptor yX1_when.desc).map (fun d => d.parameters.length) = some 3 := by decide +kernel
theorem dd_X1_take : yX1_take.cls ≠ "java/lang/invoke/MethodHandle" ∧ yX1_take.cls ≠ "java/lang/invoke/VarHandle" ∧ (parseMethodDescriptor yX1_take.desc).map (fun d => d.parameters.length) = some 1 := by decide +kernel
theorem dd_X1_put : yX1_put.cls ≠ "java/lang/invoke/MethodHandle" ∧ yX1_put.cls ≠ "java/lang/invoke/VarHandle" ∧ (parseMethodDescriptor yX1_put.desc).map (fun d => d.parameters.length) = some 2 := by decide +kernel
theorem dd_X1_branch : yX1_branch.cls ≠ "java/lang/invoke/MethodHandle" ∧ yX1_branch.cls ≠ "java/lang/invoke/VarHandle" ∧ (parseMethodDescriptor yX1_branch.desc).map (fun d => d.parameters.length) = some 1 := by decide +kernel
theorem dd_X1_fits : yX1_fits.cls ≠ "java/lang/invoke/MethodHandle" ∧ yX1_fits.cls ≠ "java/lang/invoke/VarHandle" ∧ (parseMethodDescriptor yX1_fits.desc).map (fun d => d.parameters.length) = some 1 := by decide +kernel
theorem dd_X1_step : yX1_step.cls ≠ "java/lang/invoke/MethodHandle" ∧ yX1_step.cls ≠ "java/lang/invoke/VarHandle" ∧ (parseMethodDescriptor yX1_step.desc).map (fun d => d.parameters.length) = some 3 := by decide +kernel
theorem dd_X1_erase : yX1_erase.cls ≠ "java/lang/invoke/MethodHandle" ∧ yX1_erase.cls ≠ "java/lang/invoke/VarHandle" ∧ (parseMethodDescriptor yX1_erase.desc).map (fun d => d.parameters.length) = some 1 := by decide +kernel
theorem dd_X1_lease : yX1_lease.cls ≠ "java/lang/invoke/MethodHandle" ∧ yX1_lease.cls ≠ "java/lang/invoke/VarHandle" ∧ (parseMethodDescriptor yX1_lease.desc).map (fun d => d.parameters.length) = some 3 := by decide +kernel
theorem dd_X1_propose : yX1_propose.cls ≠ "java/lang/invoke/MethodHandle" ∧ yX1_propose.cls ≠ "java/lang/invoke/VarHandle" ∧ (parseMethodDescriptor yX1_propose.desc).map (fun d => d.parameters.length) = some 1 := by decide +kernel
theorem dd_X1_up : yX1_up.cls ≠ "java/lang/invoke/MethodHandle" ∧ yX1_up.cls ≠ "java/lang/invoke/VarHandle" ∧ (parseMethodDescriptor yX1_up.desc).map (fun d => d.parameters.length) = some 1 := by decide +kernel
theorem dd_X1_node : yX1_node.cls ≠ "java/lang/invoke/MethodHandle" ∧ yX1_node.cls ≠ "java/lang/invoke/VarHandle" ∧ (parseMethodDescriptor yX1_node.desc).map (fun d => d.parameters.length) = some 1 := by decide +kernel
theorem dd_X1_there : yX1_there.cls ≠ "java/lang/invoke/MethodHandle" ∧ yX1_there.cls ≠ "java/lang/invoke/VarHandle" ∧ (parseMethodDescriptor yX1_there.desc).map (fun d => d.parameters.length) = some 1 := by decide +kernel
theorem dd_X1_allowed : yX1_allowed.cls ≠ "java/lang/invoke/MethodHandle" ∧ yX1_allowed.cls ≠ "java/lang/invoke/VarHandle" ∧ (parseMethodDescriptor yX1_allowed.desc).map (fun d => d.parameters.length) = some 1 := by decide +kernel
theorem dd_X1_rise : yX1_rise.cls ≠ "java/lang/invoke/MethodHandle" ∧ yX1_rise.cls ≠ "java/lang/invoke/VarHandle" ∧ (parseMethodDescriptor yX1_rise.desc).map (fun d => d.parameters.length) = some 1 := by decide +kernel
theorem dd_X1_beat : yX1_beat.cls ≠ "java/lang/invoke/MethodHandle" ∧ yX1_beat.cls ≠ "java/lang/invoke/VarHandle" ∧ (parseMethodDescriptor yX1_beat.desc).map (fun d => d.parameters.length) = some 1 := by decide +kernel
theorem dd_X1_sync : yX1_sync.cls ≠ "java/lang/invoke/MethodHandle" ∧ yX1_sync.cls ≠ "java/lang/invoke/VarHandle" ∧ (parseMethodDescriptor yX1_sync.desc).map (fun d => d.parameters.length) = some 1 := by decide +kernel
theorem dd_X1_crash : yX1_crash.cls ≠ "java/lang/invoke/MethodHandle" ∧ yX1_crash.cls ≠ "java/lang/invoke/VarHandle" ∧ (parseMethodDescriptor yX1_crash.desc).map (fun d => d.parameters.length) = some 2 := by decide +kernel
theorem dd_X1_start : yX1_start.cls ≠ "java/lang/invoke/MethodHandle" ∧ yX1_start.cls ≠ "java/lang/invoke/VarHandle" ∧ (parseMethodDescriptor yX1_start.desc).map (fun d => d.parameters.length) = some 1 := by decide +kernel
theorem dd_X1_deliver : yX1_deliver.cls ≠ "java/lang/invoke/MethodHandle" ∧ yX1_deliver.cls ≠ "java/lang/invoke/VarHandle" ∧ (parseMethodDescriptor yX1_deliver.desc).map (fun d => d.parameters.length) = some 2 := by decide +kernel
theorem dd_X1_lose : yX1_lose.cls ≠ "java/lang/invoke/MethodHandle" ∧ yX1_lose.cls ≠ "java/lang/invoke/VarHandle" ∧ (parseMethodDescriptor yX1_lose.desc).map (fun d => d.parameters.length) = some 1 := by decide +kernel
theorem dd_X1_snapshot : yX1_snapshot.cls ≠ "java/lang/invoke/MethodHandle" ∧ yX1_snapshot.cls ≠ "java/lang/invoke/VarHandle" ∧ (parseMethodDescriptor yX1_snapshot.desc).map (fun d => d.parameters.length) = some 1 := by decide +kernel
theorem dd_X1_read : yX1_read.cls ≠ "java/lang/invoke/MethodHandle" ∧ yX1_read.cls ≠ "java/lang/invoke/VarHandle" ∧ (parseMethodDescriptor yX1_read.desc).map (fun d => d.parameters.length) = some 1 := by decide +kernel
theorem dd_X1_answer : yX1_answer.cls ≠ "java/lang/invoke/MethodHandle" ∧ yX1_answer.cls ≠ "java/lang/invoke/VarHandle" ∧ (parseMethodDescriptor yX1_answer.desc).map (fun d => d.parameters.length) = some 3 := by decide +kernel
theorem dd_X1_pair : yX1_pair.cls ≠ "java/lang/invoke/MethodHandle" ∧ yX1_pair.cls ≠ "java/lang/invoke/VarHandle" ∧ (parseMethodDescriptor yX1_pair.desc).map (fun d => d.parameters.length) = some 3 := by decide +kernel
theorem dd_X1_stateAt : yX1_stateAt.cls ≠ "java/lang/invoke/MethodHandle" ∧ yX1_stateAt.cls ≠ "java/lang/invoke/VarHandle" ∧ (parseMethodDescriptor yX1_stateAt.desc).map (fun d => d.parameters.length) = some 2 := by decide +kernel
theorem dd_X1_range : yX1_range.cls ≠ "java/lang/invoke/MethodHandle" ∧ yX1_range.cls ≠ "java/lang/invoke/VarHandle" ∧ (parseMethodDescriptor yX1_range.desc).map (fun d => d.parameters.length) = some 5 := by decide +kernel
theorem dd_X1_letter : yX1_letter.cls ≠ "java/lang/invoke/MethodHandle" ∧ yX1_letter.cls ≠ "java/lang/invoke/VarHandle" ∧ (parseMethodDescriptor yX1_letter.desc).map (fun d => d.parameters.length) = some 3 := by decide +kernel
theorem dd_X1_event : yX1_event.cls ≠ "java/lang/invoke/MethodHandle" ∧ yX1_event.cls ≠ "java/lang/invoke/VarHandle" ∧ (parseMethodDescriptor yX1_event.desc).map (fun d => d.parameters.length) = some 5 := by decide +kernel
theorem dd_X1_compact : yX1_compact.cls ≠ "java/lang/invoke/MethodHandle" ∧ yX1_compact.cls ≠ "java/lang/invoke/VarHandle" ∧ (parseMethodDescriptor yX1_compact.desc).map (fun d => d.parameters.length) = some 2 := by decide +kernel
theorem dd_X1_outcome : yX1_outcome.cls ≠ "java/lang/invoke/MethodHandle" ∧ yX1_outcome.cls ≠ "java/lang/invoke/VarHandle" ∧ (parseMethodDescriptor yX1_outcome.desc).map (fun d => d.parameters.length) = some 3 := by decide +kernel
theorem dd_X1_message : yX1_message.cls ≠ "java/lang/invoke/MethodHandle" ∧ yX1_message.cls ≠ "java/lang/invoke/VarHandle" ∧ (parseMethodDescriptor yX1_message.desc).map (fun d => d.parameters.length) = some 2 := by decide +kernel
theorem dd_X1_told : yX1_told.cls ≠ "java/lang/invoke/MethodHandle" ∧ yX1_told.cls ≠ "java/lang/invoke/VarHandle" ∧ (parseMethodDescriptor yX1_told.desc).map (fun d => d.parameters.length) = some 2 := by decide +kernel
theorem dd_X1_more : yX1_more.cls ≠ "java/lang/invoke/MethodHandle" ∧ yX1_more.cls ≠ "java/lang/invoke/VarHandle" ∧ (parseMethodDescriptor yX1_more.desc).map (fun d => d.parameters.length) = some 2 := by decide +kernel
theorem dd_X2_init : yX2_init.cls ≠ "java/lang/invoke/MethodHandle" ∧ yX2_init.cls ≠ "java/lang/invoke/VarHandle" ∧ (parseMethodDescriptor yX2_init.desc).map (fun d => d.parameters.length) = some 0 := by decide +kernel
theorem dd_X2_clear : yX2_clear.cls ≠ "java/lang/invoke/MethodHandle" ∧ yX2_clear.cls ≠ "java/lang/invoke/VarHandle" ∧ (parseMethodDescriptor yX2_clear.desc).map (fun d => d.parameters.length) = some 1 := by decide +kernel
theorem dd_X2_leads : yX2_leads.cls ≠ "java/lang/invoke/MethodHandle" ∧ yX2_leads.cls ≠ "java/lang/invoke/VarHandle" ∧ (parseMethodDescriptor yX2_leads.desc).map (fun d => d.parameters.length) = some 2 := by decide +kernel
theorem dd_X2_applies : yX2_applies.cls ≠ "java/lang/invoke/MethodHandle" ∧ yX2_applies.cls ≠ "java/lang/invoke/VarHandle" ∧ (parseMethodDescriptor yX2_applies.desc).map (fun d => d.parameters.length) = some 2 := by decide +kernel
theorem dd_X3_init : yX3_init.cls ≠ "java/lang/invoke/MethodHandle" ∧ yX3_init.cls ≠ "java/lang/invoke/VarHandle" ∧ (parseMethodDescriptor yX3_init.desc).map (fun d => d.parameters.length) = some 0 := by decide +kernel
theorem dd_X3_clear : yX3_clear.cls ≠ "java/lang/invoke/MethodHandle" ∧ yX3_clear.cls ≠ "java/lang/invoke/VarHandle" ∧ (parseMethodDescriptor yX3_clear.desc).map (fun d => d.parameters.length) = some 0 := by decide +kernel
theorem dd_X3_many : yX3_many.cls ≠ "java/lang/invoke/MethodHandle" ∧ yX3_many.cls ≠ "java/lang/invoke/VarHandle" ∧ (parseMethodDescriptor yX3_many.desc).map (fun d => d.parameters.length) = some 0 := by decide +kernel
theorem dd_X3_fits : yX3_fits.cls ≠ "java/lang/invoke/MethodHandle" ∧ yX3_fits.cls ≠ "java/lang/invoke/VarHandle" ∧ (parseMethodDescriptor yX3_fits.desc).map (fun d => d.parameters.length) = some 2 := by decide +kernel
theorem dd_X3_add : yX3_add.cls ≠ "java/lang/invoke/MethodHandle" ∧ yX3_add.cls ≠ "java/lang/invoke/VarHandle" ∧ (parseMethodDescriptor yX3_add.desc).map (fun d => d.parameters.length) = some 1 := by decide +kernel
theorem dd_X3_take : yX3_take.cls ≠ "java/lang/invoke/MethodHandle" ∧ yX3_take.cls ≠ "java/lang/invoke/VarHandle" ∧ (parseMethodDescriptor yX3_take.desc).map (fun d => d.parameters.length) = some 3 := by decide +kernel
theorem dd_X3_empty : yX3_empty.cls ≠ "java/lang/invoke/MethodHandle" ∧ yX3_empty.cls ≠ "java/lang/invoke/VarHandle" ∧ (parseMethodDescriptor yX3_empty.desc).map (fun d => d.parameters.length) = some 0 := by decide +kernel
theorem dd_X3_begin : yX3_begin.cls ≠ "java/lang/invoke/MethodHandle" ∧ yX3_begin.cls ≠ "java/lang/invoke/VarHandle" ∧ (parseMethodDescriptor yX3_begin.desc).map (fun d => d.parameters.length) = some 2 := by decide +kernel
theorem dd_X3_end : yX3_end.cls ≠ "java/lang/invoke/MethodHandle" ∧ yX3_end.cls ≠ "java/lang/invoke/VarHandle" ∧ (parseMethodDescriptor yX3_end.desc).map (fun d => d.parameters.length) = some 2 := by decide +kernel
theorem dd_X3_get : yX3_get.cls ≠ "java/lang/invoke/MethodHandle" ∧ yX3_get.cls ≠ "java/lang/invoke/VarHandle" ∧ (parseMethodDescriptor yX3_get.desc).map (fun d => d.parameters.length) = some 1 := by decide +kernel
theorem dd_X4_init : yX4_init.cls ≠ "java/lang/invoke/MethodHandle" ∧ yX4_init.cls ≠ "java/lang/invoke/VarHandle" ∧ (parseMethodDescriptor yX4_init.desc).map (fun d => d.parameters.length) = some 1 := by decide +kernel
theorem dd_X4_clear : yX4_clear.cls ≠ "java/lang/invoke/MethodHandle" ∧ yX4_clear.cls ≠ "java/lang/invoke/VarHandle" ∧ (parseMethodDescriptor yX4_clear.desc).map (fun d => d.parameters.length) = some 0 := by decide +kernel
theorem dd_X4_add : yX4_add.cls ≠ "java/lang/invoke/MethodHandle" ∧ yX4_add.cls ≠ "java/lang/invoke/VarHandle" ∧ (parseMethodDescriptor yX4_add.desc).map (fun d => d.parameters.length) = some 1 := by decide +kernel
theorem dd_X4_addInt : yX4_addInt.cls ≠ "java/lang/invoke/MethodHandle" ∧ yX4_addInt.cls ≠ "java/lang/invoke/VarHandle" ∧ (parseMethodDescriptor yX4_addInt.desc).map (fun d => d.parameters.length) = some 1 := by decide +kernel
theorem dd_X4_addAll : yX4_addAll.cls ≠ "java/lang/invoke/MethodHandle" ∧ yX4_addAll.cls ≠ "java/lang/invoke/VarHandle" ∧ (parseMethodDescriptor yX4_addAll.desc).map (fun d => d.parameters.length) = some 3 := by decide +kernel
theorem dd_X4_compare : yX4_compare.cls ≠ "java/lang/invoke/MethodHandle" ∧ yX4_compare.cls ≠ "java/lang/invoke/VarHandle" ∧ (parseMethodDescriptor yX4_compare.desc).map (fun d => d.parameters.length) = some 4 := by decide +kernel
theorem dd_X4_get : yX4_get.cls ≠ "java/lang/invoke/MethodHandle" ∧ yX4_get.cls ≠ "java/lang/invoke/VarHandle" ∧ (parseMethodDescriptor yX4_get.desc).map (fun d => d.parameters.length) = some 1 := by decide +kernel
theorem dd_X5_init : yX5_init.cls ≠ "java/lang/invoke/MethodHandle" ∧ yX5_init.cls ≠ "java/lang/invoke/VarHandle" ∧ (parseMethodDescriptor yX5_init.desc).map (fun d => d.parameters.length) = some 1 := by decide +kernel
theorem dd_X5_clear : yX5_clear.cls ≠ "java/lang/invoke/MethodHandle" ∧ yX5_clear.cls ≠ "java/lang/invoke/VarHandle" ∧ (parseMethodDescriptor yX5_clear.desc).map (fun d => d.parameters.length) = some 0 := by decide +kernel
theorem dd_X5_add : yX5_add.cls ≠ "java/lang/invoke/MethodHandle" ∧ yX5_add.cls ≠ "java/lang/invoke/VarHandle" ∧ (parseMethodDescriptor yX5_add.desc).map (fun d => d.parameters.length) = some 1 := by decide +kernel
theorem dd_X5_get : yX5_get.cls ≠ "java/lang/invoke/MethodHandle" ∧ yX5_get.cls ≠ "java/lang/invoke/VarHandle" ∧ (parseMethodDescriptor yX5_get.desc).map (fun d => d.parameters.length) = some 1 := by decide +kernel
theorem dd_X5_set : yX5_set.cls ≠ "java/lang/invoke/MethodHandle" ∧ yX5_set.cls ≠ "java/lang/invoke/VarHandle" ∧ (parseMethodDescriptor yX5_set.desc).map (fun d => d.parameters.length) = some 2 := by decide +kernel
theorem dd_X5_copy : yX5_copy.cls ≠ "java/lang/invoke/MethodHandle" ∧ yX5_copy.cls ≠ "java/lang/invoke/VarHandle" ∧ (parseMethodDescriptor yX5_copy.desc).map (fun d => d.parameters.length) = some 1 := by decide +kernel
theorem dd_X5_fit : yX5_fit.cls ≠ "java/lang/invoke/MethodHandle" ∧ yX5_fit.cls ≠ "java/lang/invoke/VarHandle" ∧ (parseMethodDescriptor yX5_fit.desc).map (fun d => d.parameters.length) = some 2 := by decide +kernel
theorem dd_X5_shift : yX5_shift.cls ≠ "java/lang/invoke/MethodHandle" ∧ yX5_shift.cls ≠ "java/lang/invoke/VarHandle" ∧ (parseMethodDescriptor yX5_shift.desc).map (fun d => d.parameters.length) = some 1 := by decide +kernel
theorem dd_X6_init : yX6_init.cls ≠ "java/lang/invoke/MethodHandle" ∧ yX6_init.cls ≠ "java/lang/invoke/VarHandle" ∧ (parseMethodDescriptor yX6_init.desc).map (fun d => d.parameters.length) = some 0 := by decide +kernel
theorem dd_X6_clear : yX6_clear.cls ≠ "java/lang/invoke/MethodHandle" ∧ yX6_clear.cls ≠ "java/lang/invoke/VarHandle" ∧ (parseMethodDescriptor yX6_clear.desc).map (fun d => d.parameters.length) = some 0 := by decide +kernel
theorem dd_X6_add : yX6_add.cls ≠ "java/lang/invoke/MethodHandle" ∧ yX6_add.cls ≠ "java/lang/invoke/VarHandle" ∧ (parseMethodDescriptor yX6_add.desc).map (fun d => d.parameters.length) = some 2 := by decide +kernel
theorem dd_X7_init : yX7_init.cls ≠ "java/lang/invoke/MethodHandle" ∧ yX7_init.cls ≠ "java/lang/invoke/VarHandle" ∧ (parseMethodDescriptor yX7_init.desc).map (fun d => d.parameters.length) = some 1 := by decide +kernel
theorem dd_X7_clear : yX7_clear.cls ≠ "java/lang/invoke/MethodHandle" ∧ yX7_clear.cls ≠ "java/lang/invoke/VarHandle" ∧ (parseMethodDescriptor yX7_clear.desc).map (fun d => d.parameters.length) = some 0 := by decide +kernel
theorem dd_X7_enter : yX7_enter.cls ≠ "java/lang/invoke/MethodHandle" ∧ yX7_enter.cls ≠ "java/lang/invoke/VarHandle" ∧ (parseMethodDescriptor yX7_enter.desc).map (fun d => d.parameters.length) = some 6 := by decide +kernel
theorem dd_X7_zero : yX7_zero.cls ≠ "java/lang/invoke/MethodHandle" ∧ yX7_zero.cls ≠ "java/lang/invoke/VarHandle" ∧ (parseMethodDescriptor yX7_zero.desc).map (fun d => d.parameters.length) = some 1 := by decide +kernel
theorem dd_X7_apply : yX7_apply.cls ≠ "java/lang/invoke/MethodHandle" ∧ yX7_apply.cls ≠ "java/lang/invoke/VarHandle" ∧ (parseMethodDescriptor yX7_apply.desc).map (fun d => d.parameters.length) = some 2 := by decide +kernel
theorem dd_X7_holds : yX7_holds.cls ≠ "java/lang/invoke/MethodHandle" ∧ yX7_holds.cls ≠ "java/lang/invoke/VarHandle" ∧ (parseMethodDescriptor yX7_holds.desc).map (fun d => d.parameters.length) = some 2 := by decide +kernel
theorem dd_X7_find : yX7_find.cls ≠ "java/lang/invoke/MethodHandle" ∧ yX7_find.cls ≠ "java/lang/invoke/VarHandle" ∧ (parseMethodDescriptor yX7_find.desc).map (fun d => d.parameters.length) = some 3 := by decide +kernel
theorem dd_X7_changeFrom : yX7_changeFrom.cls ≠ "java/lang/invoke/MethodHandle" ∧ yX7_changeFrom.cls ≠ "java/lang/invoke/VarHandle" ∧ (parseMethodDescriptor yX7_changeFrom.desc).map (fun d => d.parameters.length) = some 1 := by decide +kernel
theorem dd_X7_step : yX7_step.cls ≠ "java/lang/invoke/MethodHandle" ∧ yX7_step.cls ≠ "java/lang/invoke/VarHandle" ∧ (parseMethodDescriptor yX7_step.desc).map (fun d => d.parameters.length) = some 2 := by decide +kernel
theorem dd_X7_put : yX7_put.cls ≠ "java/lang/invoke/MethodHandle" ∧ yX7_put.cls ≠ "java/lang/invoke/VarHandle" ∧ (parseMethodDescriptor yX7_put.desc).map (fun d => d.parameters.length) = some 3 := by decide +kernel
theorem dd_X7_hasLease : yX7_hasLease.cls ≠ "java/lang/invoke/MethodHandle" ∧ yX7_hasLease.cls ≠ "java/lang/invoke/VarHandle" ∧ (parseMethodDescriptor yX7_hasLease.desc).map (fun d => d.parameters.length) = some 1 := by decide +kernel
theorem dd_X7_now : yX7_now.cls ≠ "java/lang/invoke/MethodHandle" ∧ yX7_now.cls ≠ "java/lang/invoke/VarHandle" ∧ (parseMethodDescriptor yX7_now.desc).map (fun d => d.parameters.length) = some 3 := by decide +kernel
theorem dd_X7_place : yX7_place.cls ≠ "java/lang/invoke/MethodHandle" ∧ yX7_place.cls ≠ "java/lang/invoke/VarHandle" ∧ (parseMethodDescriptor yX7_place.desc).map (fun d => d.parameters.length) = some 3 := by decide +kernel
theorem dd_X7_delete : yX7_delete.cls ≠ "java/lang/invoke/MethodHandle" ∧ yX7_delete.cls ≠ "java/lang/invoke/VarHandle" ∧ (parseMethodDescriptor yX7_delete.desc).map (fun d => d.parameters.length) = some 6 := by decide +kernel
theorem dd_X7_range : yX7_range.cls ≠ "java/lang/invoke/MethodHandle" ∧ yX7_range.cls ≠ "java/lang/invoke/VarHandle" ∧ (parseMethodDescriptor yX7_range.desc).map (fun d => d.parameters.length) = some 6 := by decide +kernel
theorem dd_X7_isIn : yX7_isIn.cls ≠ "java/lang/invoke/MethodHandle" ∧ yX7_isIn.cls ≠ "java/lang/invoke/VarHandle" ∧ (parseMethodDescriptor yX7_isIn.desc).map (fun d => d.parameters.length) = some 5 := by decide +kernel
theorem dd_X7_turnLease : yX7_turnLease.cls ≠ "java/lang/invoke/MethodHandle" ∧ yX7_turnLease.cls ≠ "java/lang/invoke/VarHandle" ∧ (parseMethodDescriptor yX7_turnLease.desc).map (fun d => d.parameters.length) = some 1 := by decide +kernel
theorem dd_X7_finish : yX7_finish.cls ≠ "java/lang/invoke/MethodHandle" ∧ yX7_finish.cls ≠ "java/lang/invoke/VarHandle" ∧ (parseMethodDescriptor yX7_finish.desc).map (fun d => d.parameters.length) = some 4 := by decide +kernel
theorem dd_X7_revision : yX7_revision.cls ≠ "java/lang/invoke/MethodHandle" ∧ yX7_revision.cls ≠ "java/lang/invoke/VarHandle" ∧ (parseMethodDescriptor yX7_revision.desc).map (fun d => d.parameters.length) = some 1 := by decide +kernel
theorem dd_X7_at : yX7_at.cls ≠ "java/lang/invoke/MethodHandle" ∧ yX7_at.cls ≠ "java/lang/invoke/VarHandle" ∧ (parseMethodDescriptor yX7_at.desc).map (fun d => d.parameters.length) = some 2 := by decide +kernel
theorem dd_X7_maker : yX7_maker.cls ≠ "java/lang/invoke/MethodHandle" ∧ yX7_maker.cls ≠ "java/lang/invoke/VarHandle" ∧ (parseMethodDescriptor yX7_maker.desc).map (fun d => d.parameters.length) = some 2 := by decide +kernel
theorem dd_X7_changes : yX7_changes.cls ≠ "java/lang/invoke/MethodHandle" ∧ yX7_changes.cls ≠ "java/lang/invoke/VarHandle" ∧ (parseMethodDescriptor yX7_changes.desc).map (fun d => d.parameters.length) = some 1 := by decide +kernel
theorem dd_X7_change : yX7_change.cls ≠ "java/lang/invoke/MethodHandle" ∧ yX7_change.cls ≠ "java/lang/invoke/VarHandle" ∧ (parseMethodDescriptor yX7_change.desc).map (fun d => d.parameters.length) = some 2 := by decide +kernel
theorem dd_X7_outcome : yX7_outcome.cls ≠ "java/lang/invoke/MethodHandle" ∧ yX7_outcome.cls ≠ "java/lang/invoke/VarHandle" ∧ (parseMethodDescriptor yX7_outcome.desc).map (fun d => d.parameters.length) = some 1 := by decide +kernel
theorem dd_X7_deleted : yX7_deleted.cls ≠ "java/lang/invoke/MethodHandle" ∧ yX7_deleted.cls ≠ "java/lang/invoke/VarHandle" ∧ (parseMethodDescriptor yX7_deleted.desc).map (fun d => d.parameters.length) = some 1 := by decide +kernel
theorem dd_X7_count : yX7_count.cls ≠ "java/lang/invoke/MethodHandle" ∧ yX7_count.cls ≠ "java/lang/invoke/VarHandle" ∧ (parseMethodDescriptor yX7_count.desc).map (fun d => d.parameters.length) = some 1 := by decide +kernel
theorem dd_X7_leases : yX7_leases.cls ≠ "java/lang/invoke/MethodHandle" ∧ yX7_leases.cls ≠ "java/lang/invoke/VarHandle" ∧ (parseMethodDescriptor yX7_leases.desc).map (fun d => d.parameters.length) = some 1 := by decide +kernel
theorem dd_X8_init : yX8_init.cls ≠ "java/lang/invoke/MethodHandle" ∧ yX8_init.cls ≠ "java/lang/invoke/VarHandle" ∧ (parseMethodDescriptor yX8_init.desc).map (fun d => d.parameters.length) = some 0 := by decide +kernel
theorem dd_X8_clear : yX8_clear.cls ≠ "java/lang/invoke/MethodHandle" ∧ yX8_clear.cls ≠ "java/lang/invoke/VarHandle" ∧ (parseMethodDescriptor yX8_clear.desc).map (fun d => d.parameters.length) = some 0 := by decide +kernel
theorem dd_X8_get : yX8_get.cls ≠ "java/lang/invoke/MethodHandle" ∧ yX8_get.cls ≠ "java/lang/invoke/VarHandle" ∧ (parseMethodDescriptor yX8_get.desc).map (fun d => d.parameters.length) = some 1 := by decide +kernel
theorem dd_X8_add : yX8_add.cls ≠ "java/lang/invoke/MethodHandle" ∧ yX8_add.cls ≠ "java/lang/invoke/VarHandle" ∧ (parseMethodDescriptor yX8_add.desc).map (fun d => d.parameters.length) = some 0 := by decide +kernel
theorem dd_X9_init : yX9_init.cls ≠ "java/lang/invoke/MethodHandle" ∧ yX9_init.cls ≠ "java/lang/invoke/VarHandle" ∧ (parseMethodDescriptor yX9_init.desc).map (fun d => d.parameters.length) = some 0 := by decide +kernel
theorem dd_X9_copy : yX9_copy.cls ≠ "java/lang/invoke/MethodHandle" ∧ yX9_copy.cls ≠ "java/lang/invoke/VarHandle" ∧ (parseMethodDescriptor yX9_copy.desc).map (fun d => d.parameters.length) = some 1 := by decide +kernel
theorem dd_X10_init : yX10_init.cls ≠ "java/lang/invoke/MethodHandle" ∧ yX10_init.cls ≠ "java/lang/invoke/VarHandle" ∧ (parseMethodDescriptor yX10_init.desc).map (fun d => d.parameters.length) = some 0 := by decide +kernel
theorem dd_X10_clear : yX10_clear.cls ≠ "java/lang/invoke/MethodHandle" ∧ yX10_clear.cls ≠ "java/lang/invoke/VarHandle" ∧ (parseMethodDescriptor yX10_clear.desc).map (fun d => d.parameters.length) = some 0 := by decide +kernel
theorem dd_X10_lost : yX10_lost.cls ≠ "java/lang/invoke/MethodHandle" ∧ yX10_lost.cls ≠ "java/lang/invoke/VarHandle" ∧ (parseMethodDescriptor yX10_lost.desc).map (fun d => d.parameters.length) = some 0 := by decide +kernel
theorem dd_X10_leave : yX10_leave.cls ≠ "java/lang/invoke/MethodHandle" ∧ yX10_leave.cls ≠ "java/lang/invoke/VarHandle" ∧ (parseMethodDescriptor yX10_leave.desc).map (fun d => d.parameters.length) = some 1 := by decide +kernel
theorem dd_X10_take : yX10_take.cls ≠ "java/lang/invoke/MethodHandle" ∧ yX10_take.cls ≠ "java/lang/invoke/VarHandle" ∧ (parseMethodDescriptor yX10_take.desc).map (fun d => d.parameters.length) = some 0 := by decide +kernel
theorem dd_X10_send : yX10_send.cls ≠ "java/lang/invoke/MethodHandle" ∧ yX10_send.cls ≠ "java/lang/invoke/VarHandle" ∧ (parseMethodDescriptor yX10_send.desc).map (fun d => d.parameters.length) = some 1 := by decide +kernel
theorem dd_X11_init : yX11_init.cls ≠ "java/lang/invoke/MethodHandle" ∧ yX11_init.cls ≠ "java/lang/invoke/VarHandle" ∧ (parseMethodDescriptor yX11_init.desc).map (fun d => d.parameters.length) = some 0 := by decide +kernel
theorem dd_X11_pop : yX11_pop.cls ≠ "java/lang/invoke/MethodHandle" ∧ yX11_pop.cls ≠ "java/lang/invoke/VarHandle" ∧ (parseMethodDescriptor yX11_pop.desc).map (fun d => d.parameters.length) = some 0 := by decide +kernel
theorem dd_X11_add : yX11_add.cls ≠ "java/lang/invoke/MethodHandle" ∧ yX11_add.cls ≠ "java/lang/invoke/VarHandle" ∧ (parseMethodDescriptor yX11_add.desc).map (fun d => d.parameters.length) = some 1 := by decide +kernel
theorem dd_X11_get : yX11_get.cls ≠ "java/lang/invoke/MethodHandle" ∧ yX11_get.cls ≠ "java/lang/invoke/VarHandle" ∧ (parseMethodDescriptor yX11_get.desc).map (fun d => d.parameters.length) = some 1 := by decide +kernel
theorem dd_X11_remove : yX11_remove.cls ≠ "java/lang/invoke/MethodHandle" ∧ yX11_remove.cls ≠ "java/lang/invoke/VarHandle" ∧ (parseMethodDescriptor yX11_remove.desc).map (fun d => d.parameters.length) = some 1 := by decide +kernel
theorem dd_X12_init : yX12_init.cls ≠ "java/lang/invoke/MethodHandle" ∧ yX12_init.cls ≠ "java/lang/invoke/VarHandle" ∧ (parseMethodDescriptor yX12_init.desc).map (fun d => d.parameters.length) = some 0 := by decide +kernel
theorem dd_X12_clear : yX12_clear.cls ≠ "java/lang/invoke/MethodHandle" ∧ yX12_clear.cls ≠ "java/lang/invoke/VarHandle" ∧ (parseMethodDescriptor yX12_clear.desc).map (fun d => d.parameters.length) = some 0 := by decide +kernel
theorem dd_X12_size : yX12_size.cls ≠ "java/lang/invoke/MethodHandle" ∧ yX12_size.cls ≠ "java/lang/invoke/VarHandle" ∧ (parseMethodDescriptor yX12_size.desc).map (fun d => d.parameters.length) = some 0 := by decide +kernel
theorem dd_X12_letters : yX12_letters.cls ≠ "java/lang/invoke/MethodHandle" ∧ yX12_letters.cls ≠ "java/lang/invoke/VarHandle" ∧ (parseMethodDescriptor yX12_letters.desc).map (fun d => d.parameters.length) = some 2 := by decide +kernel
theorem dd_X13_init : yX13_init.cls ≠ "java/lang/invoke/MethodHandle" ∧ yX13_init.cls ≠ "java/lang/invoke/VarHandle" ∧ (parseMethodDescriptor yX13_init.desc).map (fun d => d.parameters.length) = some 2 := by decide +kernel
theorem dd_X13_clear : yX13_clear.cls ≠ "java/lang/invoke/MethodHandle" ∧ yX13_clear.cls ≠ "java/lang/invoke/VarHandle" ∧ (parseMethodDescriptor yX13_clear.desc).map (fun d => d.parameters.length) = some 0 := by decide +kernel
theorem dd_X13_rise : yX13_rise.cls ≠ "java/lang/invoke/MethodHandle" ∧ yX13_rise.cls ≠ "java/lang/invoke/VarHandle" ∧ (parseMethodDescriptor yX13_rise.desc).map (fun d => d.parameters.length) = some 0 := by decide +kernel
theorem dd_X13_whole : yX13_whole.cls ≠ "java/lang/invoke/MethodHandle" ∧ yX13_whole.cls ≠ "java/lang/invoke/VarHandle" ∧ (parseMethodDescriptor yX13_whole.desc).map (fun d => d.parameters.length) = some 0 := by decide +kernel
theorem dd_X13_forgetReads : yX13_forgetReads.cls ≠ "java/lang/invoke/MethodHandle" ∧ yX13_forgetReads.cls ≠ "java/lang/invoke/VarHandle" ∧ (parseMethodDescriptor yX13_forgetReads.desc).map (fun d => d.parameters.length) = some 0 := by decide +kernel
theorem dd_X13_add : yX13_add.cls ≠ "java/lang/invoke/MethodHandle" ∧ yX13_add.cls ≠ "java/lang/invoke/VarHandle" ∧ (parseMethodDescriptor yX13_add.desc).map (fun d => d.parameters.length) = some 1 := by decide +kernel
theorem dd_X13_put : yX13_put.cls ≠ "java/lang/invoke/MethodHandle" ∧ yX13_put.cls ≠ "java/lang/invoke/VarHandle" ∧ (parseMethodDescriptor yX13_put.desc).map (fun d => d.parameters.length) = some 2 := by decide +kernel
theorem dd_X13_tellAll : yX13_tellAll.cls ≠ "java/lang/invoke/MethodHandle" ∧ yX13_tellAll.cls ≠ "java/lang/invoke/VarHandle" ∧ (parseMethodDescriptor yX13_tellAll.desc).map (fun d => d.parameters.length) = some 0 := by decide +kernel
theorem dd_X13_tell : yX13_tell.cls ≠ "java/lang/invoke/MethodHandle" ∧ yX13_tell.cls ≠ "java/lang/invoke/VarHandle" ∧ (parseMethodDescriptor yX13_tell.desc).map (fun d => d.parameters.length) = some 1 := by decide +kernel
theorem dd_X13_message : yX13_message.cls ≠ "java/lang/invoke/MethodHandle" ∧ yX13_message.cls ≠ "java/lang/invoke/VarHandle" ∧ (parseMethodDescriptor yX13_message.desc).map (fun d => d.parameters.length) = some 2 := by decide +kernel
theorem dd_X13_send : yX13_send.cls ≠ "java/lang/invoke/MethodHandle" ∧ yX13_send.cls ≠ "java/lang/invoke/VarHandle" ∧ (parseMethodDescriptor yX13_send.desc).map (fun d => d.parameters.length) = some 1 := by decide +kernel
theorem dd_X13_stand : yX13_stand.cls ≠ "java/lang/invoke/MethodHandle" ∧ yX13_stand.cls ≠ "java/lang/invoke/VarHandle" ∧ (parseMethodDescriptor yX13_stand.desc).map (fun d => d.parameters.length) = some 0 := by decide +kernel
theorem dd_X13_setTerm : yX13_setTerm.cls ≠ "java/lang/invoke/MethodHandle" ∧ yX13_setTerm.cls ≠ "java/lang/invoke/VarHandle" ∧ (parseMethodDescriptor yX13_setTerm.desc).map (fun d => d.parameters.length) = some 2 := by decide +kernel
theorem dd_X13_isMajority : yX13_isMajority.cls ≠ "java/lang/invoke/MethodHandle" ∧ yX13_isMajority.cls ≠ "java/lang/invoke/VarHandle" ∧ (parseMethodDescriptor yX13_isMajority.desc).map (fun d => d.parameters.length) = some 1 := by decide +kernel
theorem dd_X13_lead : yX13_lead.cls ≠ "java/lang/invoke/MethodHandle" ∧ yX13_lead.cls ≠ "java/lang/invoke/VarHandle" ∧ (parseMethodDescriptor yX13_lead.desc).map (fun d => d.parameters.length) = some 0 := by decide +kernel
theorem dd_X13_sync : yX13_sync.cls ≠ "java/lang/invoke/MethodHandle" ∧ yX13_sync.cls ≠ "java/lang/invoke/VarHandle" ∧ (parseMethodDescriptor yX13_sync.desc).map (fun d => d.parameters.length) = some 0 := by decide +kernel
theorem dd_X13_lookForCommit : yX13_lookForCommit.cls ≠ "java/lang/invoke/MethodHandle" ∧ yX13_lookForCommit.cls ≠ "java/lang/invoke/VarHandle" ∧ (parseMethodDescriptor yX13_lookForCommit.desc).map (fun d => d.parameters.length) = some 0 := by decide +kernel
theorem dd_X13_commitTo : yX13_commitTo.cls ≠ "java/lang/invoke/MethodHandle" ∧ yX13_commitTo.cls ≠ "java/lang/invoke/VarHandle" ∧ (parseMethodDescriptor yX13_commitTo.desc).map (fun d => d.parameters.length) = some 1 := by decide +kernel
theorem dd_X13_fall : yX13_fall.cls ≠ "java/lang/invoke/MethodHandle" ∧ yX13_fall.cls ≠ "java/lang/invoke/VarHandle" ∧ (parseMethodDescriptor yX13_fall.desc).map (fun d => d.parameters.length) = some 1 := by decide +kernel
theorem dd_X13_wouldLead : yX13_wouldLead.cls ≠ "java/lang/invoke/MethodHandle" ∧ yX13_wouldLead.cls ≠ "java/lang/invoke/VarHandle" ∧ (parseMethodDescriptor yX13_wouldLead.desc).map (fun d => d.parameters.length) = some 1 := by decide +kernel
theorem dd_X13_receive : yX13_receive.cls ≠ "java/lang/invoke/MethodHandle" ∧ yX13_receive.cls ≠ "java/lang/invoke/VarHandle" ∧ (parseMethodDescriptor yX13_receive.desc).map (fun d => d.parameters.length) = some 1 := by decide +kernel
theorem dd_X13_follow : yX13_follow.cls ≠ "java/lang/invoke/MethodHandle" ∧ yX13_follow.cls ≠ "java/lang/invoke/VarHandle" ∧ (parseMethodDescriptor yX13_follow.desc).map (fun d => d.parameters.length) = some 1 := by decide +kernel
theorem dd_X13_asked : yX13_asked.cls ≠ "java/lang/invoke/MethodHandle" ∧ yX13_asked.cls ≠ "java/lang/invoke/VarHandle" ∧ (parseMethodDescriptor yX13_asked.desc).map (fun d => d.parameters.length) = some 1 := by decide +kernel
theorem dd_X13_leads : yX13_leads.cls ≠ "java/lang/invoke/MethodHandle" ∧ yX13_leads.cls ≠ "java/lang/invoke/VarHandle" ∧ (parseMethodDescriptor yX13_leads.desc).map (fun d => d.parameters.length) = some 1 := by decide +kernel
theorem dd_X13_reply : yX13_reply.cls ≠ "java/lang/invoke/MethodHandle" ∧ yX13_reply.cls ≠ "java/lang/invoke/VarHandle" ∧ (parseMethodDescriptor yX13_reply.desc).map (fun d => d.parameters.length) = some 4 := by decide +kernel
theorem dd_X13_append : yX13_append.cls ≠ "java/lang/invoke/MethodHandle" ∧ yX13_append.cls ≠ "java/lang/invoke/VarHandle" ∧ (parseMethodDescriptor yX13_append.desc).map (fun d => d.parameters.length) = some 1 := by decide +kernel
theorem dd_X13_reply_2 : yX13_reply_2.cls ≠ "java/lang/invoke/MethodHandle" ∧ yX13_reply_2.cls ≠ "java/lang/invoke/VarHandle" ∧ (parseMethodDescriptor yX13_reply_2.desc).map (fun d => d.parameters.length) = some 3 := by decide +kernel
theorem dd_X13_takeState : yX13_takeState.cls ≠ "java/lang/invoke/MethodHandle" ∧ yX13_takeState.cls ≠ "java/lang/invoke/VarHandle" ∧ (parseMethodDescriptor yX13_takeState.desc).map (fun d => d.parameters.length) = some 1 := by decide +kernel
theorem dd_X13_taken : yX13_taken.cls ≠ "java/lang/invoke/MethodHandle" ∧ yX13_taken.cls ≠ "java/lang/invoke/VarHandle" ∧ (parseMethodDescriptor yX13_taken.desc).map (fun d => d.parameters.length) = some 1 := by decide +kernel
theorem dd_X13_lookAtReads : yX13_lookAtReads.cls ≠ "java/lang/invoke/MethodHandle" ∧ yX13_lookAtReads.cls ≠ "java/lang/invoke/VarHandle" ∧ (parseMethodDescriptor yX13_lookAtReads.desc).map (fun d => d.parameters.length) = some 0 := by decide +kernel
theorem dd_X13_answer : yX13_answer.cls ≠ "java/lang/invoke/MethodHandle" ∧ yX13_answer.cls ≠ "java/lang/invoke/VarHandle" ∧ (parseMethodDescriptor yX13_answer.desc).map (fun d => d.parameters.length) = some 1 := by decide +kernel
theorem dd_X13_snapshot : yX13_snapshot.cls ≠ "java/lang/invoke/MethodHandle" ∧ yX13_snapshot.cls ≠ "java/lang/invoke/VarHandle" ∧ (parseMethodDescriptor yX13_snapshot.desc).map (fun d => d.parameters.length) = some 0 := by decide +kernel
theorem dd_X13_mayRead : yX13_mayRead.cls ≠ "java/lang/invoke/MethodHandle" ∧ yX13_mayRead.cls ≠ "java/lang/invoke/VarHandle" ∧ (parseMethodDescriptor yX13_mayRead.desc).map (fun d => d.parameters.length) = some 0 := by decide +kernel
theorem dd_X13_readsFit : yX13_readsFit.cls ≠ "java/lang/invoke/MethodHandle" ∧ yX13_readsFit.cls ≠ "java/lang/invoke/VarHandle" ∧ (parseMethodDescriptor yX13_readsFit.desc).map (fun d => d.parameters.length) = some 0 := by decide +kernel
theorem dd_X13_readsWaiting : yX13_readsWaiting.cls ≠ "java/lang/invoke/MethodHandle" ∧ yX13_readsWaiting.cls ≠ "java/lang/invoke/VarHandle" ∧ (parseMethodDescriptor yX13_readsWaiting.desc).map (fun d => d.parameters.length) = some 0 := by decide +kernel
theorem dd_X13_read : yX13_read.cls ≠ "java/lang/invoke/MethodHandle" ∧ yX13_read.cls ≠ "java/lang/invoke/VarHandle" ∧ (parseMethodDescriptor yX13_read.desc).map (fun d => d.parameters.length) = some 2 := by decide +kernel
theorem dd_X13_isDone : yX13_isDone.cls ≠ "java/lang/invoke/MethodHandle" ∧ yX13_isDone.cls ≠ "java/lang/invoke/VarHandle" ∧ (parseMethodDescriptor yX13_isDone.desc).map (fun d => d.parameters.length) = some 1 := by decide +kernel
theorem dd_X13_answer_2 : yX13_answer_2.cls ≠ "java/lang/invoke/MethodHandle" ∧ yX13_answer_2.cls ≠ "java/lang/invoke/VarHandle" ∧ (parseMethodDescriptor yX13_answer_2.desc).map (fun d => d.parameters.length) = some 2 := by decide +kernel
theorem dd_X13_compacted : yX13_compacted.cls ≠ "java/lang/invoke/MethodHandle" ∧ yX13_compacted.cls ≠ "java/lang/invoke/VarHandle" ∧ (parseMethodDescriptor yX13_compacted.desc).map (fun d => d.parameters.length) = some 0 := by decide +kernel
theorem dd_X13_compact : yX13_compact.cls ≠ "java/lang/invoke/MethodHandle" ∧ yX13_compact.cls ≠ "java/lang/invoke/VarHandle" ∧ (parseMethodDescriptor yX13_compact.desc).map (fun d => d.parameters.length) = some 1 := by decide +kernel
theorem dd_X13_stateAt : yX13_stateAt.cls ≠ "java/lang/invoke/MethodHandle" ∧ yX13_stateAt.cls ≠ "java/lang/invoke/VarHandle" ∧ (parseMethodDescriptor yX13_stateAt.desc).map (fun d => d.parameters.length) = some 1 := by decide +kernel
theorem dd_X13_waiting : yX13_waiting.cls ≠ "java/lang/invoke/MethodHandle" ∧ yX13_waiting.cls ≠ "java/lang/invoke/VarHandle" ∧ (parseMethodDescriptor yX13_waiting.desc).map (fun d => d.parameters.length) = some 0 := by decide +kernel
theorem dd_X14_init : yX14_init.cls ≠ "java/lang/invoke/MethodHandle" ∧ yX14_init.cls ≠ "java/lang/invoke/VarHandle" ∧ (parseMethodDescriptor yX14_init.desc).map (fun d => d.parameters.length) = some 1 := by decide +kernel
theorem dd_X14_clear : yX14_clear.cls ≠ "java/lang/invoke/MethodHandle" ∧ yX14_clear.cls ≠ "java/lang/invoke/VarHandle" ∧ (parseMethodDescriptor yX14_clear.desc).map (fun d => d.parameters.length) = some 0 := by decide +kernel
theorem dd_X14_writeEntry : yX14_writeEntry.cls ≠ "java/lang/invoke/MethodHandle" ∧ yX14_writeEntry.cls ≠ "java/lang/invoke/VarHandle" ∧ (parseMethodDescriptor yX14_writeEntry.desc).map (fun d => d.parameters.length) = some 2 := by decide +kernel
theorem dd_X14_write : yX14_write.cls ≠ "java/lang/invoke/MethodHandle" ∧ yX14_write.cls ≠ "java/lang/invoke/VarHandle" ∧ (parseMethodDescriptor yX14_write.desc).map (fun d => d.parameters.length) = some 4 := by decide +kernel
theorem dd_X14_unsynced : yX14_unsynced.cls ≠ "java/lang/invoke/MethodHandle" ∧ yX14_unsynced.cls ≠ "java/lang/invoke/VarHandle" ∧ (parseMethodDescriptor yX14_unsynced.desc).map (fun d => d.parameters.length) = some 0 := by decide +kernel
theorem dd_X14_writeTerm : yX14_writeTerm.cls ≠ "java/lang/invoke/MethodHandle" ∧ yX14_writeTerm.cls ≠ "java/lang/invoke/VarHandle" ∧ (parseMethodDescriptor yX14_writeTerm.desc).map (fun d => d.parameters.length) = some 2 := by decide +kernel
theorem dd_X14_keep : yX14_keep.cls ≠ "java/lang/invoke/MethodHandle" ∧ yX14_keep.cls ≠ "java/lang/invoke/VarHandle" ∧ (parseMethodDescriptor yX14_keep.desc).map (fun d => d.parameters.length) = some 1 := by decide +kernel
theorem dd_X14_writeSnapshot : yX14_writeSnapshot.cls ≠ "java/lang/invoke/MethodHandle" ∧ yX14_writeSnapshot.cls ≠ "java/lang/invoke/VarHandle" ∧ (parseMethodDescriptor yX14_writeSnapshot.desc).map (fun d => d.parameters.length) = some 3 := by decide +kernel
theorem dd_X15_init : yX15_init.cls ≠ "java/lang/invoke/MethodHandle" ∧ yX15_init.cls ≠ "java/lang/invoke/VarHandle" ∧ (parseMethodDescriptor yX15_init.desc).map (fun d => d.parameters.length) = some 1 := by decide +kernel
theorem dd_X15_clear : yX15_clear.cls ≠ "java/lang/invoke/MethodHandle" ∧ yX15_clear.cls ≠ "java/lang/invoke/VarHandle" ∧ (parseMethodDescriptor yX15_clear.desc).map (fun d => d.parameters.length) = some 0 := by decide +kernel
theorem dd_X15_copy : yX15_copy.cls ≠ "java/lang/invoke/MethodHandle" ∧ yX15_copy.cls ≠ "java/lang/invoke/VarHandle" ∧ (parseMethodDescriptor yX15_copy.desc).map (fun d => d.parameters.length) = some 1 := by decide +kernel
theorem dd_X15_last : yX15_last.cls ≠ "java/lang/invoke/MethodHandle" ∧ yX15_last.cls ≠ "java/lang/invoke/VarHandle" ∧ (parseMethodDescriptor yX15_last.desc).map (fun d => d.parameters.length) = some 0 := by decide +kernel
theorem dd_X15_put : yX15_put.cls ≠ "java/lang/invoke/MethodHandle" ∧ yX15_put.cls ≠ "java/lang/invoke/VarHandle" ∧ (parseMethodDescriptor yX15_put.desc).map (fun d => d.parameters.length) = some 2 := by decide +kernel
theorem dd_X15_term : yX15_term.cls ≠ "java/lang/invoke/MethodHandle" ∧ yX15_term.cls ≠ "java/lang/invoke/VarHandle" ∧ (parseMethodDescriptor yX15_term.desc).map (fun d => d.parameters.length) = some 1 := by decide +kernel
theorem dd_X15_entry : yX15_entry.cls ≠ "java/lang/invoke/MethodHandle" ∧ yX15_entry.cls ≠ "java/lang/invoke/VarHandle" ∧ (parseMethodDescriptor yX15_entry.desc).map (fun d => d.parameters.length) = some 1 := by decide +kernel
theorem dd_X15_lastTerm : yX15_lastTerm.cls ≠ "java/lang/invoke/MethodHandle" ∧ yX15_lastTerm.cls ≠ "java/lang/invoke/VarHandle" ∧ (parseMethodDescriptor yX15_lastTerm.desc).map (fun d => d.parameters.length) = some 0 := by decide +kernel
theorem dd_X15_snapshot : yX15_snapshot.cls ≠ "java/lang/invoke/MethodHandle" ∧ yX15_snapshot.cls ≠ "java/lang/invoke/VarHandle" ∧ (parseMethodDescriptor yX15_snapshot.desc).map (fun d => d.parameters.length) = some 3 := by decide +kernel
theorem dd_X16_init : yX16_init.cls ≠ "java/lang/invoke/MethodHandle" ∧ yX16_init.cls ≠ "java/lang/invoke/VarHandle" ∧ (parseMethodDescriptor yX16_init.desc).map (fun d => d.parameters.length) = some 0 := by decide +kernel
theorem dd_X16_thrown : yX16_thrown.cls ≠ "java/lang/invoke/MethodHandle" ∧ yX16_thrown.cls ≠ "java/lang/invoke/VarHandle" ∧ (parseMethodDescriptor yX16_thrown.desc).map (fun d => d.parameters.length) = some 0 := by decide +kernel
theorem dd_X16_nodes : yX16_nodes.cls ≠ "java/lang/invoke/MethodHandle" ∧ yX16_nodes.cls ≠ "java/lang/invoke/VarHandle" ∧ (parseMethodDescriptor yX16_nodes.desc).map (fun d => d.parameters.length) = some 1 := by decide +kernel
theorem dd_X16_clearDraft : yX16_clearDraft.cls ≠ "java/lang/invoke/MethodHandle" ∧ yX16_clearDraft.cls ≠ "java/lang/invoke/VarHandle" ∧ (parseMethodDescriptor yX16_clearDraft.desc).map (fun d => d.parameters.length) = some 0 := by decide +kernel
theorem dd_X16_begin : yX16_begin.cls ≠ "java/lang/invoke/MethodHandle" ∧ yX16_begin.cls ≠ "java/lang/invoke/VarHandle" ∧ (parseMethodDescriptor yX16_begin.desc).map (fun d => d.parameters.length) = some 1 := by decide +kernel
theorem dd_X16_feed : yX16_feed.cls ≠ "java/lang/invoke/MethodHandle" ∧ yX16_feed.cls ≠ "java/lang/invoke/VarHandle" ∧ (parseMethodDescriptor yX16_feed.desc).map (fun d => d.parameters.length) = some 5 := by decide +kernel
theorem dd_X16_no : yX16_no.cls ≠ "java/lang/invoke/MethodHandle" ∧ yX16_no.cls ≠ "java/lang/invoke/VarHandle" ∧ (parseMethodDescriptor yX16_no.desc).map (fun d => d.parameters.length) = some 1 := by decide +kernel
theorem dd_X16_end : yX16_end.cls ≠ "java/lang/invoke/MethodHandle" ∧ yX16_end.cls ≠ "java/lang/invoke/VarHandle" ∧ (parseMethodDescriptor yX16_end.desc).map (fun d => d.parameters.length) = some 1 := by decide +kernel
theorem dd_X16_when : yX16_when.cls ≠ "java/lang/invoke/MethodHandle" ∧ yX16_when.cls ≠ "java/lang/invoke/VarHandle" ∧ (parseMethodDescriptor yX16_when.desc).map (fun d => d.parameters.length) = some 3 := by decide +kernel
theorem dd_X16_taken : yX16_taken.cls ≠ "java/lang/invoke/MethodHandle" ∧ yX16_taken.cls ≠ "java/lang/invoke/VarHandle" ∧ (parseMethodDescriptor yX16_taken.desc).map (fun d => d.parameters.length) = some 0 := by decide +kernel
theorem dd_X16_isKey : yX16_isKey.cls ≠ "java/lang/invoke/MethodHandle" ∧ yX16_isKey.cls ≠ "java/lang/invoke/VarHandle" ∧ (parseMethodDescriptor yX16_isKey.desc).map (fun d => d.parameters.length) = some 1 := by decide +kernel
theorem dd_X16_part : yX16_part.cls ≠ "java/lang/invoke/MethodHandle" ∧ yX16_part.cls ≠ "java/lang/invoke/VarHandle" ∧ (parseMethodDescriptor yX16_part.desc).map (fun d => d.parameters.length) = some 6 := by decide +kernel
theorem dd_X16_keep : yX16_keep.cls ≠ "java/lang/invoke/MethodHandle" ∧ yX16_keep.cls ≠ "java/lang/invoke/VarHandle" ∧ (parseMethodDescriptor yX16_keep.desc).map (fun d => d.parameters.length) = some 2 := by decide +kernel
theorem dd_X16_put : yX16_put.cls ≠ "java/lang/invoke/MethodHandle" ∧ yX16_put.cls ≠ "java/lang/invoke/VarHandle" ∧ (parseMethodDescriptor yX16_put.desc).map (fun d => d.parameters.length) = some 2 := by decide +kernel
theorem dd_X16_step : yX16_step.cls ≠ "java/lang/invoke/MethodHandle" ∧ yX16_step.cls ≠ "java/lang/invoke/VarHandle" ∧ (parseMethodDescriptor yX16_step.desc).map (fun d => d.parameters.length) = some 5 := by decide +kernel
theorem dd_X16_erase : yX16_erase.cls ≠ "java/lang/invoke/MethodHandle" ∧ yX16_erase.cls ≠ "java/lang/invoke/VarHandle" ∧ (parseMethodDescriptor yX16_erase.desc).map (fun d => d.parameters.length) = some 1 := by decide +kernel
theorem dd_X16_lease : yX16_lease.cls ≠ "java/lang/invoke/MethodHandle" ∧ yX16_lease.cls ≠ "java/lang/invoke/VarHandle" ∧ (parseMethodDescriptor yX16_lease.desc).map (fun d => d.parameters.length) = some 3 := by decide +kernel
theorem dd_X16_forget : yX16_forget.cls ≠ "java/lang/invoke/MethodHandle" ∧ yX16_forget.cls ≠ "java/lang/invoke/VarHandle" ∧ (parseMethodDescriptor yX16_forget.desc).map (fun d => d.parameters.length) = some 0 := by decide +kernel
theorem dd_X16_propose : yX16_propose.cls ≠ "java/lang/invoke/MethodHandle" ∧ yX16_propose.cls ≠ "java/lang/invoke/VarHandle" ∧ (parseMethodDescriptor yX16_propose.desc).map (fun d => d.parameters.length) = some 1 := by decide +kernel
theorem dd_X16_up : yX16_up.cls ≠ "java/lang/invoke/MethodHandle" ∧ yX16_up.cls ≠ "java/lang/invoke/VarHandle" ∧ (parseMethodDescriptor yX16_up.desc).map (fun d => d.parameters.length) = some 1 := by decide +kernel
theorem dd_X16_fromDraft : yX16_fromDraft.cls ≠ "java/lang/invoke/MethodHandle" ∧ yX16_fromDraft.cls ≠ "java/lang/invoke/VarHandle" ∧ (parseMethodDescriptor yX16_fromDraft.desc).map (fun d => d.parameters.length) = some 1 := by decide +kernel
theorem dd_X16_add : yX16_add.cls ≠ "java/lang/invoke/MethodHandle" ∧ yX16_add.cls ≠ "java/lang/invoke/VarHandle" ∧ (parseMethodDescriptor yX16_add.desc).map (fun d => d.parameters.length) = some 3 := by decide +kernel
theorem dd_X16_record : yX16_record.cls ≠ "java/lang/invoke/MethodHandle" ∧ yX16_record.cls ≠ "java/lang/invoke/VarHandle" ∧ (parseMethodDescriptor yX16_record.desc).map (fun d => d.parameters.length) = some 5 := by decide +kernel
theorem dd_X16_appendAll : yX16_appendAll.cls ≠ "java/lang/invoke/MethodHandle" ∧ yX16_appendAll.cls ≠ "java/lang/invoke/VarHandle" ∧ (parseMethodDescriptor yX16_appendAll.desc).map (fun d => d.parameters.length) = some 1 := by decide +kernel
theorem dd_X16_append : yX16_append.cls ≠ "java/lang/invoke/MethodHandle" ∧ yX16_append.cls ≠ "java/lang/invoke/VarHandle" ∧ (parseMethodDescriptor yX16_append.desc).map (fun d => d.parameters.length) = some 2 := by decide +kernel
theorem dd_X16_message : yX16_message.cls ≠ "java/lang/invoke/MethodHandle" ∧ yX16_message.cls ≠ "java/lang/invoke/VarHandle" ∧ (parseMethodDescriptor yX16_message.desc).map (fun d => d.parameters.length) = some 3 := by decide +kernel
theorem dd_X16_send : yX16_send.cls ≠ "java/lang/invoke/MethodHandle" ∧ yX16_send.cls ≠ "java/lang/invoke/VarHandle" ∧ (parseMethodDescriptor yX16_send.desc).map (fun d => d.parameters.length) = some 1 := by decide +kernel
theorem dd_X16_toNet : yX16_toNet.cls ≠ "java/lang/invoke/MethodHandle" ∧ yX16_toNet.cls ≠ "java/lang/invoke/VarHandle" ∧ (parseMethodDescriptor yX16_toNet.desc).map (fun d => d.parameters.length) = some 1 := by decide +kernel
theorem dd_X16_termAt : yX16_termAt.cls ≠ "java/lang/invoke/MethodHandle" ∧ yX16_termAt.cls ≠ "java/lang/invoke/VarHandle" ∧ (parseMethodDescriptor yX16_termAt.desc).map (fun d => d.parameters.length) = some 2 := by decide +kernel
theorem dd_X16_rise : yX16_rise.cls ≠ "java/lang/invoke/MethodHandle" ∧ yX16_rise.cls ≠ "java/lang/invoke/VarHandle" ∧ (parseMethodDescriptor yX16_rise.desc).map (fun d => d.parameters.length) = some 1 := by decide +kernel
theorem dd_X16_vote : yX16_vote.cls ≠ "java/lang/invoke/MethodHandle" ∧ yX16_vote.cls ≠ "java/lang/invoke/VarHandle" ∧ (parseMethodDescriptor yX16_vote.desc).map (fun d => d.parameters.length) = some 3 := by decide +kernel
theorem dd_X16_lead : yX16_lead.cls ≠ "java/lang/invoke/MethodHandle" ∧ yX16_lead.cls ≠ "java/lang/invoke/VarHandle" ∧ (parseMethodDescriptor yX16_lead.desc).map (fun d => d.parameters.length) = some 1 := by decide +kernel
theorem dd_X16_empty : yX16_empty.cls ≠ "java/lang/invoke/MethodHandle" ∧ yX16_empty.cls ≠ "java/lang/invoke/VarHandle" ∧ (parseMethodDescriptor yX16_empty.desc).map (fun d => d.parameters.length) = some 1 := by decide +kernel
theorem dd_X16_beat : yX16_beat.cls ≠ "java/lang/invoke/MethodHandle" ∧ yX16_beat.cls ≠ "java/lang/invoke/VarHandle" ∧ (parseMethodDescriptor yX16_beat.desc).map (fun d => d.parameters.length) = some 1 := by decide +kernel
theorem dd_X16_sync : yX16_sync.cls ≠ "java/lang/invoke/MethodHandle" ∧ yX16_sync.cls ≠ "java/lang/invoke/VarHandle" ∧ (parseMethodDescriptor yX16_sync.desc).map (fun d => d.parameters.length) = some 1 := by decide +kernel
theorem dd_X16_toDisk : yX16_toDisk.cls ≠ "java/lang/invoke/MethodHandle" ∧ yX16_toDisk.cls ≠ "java/lang/invoke/VarHandle" ∧ (parseMethodDescriptor yX16_toDisk.desc).map (fun d => d.parameters.length) = some 2 := by decide +kernel
theorem dd_X16_onDisk : yX16_onDisk.cls ≠ "java/lang/invoke/MethodHandle" ∧ yX16_onDisk.cls ≠ "java/lang/invoke/VarHandle" ∧ (parseMethodDescriptor yX16_onDisk.desc).map (fun d => d.parameters.length) = some 1 := by decide +kernel
theorem dd_X16_lookForCommit : yX16_lookForCommit.cls ≠ "java/lang/invoke/MethodHandle" ∧ yX16_lookForCommit.cls ≠ "java/lang/invoke/VarHandle" ∧ (parseMethodDescriptor yX16_lookForCommit.desc).map (fun d => d.parameters.length) = some 1 := by decide +kernel
theorem dd_X16_applyTo : yX16_applyTo.cls ≠ "java/lang/invoke/MethodHandle" ∧ yX16_applyTo.cls ≠ "java/lang/invoke/VarHandle" ∧ (parseMethodDescriptor yX16_applyTo.desc).map (fun d => d.parameters.length) = some 2 := by decide +kernel
theorem dd_X16_extend : yX16_extend.cls ≠ "java/lang/invoke/MethodHandle" ∧ yX16_extend.cls ≠ "java/lang/invoke/VarHandle" ∧ (parseMethodDescriptor yX16_extend.desc).map (fun d => d.parameters.length) = some 2 := by decide +kernel
theorem dd_X16_crash : yX16_crash.cls ≠ "java/lang/invoke/MethodHandle" ∧ yX16_crash.cls ≠ "java/lang/invoke/VarHandle" ∧ (parseMethodDescriptor yX16_crash.desc).map (fun d => d.parameters.length) = some 2 := by decide +kernel
theorem dd_X16_leave : yX16_leave.cls ≠ "java/lang/invoke/MethodHandle" ∧ yX16_leave.cls ≠ "java/lang/invoke/VarHandle" ∧ (parseMethodDescriptor yX16_leave.desc).map (fun d => d.parameters.length) = some 2 := by decide +kernel
theorem dd_X16_start : yX16_start.cls ≠ "java/lang/invoke/MethodHandle" ∧ yX16_start.cls ≠ "java/lang/invoke/VarHandle" ∧ (parseMethodDescriptor yX16_start.desc).map (fun d => d.parameters.length) = some 1 := by decide +kernel
theorem dd_X16_deliver : yX16_deliver.cls ≠ "java/lang/invoke/MethodHandle" ∧ yX16_deliver.cls ≠ "java/lang/invoke/VarHandle" ∧ (parseMethodDescriptor yX16_deliver.desc).map (fun d => d.parameters.length) = some 2 := by decide +kernel
theorem dd_X16_grants : yX16_grants.cls ≠ "java/lang/invoke/MethodHandle" ∧ yX16_grants.cls ≠ "java/lang/invoke/VarHandle" ∧ (parseMethodDescriptor yX16_grants.desc).map (fun d => d.parameters.length) = some 1 := by decide +kernel
theorem dd_X16_drop : yX16_drop.cls ≠ "java/lang/invoke/MethodHandle" ∧ yX16_drop.cls ≠ "java/lang/invoke/VarHandle" ∧ (parseMethodDescriptor yX16_drop.desc).map (fun d => d.parameters.length) = some 1 := by decide +kernel
theorem dd_X16_newer : yX16_newer.cls ≠ "java/lang/invoke/MethodHandle" ∧ yX16_newer.cls ≠ "java/lang/invoke/VarHandle" ∧ (parseMethodDescriptor yX16_newer.desc).map (fun d => d.parameters.length) = some 2 := by decide +kernel
theorem dd_X16_asked : yX16_asked.cls ≠ "java/lang/invoke/MethodHandle" ∧ yX16_asked.cls ≠ "java/lang/invoke/VarHandle" ∧ (parseMethodDescriptor yX16_asked.desc).map (fun d => d.parameters.length) = some 2 := by decide +kernel
theorem dd_X16_answered : yX16_answered.cls ≠ "java/lang/invoke/MethodHandle" ∧ yX16_answered.cls ≠ "java/lang/invoke/VarHandle" ∧ (parseMethodDescriptor yX16_answered.desc).map (fun d => d.parameters.length) = some 2 := by decide +kernel
theorem dd_X16_appended : yX16_appended.cls ≠ "java/lang/invoke/MethodHandle" ∧ yX16_appended.cls ≠ "java/lang/invoke/VarHandle" ∧ (parseMethodDescriptor yX16_appended.desc).map (fun d => d.parameters.length) = some 2 := by decide +kernel
theorem dd_X16_taken_2 : yX16_taken_2.cls ≠ "java/lang/invoke/MethodHandle" ∧ yX16_taken_2.cls ≠ "java/lang/invoke/VarHandle" ∧ (parseMethodDescriptor yX16_taken_2.desc).map (fun d => d.parameters.length) = some 5 := by decide +kernel
theorem dd_X16_tookIn : yX16_tookIn.cls ≠ "java/lang/invoke/MethodHandle" ∧ yX16_tookIn.cls ≠ "java/lang/invoke/VarHandle" ∧ (parseMethodDescriptor yX16_tookIn.desc).map (fun d => d.parameters.length) = some 2 := by decide +kernel
theorem dd_X16_lookAtReads : yX16_lookAtReads.cls ≠ "java/lang/invoke/MethodHandle" ∧ yX16_lookAtReads.cls ≠ "java/lang/invoke/VarHandle" ∧ (parseMethodDescriptor yX16_lookAtReads.desc).map (fun d => d.parameters.length) = some 1 := by decide +kernel
theorem dd_X16_now : yX16_now.cls ≠ "java/lang/invoke/MethodHandle" ∧ yX16_now.cls ≠ "java/lang/invoke/VarHandle" ∧ (parseMethodDescriptor yX16_now.desc).map (fun d => d.parameters.length) = some 1 := by decide +kernel
theorem dd_X16_store : yX16_store.cls ≠ "java/lang/invoke/MethodHandle" ∧ yX16_store.cls ≠ "java/lang/invoke/VarHandle" ∧ (parseMethodDescriptor yX16_store.desc).map (fun d => d.parameters.length) = some 3 := by decide +kernel
theorem dd_X16_remember : yX16_remember.cls ≠ "java/lang/invoke/MethodHandle" ∧ yX16_remember.cls ≠ "java/lang/invoke/VarHandle" ∧ (parseMethodDescriptor yX16_remember.desc).map (fun d => d.parameters.length) = some 0 := by decide +kernel
theorem dd_X16_field : yX16_field.cls ≠ "java/lang/invoke/MethodHandle" ∧ yX16_field.cls ≠ "java/lang/invoke/VarHandle" ∧ (parseMethodDescriptor yX16_field.desc).map (fun d => d.parameters.length) = some 1 := by decide +kernel
theorem dd_X16_apply : yX16_apply.cls ≠ "java/lang/invoke/MethodHandle" ∧ yX16_apply.cls ≠ "java/lang/invoke/VarHandle" ∧ (parseMethodDescriptor yX16_apply.desc).map (fun d => d.parameters.length) = some 1 := by decide +kernel
theorem dd_X16_holds : yX16_holds.cls ≠ "java/lang/invoke/MethodHandle" ∧ yX16_holds.cls ≠ "java/lang/invoke/VarHandle" ∧ (parseMethodDescriptor yX16_holds.desc).map (fun d => d.parameters.length) = some 1 := by decide +kernel
theorem dd_X16_findPair : yX16_findPair.cls ≠ "java/lang/invoke/MethodHandle" ∧ yX16_findPair.cls ≠ "java/lang/invoke/VarHandle" ∧ (parseMethodDescriptor yX16_findPair.desc).map (fun d => d.parameters.length) = some 3 := by decide +kernel
theorem dd_X16_compare : yX16_compare.cls ≠ "java/lang/invoke/MethodHandle" ∧ yX16_compare.cls ≠ "java/lang/invoke/VarHandle" ∧ (parseMethodDescriptor yX16_compare.desc).map (fun d => d.parameters.length) = some 6 := by decide +kernel
theorem dd_X16_does : yX16_does.cls ≠ "java/lang/invoke/MethodHandle" ∧ yX16_does.cls ≠ "java/lang/invoke/VarHandle" ∧ (parseMethodDescriptor yX16_does.desc).map (fun d => d.parameters.length) = some 1 := by decide +kernel
theorem dd_X16_puts : yX16_puts.cls ≠ "java/lang/invoke/MethodHandle" ∧ yX16_puts.cls ≠ "java/lang/invoke/VarHandle" ∧ (parseMethodDescriptor yX16_puts.desc).map (fun d => d.parameters.length) = some 2 := by decide +kernel
theorem dd_X16_inRange : yX16_inRange.cls ≠ "java/lang/invoke/MethodHandle" ∧ yX16_inRange.cls ≠ "java/lang/invoke/VarHandle" ∧ (parseMethodDescriptor yX16_inRange.desc).map (fun d => d.parameters.length) = some 7 := by decide +kernel
theorem dd_X16_gone : yX16_gone.cls ≠ "java/lang/invoke/MethodHandle" ∧ yX16_gone.cls ≠ "java/lang/invoke/VarHandle" ∧ (parseMethodDescriptor yX16_gone.desc).map (fun d => d.parameters.length) = some 1 := by decide +kernel
theorem dd_X16_remove : yX16_remove.cls ≠ "java/lang/invoke/MethodHandle" ∧ yX16_remove.cls ≠ "java/lang/invoke/VarHandle" ∧ (parseMethodDescriptor yX16_remove.desc).map (fun d => d.parameters.length) = some 1 := by decide +kernel
theorem dd_X16_back : yX16_back.cls ≠ "java/lang/invoke/MethodHandle" ∧ yX16_back.cls ≠ "java/lang/invoke/VarHandle" ∧ (parseMethodDescriptor yX16_back.desc).map (fun d => d.parameters.length) = some 0 := by decide +kernel
theorem dd_X16_stated : yX16_stated.cls ≠ "java/lang/invoke/MethodHandle" ∧ yX16_stated.cls ≠ "java/lang/invoke/VarHandle" ∧ (parseMethodDescriptor yX16_stated.desc).map (fun d => d.parameters.length) = some 2 := by decide +kernel
theorem dd_X16_snapshot : yX16_snapshot.cls ≠ "java/lang/invoke/MethodHandle" ∧ yX16_snapshot.cls ≠ "java/lang/invoke/VarHandle" ∧ (parseMethodDescriptor yX16_snapshot.desc).map (fun d => d.parameters.length) = some 4 := by decide +kernel
theorem dd_X16_lose : yX16_lose.cls ≠ "java/lang/invoke/MethodHandle" ∧ yX16_lose.cls ≠ "java/lang/invoke/VarHandle" ∧ (parseMethodDescriptor yX16_lose.desc).map (fun d => d.parameters.length) = some 1 := by decide +kernel
theorem dd_X16_snapshot_2 : yX16_snapshot_2.cls ≠ "java/lang/invoke/MethodHandle" ∧ yX16_snapshot_2.cls ≠ "java/lang/invoke/VarHandle" ∧ (parseMethodDescriptor yX16_snapshot_2.desc).map (fun d => d.parameters.length) = some 1 := by decide +kernel
theorem dd_X16_read : yX16_read.cls ≠ "java/lang/invoke/MethodHandle" ∧ yX16_read.cls ≠ "java/lang/invoke/VarHandle" ∧ (parseMethodDescriptor yX16_read.desc).map (fun d => d.parameters.length) = some 1 := by decide +kernel
theorem dd_X16_readsWaiting : yX16_readsWaiting.cls ≠ "java/lang/invoke/MethodHandle" ∧ yX16_readsWaiting.cls ≠ "java/lang/invoke/VarHandle" ∧ (parseMethodDescriptor yX16_readsWaiting.desc).map (fun d => d.parameters.length) = some 1 := by decide +kernel
theorem dd_X16_answer : yX16_answer.cls ≠ "java/lang/invoke/MethodHandle" ∧ yX16_answer.cls ≠ "java/lang/invoke/VarHandle" ∧ (parseMethodDescriptor yX16_answer.desc).map (fun d => d.parameters.length) = some 3 := by decide +kernel
theorem dd_X16_pair : yX16_pair.cls ≠ "java/lang/invoke/MethodHandle" ∧ yX16_pair.cls ≠ "java/lang/invoke/VarHandle" ∧ (parseMethodDescriptor yX16_pair.desc).map (fun d => d.parameters.length) = some 3 := by decide +kernel
theorem dd_X16_at : yX16_at.cls ≠ "java/lang/invoke/MethodHandle" ∧ yX16_at.cls ≠ "java/lang/invoke/VarHandle" ∧ (parseMethodDescriptor yX16_at.desc).map (fun d => d.parameters.length) = some 4 := by decide +kernel
theorem dd_X16_range : yX16_range.cls ≠ "java/lang/invoke/MethodHandle" ∧ yX16_range.cls ≠ "java/lang/invoke/VarHandle" ∧ (parseMethodDescriptor yX16_range.desc).map (fun d => d.parameters.length) = some 5 := by decide +kernel
theorem dd_X16_event : yX16_event.cls ≠ "java/lang/invoke/MethodHandle" ∧ yX16_event.cls ≠ "java/lang/invoke/VarHandle" ∧ (parseMethodDescriptor yX16_event.desc).map (fun d => d.parameters.length) = some 5 := by decide +kernel
theorem dd_X16_history : yX16_history.cls ≠ "java/lang/invoke/MethodHandle" ∧ yX16_history.cls ≠ "java/lang/invoke/VarHandle" ∧ (parseMethodDescriptor yX16_history.desc).map (fun d => d.parameters.length) = some 2 := by decide +kernel
theorem dd_X16_event_2 : yX16_event_2.cls ≠ "java/lang/invoke/MethodHandle" ∧ yX16_event_2.cls ≠ "java/lang/invoke/VarHandle" ∧ (parseMethodDescriptor yX16_event_2.desc).map (fun d => d.parameters.length) = some 3 := by decide +kernel
theorem dd_X16_sameOld : yX16_sameOld.cls ≠ "java/lang/invoke/MethodHandle" ∧ yX16_sameOld.cls ≠ "java/lang/invoke/VarHandle" ∧ (parseMethodDescriptor yX16_sameOld.desc).map (fun d => d.parameters.length) = some 2 := by decide +kernel
theorem dd_X16_compact : yX16_compact.cls ≠ "java/lang/invoke/MethodHandle" ∧ yX16_compact.cls ≠ "java/lang/invoke/VarHandle" ∧ (parseMethodDescriptor yX16_compact.desc).map (fun d => d.parameters.length) = some 2 := by decide +kernel
theorem dd_X16_outcome : yX16_outcome.cls ≠ "java/lang/invoke/MethodHandle" ∧ yX16_outcome.cls ≠ "java/lang/invoke/VarHandle" ∧ (parseMethodDescriptor yX16_outcome.desc).map (fun d => d.parameters.length) = some 3 := by decide +kernel
theorem dd_X16_message_2 : yX16_message_2.cls ≠ "java/lang/invoke/MethodHandle" ∧ yX16_message_2.cls ≠ "java/lang/invoke/VarHandle" ∧ (parseMethodDescriptor yX16_message_2.desc).map (fun d => d.parameters.length) = some 2 := by decide +kernel
theorem dd_X16_told : yX16_told.cls ≠ "java/lang/invoke/MethodHandle" ∧ yX16_told.cls ≠ "java/lang/invoke/VarHandle" ∧ (parseMethodDescriptor yX16_told.desc).map (fun d => d.parameters.length) = some 2 := by decide +kernel
theorem dd_X16_toldDown : yX16_toldDown.cls ≠ "java/lang/invoke/MethodHandle" ∧ yX16_toldDown.cls ≠ "java/lang/invoke/VarHandle" ∧ (parseMethodDescriptor yX16_toldDown.desc).map (fun d => d.parameters.length) = some 2 := by decide +kernel
theorem dd_X16_count : yX16_count.cls ≠ "java/lang/invoke/MethodHandle" ∧ yX16_count.cls ≠ "java/lang/invoke/VarHandle" ∧ (parseMethodDescriptor yX16_count.desc).map (fun d => d.parameters.length) = some 1 := by decide +kernel
theorem dd_X17_init : yX17_init.cls ≠ "java/lang/invoke/MethodHandle" ∧ yX17_init.cls ≠ "java/lang/invoke/VarHandle" ∧ (parseMethodDescriptor yX17_init.desc).map (fun d => d.parameters.length) = some 0 := by decide +kernel
theorem dd_X18_init : yX18_init.cls ≠ "java/lang/invoke/MethodHandle" ∧ yX18_init.cls ≠ "java/lang/invoke/VarHandle" ∧ (parseMethodDescriptor yX18_init.desc).map (fun d => d.parameters.length) = some 0 := by decide +kernel
theorem sn_1 {p : gx_Nm} : ∀ k q, gx_sn 1 k p = some q → (k, q) ∈ ([(0, (0 :: p)), (1, (1 :: p)), (2, (2 :: p)), (3, (3 :: p)), (7, (7 :: p))] : List (Nat × gx_Nm)) := by
  intro k q h
  have h : gx_sn1 k p = some q := h
  unfold gx_sn1 at h
  split at h <;> first | (cases h; simp) | cases h
theorem sn_2 {p : gx_Nm} : ∀ k q, gx_sn 2 k p = some q → (k, q) ∈ ([(0, (0 :: p)), (1, (1 :: p)), (2, (2 :: p)), (3, (3 :: p)), (7, (7 :: p)), (8, (8 :: p))] : List (Nat × gx_Nm)) := by
  intro k q h
  have h : gx_sn2 k p = some q := h
  unfold gx_sn2 at h
  split at h <;> first | (cases h; simp) | cases h
theorem sn_3 {p : gx_Nm} : ∀ k q, gx_sn 3 k p = some q → (k, q) ∈ ([(0, (0 :: p)), (1, (1 :: p)), (2, (2 :: p))] : List (Nat × gx_Nm)) := by
  intro k q h
  have h : gx_sn3 k p = some q := h
  unfold gx_sn3 at h
  split at h <;> first | (cases h; simp) | cases h
theorem sn_4 {p : gx_Nm} : ∀ k q, gx_sn 4 k p = some q → (k, q) ∈ ([] : List (Nat × gx_Nm)) := by
  intro k q h
  have h : gx_sn4 k p = some q := h
  unfold gx_sn4 at h
  split at h <;> first | (cases h; simp) | cases h
theorem sn_5 {p : gx_Nm} : ∀ k q, gx_sn 5 k p = some q → (k, q) ∈ ([] : List (Nat × gx_Nm)) := by
  intro k q h
  have h : gx_sn5 k p = some q := h
  unfold gx_sn5 at h
  split at h <;> first | (cases h; simp) | cases h
theorem sn_6 {p : gx_Nm} : ∀ k q, gx_sn 6 k p = some q → (k, q) ∈ ([(0, (0 :: p)), (1, (1 :: p))] : List (Nat × gx_Nm)) := by
  intro k q h
  have h : gx_sn6 k p = some q := h
  unfold gx_sn6 at h
  split at h <;> first | (cases h; simp) | cases h
theorem sn_7 {p : gx_Nm} : ∀ k q, gx_sn 7 k p = some q → (k, q) ∈ ([(0, [0, 0, 1]), (1, (1 :: p)), (2, (2 :: p)), (3, (3 :: p)), (4, (4 :: p)), (5, (5 :: p)), (6, (6 :: p)), (7, (7 :: p)), (8, (8 :: p)), (9, (9 :: p)), (10, (10 :: p)), (11, (11 :: p)), (12, (12 :: p)), (13, (13 :: p)), (14, (14 :: p)), (17, (17 :: p))] : List (Nat × gx_Nm)) := by
  intro k q h
  have h : gx_sn7 k p = some q := h
  unfold gx_sn7 at h
  split at h <;> first | (cases h; simp) | cases h
theorem sn_8 {p : gx_Nm} : ∀ k q, gx_sn 8 k p = some q → (k, q) ∈ ([] : List (Nat × gx_Nm)) := by
  intro k q h
  have h : gx_sn8 k p = some q := h
  unfold gx_sn8 at h
  split at h <;> first | (cases h; simp) | cases h
theorem sn_9 {p : gx_Nm} : ∀ k q, gx_sn 9 k p = some q → (k, q) ∈ ([] : List (Nat × gx_Nm)) := by
  intro k q h
  have h : gx_sn9 k p = some q := h
  unfold gx_sn9 at h
  split at h <;> first | (cases h; simp) | cases h
theorem sn_10 {p : gx_Nm} : ∀ k q, gx_sn 10 k p = some q → (k, q) ∈ ([(0, (0 :: p)), (1, (1 :: p))] : List (Nat × gx_Nm)) := by
  intro k q h
  have h : gx_sn10 k p = some q := h
  unfold gx_sn10 at h
  split at h <;> first | (cases h; simp) | cases h
theorem sn_11 {p : gx_Nm} : ∀ k q, gx_sn 11 k p = some q → (k, q) ∈ ([] : List (Nat × gx_Nm)) := by
  intro k q h
  have h : gx_sn11 k p = some q := h
  unfold gx_sn11 at h
  split at h <;> first | (cases h; simp) | cases h
theorem sn_12 {p : gx_Nm} : ∀ k q, gx_sn 12 k p = some q → (k, q) ∈ ([(0, (0 :: p)), (1, (1 :: p)), (2, (2 :: p)), (3, (3 :: p))] : List (Nat × gx_Nm)) := by
  intro k q h
  have h : gx_sn12 k p = some q := h
  unfold gx_sn12 at h
  split at h <;> first | (cases h; simp) | cases h
theorem sn_13 {p : gx_Nm} : ∀ k q, gx_sn 13 k p = some q → (k, q) ∈ ([(0, [0, 1]), (2, (2 :: p)), (5, (5 :: p)), (6, (6 :: p)), (12, (12 :: p)), (17, (17 :: p)), (18, (18 :: p)), (19, (19 :: p))] : List (Nat × gx_Nm)) := by
  intro k q h
  have h : gx_sn13 k p = some q := h
  unfold gx_sn13 at h
  split at h <;> first | (cases h; simp) | cases h
theorem sn_14 {p : gx_Nm} : ∀ k q, gx_sn 14 k p = some q → (k, q) ∈ ([(2, (2 :: p)), (3, (3 :: p))] : List (Nat × gx_Nm)) := by
  intro k q h
  have h : gx_sn14 k p = some q := h
  unfold gx_sn14 at h
  split at h <;> first | (cases h; simp) | cases h
theorem sn_15 {p : gx_Nm} : ∀ k q, gx_sn 15 k p = some q → (k, q) ∈ ([(0, [1, 0, 1]), (4, (4 :: p))] : List (Nat × gx_Nm)) := by
  intro k q h
  have h : gx_sn15 k p = some q := h
  unfold gx_sn15 at h
  split at h <;> first | (cases h; simp) | cases h
theorem sn_16 {p : gx_Nm} : ∀ k q, gx_sn 16 k p = some q → (k, q) ∈ ([(1, (1 :: p)), (2, (2 :: p)), (3, (3 :: p)), (8, (8 :: p)), (9, (9 :: p)), (10, (10 :: p)), (11, (11 :: p)), (12, (12 :: p)), (13, (13 :: p)), (14, (14 :: p)), (15, (15 :: p)), (16, (16 :: p)), (17, (17 :: p)), (18, (18 :: p)), (19, (19 :: p)), (23, (23 :: p)), (24, (24 :: p)), (25, (25 :: p)), (26, (26 :: p)), (28, (28 :: p)), (30, (30 :: p)), (31, (31 :: p)), (32, (32 :: p)), (33, (33 :: p)), (34, (34 :: p)), (35, (35 :: p)), (36, (36 :: p)), (37, (37 :: p)), (38, (38 :: p)), (39, (39 :: p)), (40, (40 :: p)), (41, (41 :: p)), (42, (42 :: p)), (43, (43 :: p)), (44, (44 :: p)), (45, (45 :: p)), (46, (46 :: p)), (47, (47 :: p)), (48, (48 :: p)), (49, (49 :: p)), (50, (50 :: p)), (51, (51 :: p)), (52, (52 :: p)), (53, (53 :: p)), (54, (54 :: p)), (55, (55 :: p)), (56, (56 :: p)), (57, (57 :: p)), (58, (58 :: p)), (59, (59 :: p)), (60, (60 :: p)), (61, (61 :: p)), (63, (63 :: p)), (64, (64 :: p)), (65, (65 :: p)), (66, (66 :: p)), (67, (67 :: p)), (68, (68 :: p)), (69, (69 :: p)), (70, (70 :: p)), (71, (71 :: p)), (72, (72 :: p)), (73, (73 :: p)), (74, (74 :: p)), (77, (77 :: p)), (79, (79 :: p)), (80, (80 :: p)), (82, (82 :: p)), (83, (83 :: p)), (84, (84 :: p)), (85, (85 :: p)), (86, (86 :: p)), (87, (87 :: p)), (88, (88 :: p)), (89, (89 :: p)), (90, (90 :: p)), (91, (91 :: p)), (92, (92 :: p)), (94, (94 :: p)), (95, (95 :: p)), (97, (97 :: p)), (98, (98 :: p)), (99, (99 :: p)), (100, (100 :: p)), (101, (101 :: p)), (102, (102 :: p)), (103, (103 :: p)), (104, (104 :: p)), (105, (105 :: p)), (106, (106 :: p)), (109, (109 :: p)), (114, (114 :: p)), (116, (116 :: p)), (117, (117 :: p)), (118, (118 :: p)), (119, (119 :: p))] : List (Nat × gx_Nm)) := by
  intro k q h
  have h : gx_sn16 k p = some q := h
  unfold gx_sn16 at h
  split at h <;> first | (cases h; simp) | cases h
theorem sn_17 {p : gx_Nm} : ∀ k q, gx_sn 17 k p = some q → (k, q) ∈ ([(10, (10 :: p))] : List (Nat × gx_Nm)) := by
  intro k q h
  have h : gx_sn17 k p = some q := h
  unfold gx_sn17 at h
  split at h <;> first | (cases h; simp) | cases h
theorem sn_18 {p : gx_Nm} : ∀ k q, gx_sn 18 k p = some q → (k, q) ∈ ([(5, (5 :: p))] : List (Nat × gx_Nm)) := by
  intro k q h
  have h : gx_sn18 k p = some q := h
  unfold gx_sn18 at h
  split at h <;> first | (cases h; simp) | cases h
