/-! ===== WALK 16: the start ===== -/
set_option maxRecDepth 100000
theorem gx_inst : ∀ ci, ci < 19 → Cond.instantiable (gx_R ci) (gx_N ci) ∈ lw_all := by
  intro ci h
  match ci, h with
  | 0, _ => exact q131
  | 1, _ => exact q131
  | 2, _ => exact q139
  | 3, _ => exact q145
  | 4, _ => exact q151
  | 5, _ => exact q170
  | 6, _ => exact q210
  | 7, _ => exact q228
  | 8, _ => exact q236
  | 9, _ => exact q253
  | 10, _ => exact q365
  | 11, _ => exact q371
  | 12, _ => exact q444
  | 13, _ => exact q478
  | 14, _ => exact q490
  | 15, _ => exact q498
  | 16, _ => exact q1661
  | 17, _ => exact q1110
  | 18, _ => exact q1502
  | n + 19, h => exact absurd h (by omega)
theorem gx_arr1 {s : State} {args : Array Value} {ty : FieldType} (h : (Cond.arrayClass ty).before args s = true) : ∃ cA, ArrOfT s cA ty ∧ s.vm.findClass (FieldType.array ty).toString = some cA := by
  obtain ⟨comp, k, cc, h1, h2, h3⟩ := Cond.arrayClass_spec h
  exact ⟨comp, fun n z => ⟨fun x hx => (by cases hx), k, h2, cc, h3⟩, h1⟩
theorem gx_arr2 {s : State} {args : Array Value} {C : String} (h : (Cond.arrayOver (.object C)).before args s = true) : ∃ cA, ArrOfT s cA (.object C) ∧ va_RA s cA (.object C) := by
  obtain ⟨comp, c, k, h1, -, h2, h3, h4⟩ := Cond.arrayOver_spec h
  exact ⟨c, fun n z => ⟨fun x hx => (by cases hx), k, h2, comp, h3⟩, k, comp, h2, h3, h1, h4⟩
theorem gx_arr3 {s : State} {args : Array Value} {t : FieldType} (h : (Cond.arrayOver (.array t)).before args s = true) : ∃ cA, ArrOfT s cA (.array t) ∧ s.vm.findClass ("[" ++ (FieldType.array t).toString) = some cA := by
  obtain ⟨comp, c, k, h1, -, h2, h3, h4⟩ := arrayOverA_spec h
  exact ⟨c, fun n z => ⟨fun x hx => (by cases hx), k, h2, comp, h3⟩, h4⟩
theorem gx_arrs {s : State} {args : Array Value} (hts : ∀ w ∈ lw_tbl, w.before args s = true) : ∀ t : Nat, ∃ cA : ClassId, t < 10 → ArrOfT s cA (gx_ety t) ∧ va_RA s cA (gx_ety t) := by
  intro t
  by_cases ht : t < 10
  · match t, ht with
    | 0, _ => exact (gx_arr1 (hts _ (lw_all_tbl q189))).imp fun c h _ => h
    | 1, _ => exact (gx_arr1 (hts _ (lw_all_tbl q168))).imp fun c h _ => h
    | 2, _ => exact (gx_arr1 (hts _ (lw_all_tbl q2041))).imp fun c h _ => h
    | 3, _ => exact (gx_arr1 (hts _ (lw_all_tbl q2391))).imp fun c h _ => h
    | 4, _ => exact (gx_arr2 (hts _ q442)).imp fun c h _ => h
    | 5, _ => exact (gx_arr3 (hts _ q1668)).imp fun c h _ => h
    | 6, _ => exact (gx_arr3 (hts _ q1670)).imp fun c h _ => h
    | 7, _ => exact (gx_arr2 (hts _ q242)).imp fun c h _ => h
    | 8, _ => exact (gx_arr2 (hts _ q377)).imp fun c h _ => h
    | 9, _ => exact (gx_arr2 (hts _ q488)).imp fun c h _ => h
  · exact ⟨0, fun h => absurd h ht⟩
theorem gx_kinds {s : State} {args : Array Value} (hts : ∀ w ∈ lw_tbl, w.before args s = true) : ∀ ci : Nat, ∃ q : ClassId × (Nat → Nat), ci < 19 → u_Kn s (gx_R ci) (gx_T ci) (gx_N ci) q.1 q.2 := by
  intro ci
  by_cases h : ci < 19
  · obtain ⟨c, i, hk⟩ := u_known (ws := lw_all) (fun w hw => hts w (lw_all_tbl hw)) (gx_in_all ci h) (hts _ (lw_all_tbl (gx_inst ci h)))
    exact ⟨(c, i), fun _ => hk⟩
  · exact ⟨(0, fun _ => 0), fun h2 => absurd h2 h⟩
theorem gx_mkS {Y : gx_Y} {s : State} {args : Array Value} {n d : String} (hH : Y.2.2.2.2 = s.heap) (hz : Y.2.1 = s.heap.size) (h1 : (Cond.laysStatic "java/lang/Throwable" n d).before args s = true) (h2 : (Cond.isRef (.static "java/lang/Throwable" n d)).before args s = true) : gx_Sx1 Y n d s := by
  obtain ⟨c, k, i, f, a, cell, e1, e2, e3, e4, e5, e6, e7, e8, e9⟩ := Cond.laysStatic_spec h1
  obtain ⟨v, hv, hr⟩ := Cond.isRef_spec h2
  have hslot : cell.slots[f.slot]? = some v := by simpa [Term.eval, State.fieldNamed?, e2, e3, e4, e5, e6] using hv
  refine ⟨c, k, i, f, a, cell, v, e1, e2, e3, e4, by rw [hz]; exact (Array.getElem?_eq_some_iff.mp e5).1, by rw [hH]; exact e5, e6, e7, e8, e9, hslot, ?_⟩
  cases v with
  | null => exact Or.inl rfl
  | ref b => exact Or.inr ⟨b, rfl⟩
  | _ => cases hr
theorem gx_ncF {s : State} {A B : String} (h : va_Nc A B s) : (Cond.castable A B).before #[] s = false := by
  obtain ⟨c, t, h1, h2, h3⟩ := h
  simp [Cond.before, Cond.holds, Cond.value, h1, h2, h3]
theorem gx_NCn : ∀ q ∈ gx_NC, Cond.not (.castable q.1 q.2) ∈ flatC (Jvm.Cond.and given_1 narrow_1) := by decide +kernel
theorem gx_isr1 : Cond.isRef (.static "java/lang/Throwable" "UNASSIGNED_STACK" "[Ljava/lang/StackTraceElement;") ∈ flatC (Jvm.Cond.and given_1 narrow_1) := by decide +kernel
theorem gx_isr2 : Cond.isRef (.static "java/lang/Throwable" "SUPPRESSED_SENTINEL" "Ljava/util/List;") ∈ flatC (Jvm.Cond.and given_1 narrow_1) := by decide +kernel
theorem gx_las1 : Cond.laysStatic "java/lang/Throwable" "UNASSIGNED_STACK" "[Ljava/lang/StackTraceElement;" ∈ lw_tbl := by decide +kernel
theorem gx_las2 : Cond.laysStatic "java/lang/Throwable" "SUPPRESSED_SENTINEL" "Ljava/util/List;" ∈ lw_tbl := by decide +kernel
theorem gx_mkY {s : State} {b L : Nat} {xs : Nat → Int32} (l : Launch) (hts : ∀ w ∈ lw_tbl, w.before #[Value.ref b] s = true) (hX : va_X b L xs s s.heap) (hgv : (Jvm.Cond.and given_1 narrow_1).before #[Value.ref b] s = true) : ∃ Y : gx_Y, Y.1 = l ∧ Y.2.1 = s.heap.size ∧ Y.2.2.2.2 = s.heap ∧ gx_K Y s ∧ gx_Scr Y b L xs := by
  obtain ⟨scr, x1, x2, x3, x4, x5⟩ := hX
  obtain ⟨dA, hA⟩ := Classical.axiomOfChoice (gx_arrs hts)
  obtain ⟨F, hF⟩ := Classical.axiomOfChoice (gx_kinds hts)
  have hfl := flat_of_before _ hgv
  have hsA : ArrOfT s scr.cls .int := by
    obtain ⟨-, k, hk, comp, hc⟩ := x2
    exact fun n z => ⟨fun x hx => (by cases hx), k, hk, comp, hc⟩
  refine ⟨(l, s.heap.size, (fun ci => if ci = 19 then scr.cls else (F ci).1, fun ci => (F ci).2), dA, s.heap), rfl, rfl, rfl, ⟨⟨?_, ?_⟩, ?_, ?_, ?_, ?_, ⟨?_, ?_⟩, ?_, ?_⟩, ?_⟩
  · intro c q hq
    have hc : c < 19 := (List.getElem?_eq_some_iff.mp hq).1
    rw [gx_CL_at c hc] at hq
    cases hq
    have h := hF c hc
    show u_Kn s _ _ _ (if c = 19 then scr.cls else (F c).1) (F c).2
    rw [if_neg (by omega)]
    exact h
  · intro t q hq
    have ht : t < 10 := (List.getElem?_eq_some_iff.mp hq).1
    rw [gx_TY_at dA t ht] at hq
    cases hq
    exact hA t ht
  · intro a i x h hm
    exact va_Nw.of rfl (hts _ hm)
  · intro C hm
    have e : (Cond.arrayOver C).before #[] s = (Cond.arrayOver C).before #[Value.ref b] s := by simp only [Cond.before, Cond.holds, Cond.value]
    rw [e]
    exact hts _ hm
  · intro x hm
    exact va_Nw.of rfl (hts _ hm)
  · intro a b hm
    exact va_Nw.of rfl (hts _ hm)
  · exact gx_mkS rfl rfl (hts _ gx_las1) (hfl _ gx_isr1)
  · exact gx_mkS rfl rfl (hts _ gx_las2) (hfl _ gx_isr2)
  · intro q hq
    exact gx_ncF (va_Nc.of (hfl _ (gx_NCn q hq)))
  · show ArrOfT s (if (19 : Nat) = 19 then scr.cls else (F 19).1) .int
    rw [if_pos rfl]
    exact hsA
  · refine ⟨(Array.getElem?_eq_some_iff.mp x1).1, scr, x1, ?_, x2.1, x3, x4, x5⟩
    show scr.cls = if (19 : Nat) = 19 then scr.cls else (F 19).1
    rw [if_pos rfl]
