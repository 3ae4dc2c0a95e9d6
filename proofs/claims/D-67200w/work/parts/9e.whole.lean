/-! ===== WALK 17: the whole run, out of the plain law ===== -/
set_option maxRecDepth 100000
/-- nothing is made yet -/
def gx_S0 : gx_St := (fun _ => 0, fun _ => 0, fun _ => 0, fun _ _ => 0, fun _ _ => none, fun _ _ => 0, 0, 0)
theorem gx_Wf0 : gx_Wf gx_S0 := by
  refine ⟨fun p h => absurd rfl h, fun p q h => absurd rfl h, fun p ci k q _ h => absurd (show (0 : Nat) = ci + 1 from h) (by omega), fun p ci k q h => absurd rfl h.live, fun p t i q _ _ h => absurd (show (0 : Nat) = 100 + t from h) (by omega), fun p ci k h => absurd rfl h.live, fun p i h => absurd (show (0 : Nat) = 101 from h) (by omega)⟩
/-- the plain law -/
def gx_Plain : Prop := ∀ (n : Nat) (u : Nat → Int32), n ≤ 384 → ∃ S', f_L_law n u gx_S0 = some (1, S') ∧ hp_C S' ≤ 600384 ∧ hp_Z S' ≤ 7289834
theorem gx_forget {s t : State} {L : List Loc} {k n k' n' : Nat} (h : s.sameButNew t L k n) (hL : ∀ q ∈ L, s.heap.size ≤ q.base) (hk : k ≤ k') (hn : n ≤ n') : s.sameButNew t [] k' n' := by
  obtain ⟨h1, h2, h3, h4, h5, h6⟩ := h
  refine ⟨h1, h2, Nat.le_trans h3 (by omega), h4, Nat.le_trans h5 (by omega), fun q cell hq => ?_⟩
  obtain ⟨c', g1, g2, g3, g4⟩ := h6 q cell hq
  refine ⟨c', g1, g2, g3, fun i _ => g4 i (fun hm => ?_)⟩
  have := hL _ hm
  have hlt := (Array.getElem?_eq_some_iff.mp hq).1
  exact absurd this (Nat.not_le.mpr hlt)
/-- what holds at the law's entry -/
def gx_At (p : Program) (l : Launch) (s : State) (m : MethodId) (meth : Method) (c : Code) (b L : Nat) (xs : Nat → Int32) : Prop :=
  p.tables.exec = Jvm.exec ∧ c.code = code ∧ meth.sig.returnType = ret ∧ c.maxLocals = 7 ∧ s.vm.findClass "CouncilStoreLaw" = some m.cls ∧ (∀ w ∈ lw_tbl, w.before #[Value.ref b] s = true) ∧ va_X b L xs s s.heap ∧ meth.locks = false ∧ (Jvm.Cond.and given_1 narrow_1).before #[Value.ref b] s = true ∧ meth.name = "law" ∧ c.exceptionTable.toList = [] ∧ ∀ e : Env, l.admits e → e.platform.stackTraces = false
theorem gx_whole (hp : gx_Plain) {p : Program} {e : Env} {s : State} {m : MethodId} {below : List Frame} {meth : Method} {c : Code} (l : Launch) {b L : Nat} {xs : Nat → Int32} (hL : L ≤ 384) (C0 : gx_At p l s m meth c b L xs) :
    W p l e room_1 s m #[Value.ref b] below meth c s.heap [] 0 0 (fun t => ∃ o, t.status = .running ∧ Ended t below o ∧ o = .returned (some (.int 1)) ∧ Framed s o t [] 600384 7289834) (entryFrame m ([Value.ref b] : List Value).toArray 7) := by
  obtain ⟨hx, hb, hr, hml, hown, hts, hX, hlocks, hgv, hname, htab, hTr⟩ := C0
  obtain ⟨Y, y1, y2, y3, hK, hsc⟩ := gx_mkY l hts hX hgv
  subst y1
  obtain ⟨S', hf, hC, hZ⟩ := hp L xs hL
  have hR0 : gx_Rq Y gx_S0 s.heap := by
    refine ⟨⟨by rw [y2]; rfl, fun q _ => by rw [y3]⟩, fun p ci h => absurd rfl h.live, fun p t _ h => absurd (show (0 : Nat) = 100 + t from h) (by omega)⟩
  have hok : gx_ok gx_S0 [(0, gx_x b)] [] := ⟨fun q hq => by rw [List.mem_singleton.mp hq]; trivial, fun v hv => (List.not_mem_nil hv).elim⟩
  obtain ⟨hle, hV⟩ := ct_L_law Y hTr b L xs hsc gx_S0 S' 1 (by rw [gx_bd_of hf]; rfl) gx_Wf0 hok
  have hl := lv_entry ([.ref b] : List Value) (n := 7) (Nat.le_of_ble_eq_true rfl)
  rw [lg_entry_eq]
  generalize (lg_sl ([Value.ref b]) ++ List.replicate (7 - (lg_sl ([Value.ref b])).length) Slot.unset).toArray = ls at hl ⊢
  refine gx_W_mono (fun t ht => ?_) (hV p e room_1 s m #[Value.ref b] below meth c 0 0 ⟨hx, hb, hml, hown, fun w hw => hts w (lw_all_tbl hw), hK, hr, hlocks, hname, rfl, rfl, by rw [htab]; rfl⟩ s.heap [] ls 0 0 hR0 hok hl (fun q hq => by cases hq) rfl rfl (by rw [Nat.zero_add]; exact hC) (by rw [Nat.zero_add]; exact hZ))
  obtain ⟨o, t1, t2, ⟨t3, -⟩, L', ⟨t4, t5, t6⟩, t7⟩ := ht
  have t3 : o = .returned (some (.int 1)) := t3
  refine ⟨o, t1, t2, t3, ⟨_, t3⟩, t5, gx_forget t6 (fun q hq => by rw [← y2]; exact t7 q hq) ?_ ?_⟩
  · rw [Nat.sub_zero]
    exact hC
  · rw [Nat.sub_zero]
    exact hZ
