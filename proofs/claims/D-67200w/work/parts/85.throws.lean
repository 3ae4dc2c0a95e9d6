/-! ===== WALK 10: methods that throw ===== -/
set_option maxRecDepth 100000
/-- the kinds of exceptions by their numbers -/
def gx_EX (k : Nat) : String := match k with
  | 0 => "java/lang/IllegalArgumentException"
  | 1 => "java/util/NoSuchElementException"
  | 2 => "java/lang/IllegalStateException"
  | _ => "java/lang/IndexOutOfBoundsException"
/-- an exception of the kind k lies at x -/
def gx_Exn (k : Nat) (x : Addr) (t : State) : Prop := ∃ cell : Cell, t.heap[x]? = some cell ∧ cell.vm = .none ∧ t.vm.findClass (gx_EX k) = some cell.cls
def gx_Ox {α : Type} (O : gx_Ob α) : gx_Ob (α ⊕ Nat) := (fun r S => match r with
  | .inl a => O.1 a S
  | .inr k => k < 4, fun r S o t => match r with
  | .inl a => O.2 a S o t
  | .inr k => ∃ x, o = .threw x ∧ gx_Exn k x t)
/-- no stack traces in this launch -/
def gx_Tr (Y : gx_Y) : Prop := ∀ e : Env, Y.1.admits e → e.platform.stackTraces = false
def gx_names : List String := ["java/lang/RuntimeException", "java/lang/Exception"]
def gx_okAtom (w : Cond) : Bool := match w with
  | .declares x => decide (Cond.declares x ∈ lw_tbl)
  | .castable a b => decide (Cond.castable a b ∈ lw_tbl)
  | .laysStatic c n d => decide (c = "java/lang/Throwable" ∧ (n = "UNASSIGNED_STACK" ∧ d = "[Ljava/lang/StackTraceElement;" ∨ n = "SUPPRESSED_SENTINEL" ∧ d = "Ljava/util/List;"))
  | .isRef (.static c n d) => decide (c = "java/lang/Throwable" ∧ (n = "UNASSIGNED_STACK" ∧ d = "[Ljava/lang/StackTraceElement;" ∨ n = "SUPPRESSED_SENTINEL" ∧ d = "Ljava/util/List;"))
  | w => decide (w ∈ lw_all)
theorem gx_Sx1.lays {Y : gx_Y} {n d : String} {U : State} {args : Array Value} (h : gx_Sx1 Y n d U) (hH : ∀ q, q < Y.2.1 → U.heap[q]? = Y.2.2.2.2[q]?) : (Cond.laysStatic "java/lang/Throwable" n d).before args U = true := by
  obtain ⟨c, k, i, f, a, cell, v, h1, h2, h3, h4, h5, h6, h7, h8, h9, h10, h11, h12⟩ := h
  exact Cond.laysStatic_of h1 h2 h3 h4 (by rw [hH a h5]; exact h6) h7 h8 h9 h10
theorem gx_Sx1.isr {Y : gx_Y} {n d : String} {U : State} {args : Array Value} (h : gx_Sx1 Y n d U) (hH : ∀ q, q < Y.2.1 → U.heap[q]? = Y.2.2.2.2[q]?) : (Cond.isRef (.static "java/lang/Throwable" n d)).before args U = true := by
  obtain ⟨c, k, i, f, a, cell, v, h1, h2, h3, h4, h5, h6, h7, h8, h9, h10, h11, h12⟩ := h
  have hc : U.heap[a]? = some cell := by rw [hH a h5]; exact h6
  rcases h12 with rfl | ⟨b, rfl⟩ <;> simp [Cond.before, Cond.holds, Cond.value, Term.eval, State.fieldNamed?, h2, h3, h4, hc, h7, h11]
theorem gx_atom {Y : gx_Y} {s : State} {args : Array Value} (hts : ∀ w ∈ lw_all, w.before args s = true) (hK : gx_K Y s) (hH : ∀ q, q < Y.2.1 → s.heap[q]? = Y.2.2.2.2[q]?) {w : Cond} (h : gx_okAtom w = true) : w.before args s = true := by
  unfold gx_okAtom at h
  split at h
  · exact va_Nw.use rfl (hK.2.2.2.1 _ (of_decide_eq_true h))
  · exact va_Nw.use rfl (hK.2.2.2.2.1 _ _ (of_decide_eq_true h))
  · obtain ⟨rfl, ⟨rfl, rfl⟩ | ⟨rfl, rfl⟩⟩ := of_decide_eq_true h
    · exact hK.2.2.2.2.2.1.1.lays hH
    · exact hK.2.2.2.2.2.1.2.lays hH
  · obtain ⟨rfl, ⟨rfl, rfl⟩ | ⟨rfl, rfl⟩⟩ := of_decide_eq_true h
    · exact hK.2.2.2.2.2.1.1.isr hH
    · exact hK.2.2.2.2.2.1.2.isr hH
  · exact hts _ (of_decide_eq_true h)
theorem gx_sameCell {c c' : Cell} (h1 : c' = { c with slots := c'.slots }) (h2 : ∀ i : Nat, c'.slots[i]? = c.slots[i]?) : c' = c := by
  have : c'.slots = c.slots := Array.ext_getElem? h2
  rw [h1, this]
/-- if (!fine) throw new X(); -/
theorem gx_thrower {Y : gx_Y} (hT : gx_Tr Y) {y : MethodName} {cc : ByteArray} {ix ic kx : Nat} (hk : kx < 4) (hy : plainName y.cls = true)
    (d0 : decode cc 0 = .ok (.iload_n 0, 1)) (d1 : decode cc 1 = .ok (.ifCond .ne 11, 3)) (d4 : decode cc 4 = .ok (.new ix, 3)) (d7 : decode cc 7 = .ok (.dup, 1)) (d8 : decode cc 8 = .ok (.invokespecial ic, 3)) (d11 : decode cc 11 = .ok (.athrow, 1)) (d12 : decode cc 12 = .ok (.return_, 1))
    (hcl : Cond.classLink y.cls ix (gx_EX kx) ∈ lw_all) (hins : Cond.instantiable (gx_EX kx) 6 ∈ lw_all) (hini : Cond.initialized (gx_EX kx) ∈ lw_all) (hfit : Bundle.fit (gx_EX kx) = true) (hat : (Bundle.ownAtoms0 y.cls ic (gx_EX kx) gx_names).all gx_okAtom = true) (x0 : Int32) :
    gx_CtX Y y (ws_ y cc 1 none) 8 300 [gx_i x0] (gx_Ox gx_Ov) (if x0 = 0 then gx_bd (gx_ex 1 6) (fun _ => gx_rt (.inr kx)) else gx_rt (.inl ())) := by
  intro S S' r hf hwf hok
  have hstart : ∀ (mc ms : Nat), (∀ p e s m args below meth c s₁, BodyLoose p Y.1 y (headSpec (ws_ y cc 1 none) ({ frames := 8, cells := mc, slots := ms, locals := 300 })) cc 1 none e s m args below meth c s₁ → c.maxLocals = 1 → gx_Pc Y [gx_i x0] S args s →
      W p Y.1 e ({ frames := 8, cells := mc, slots := ms, locals := 300 }) s m args below meth c s.heap [] 0 0 (gx_MQ below (gx_Q Y (gx_Ox gx_Ov) r S') args s mc ms (fun q => Y.2.1 ≤ q)) (entryFrame m args 1)) → gx_MetX Y.1 y (ws_ y cc 1 none) ({ frames := 8, cells := mc, slots := ms, locals := 300 }) (gx_Pc Y [gx_i x0] S) (gx_Q Y (gx_Ox gx_Ov) r S') mc ms (fun q => Y.2.1 ≤ q) := by
    intro mc ms hB
    refine MetFree.of_bodyS (code := cc) (maxLocals := 1) (ret := none) hy ?_ ?_
    · intro args s m h hn
      obtain ⟨meth, c, h1, h2, h3, h4, h5, h6, -, -⟩ := Cond.code_spec hn (atoms_spec (ws := ws_ y cc 1 none) h _ List.mem_cons_self)
      exact ⟨meth, c, h1, h2, h3, h4, h5, h6⟩
    · intro p e s m args below meth c s₁ B hml hP _
      have hh0 : s₁.heap = s.heap := by rw [B.state]; rfl
      obtain ⟨t, a1, o, b1, b2, b3⟩ := hB p e s m args below meth c s₁ B hml hP s₁ hh0 (Stand.of_body B)
      exact ⟨t, o, a1, b1, b2, ⟨b3.1, b3.2⟩⟩
  by_cases hx : x0 = 0
  · rw [if_pos hx] at hf
    have hf2 : some ((Sum.inr kx : Unit ⊕ Nat), hp_ex S 1 6) = some (r, S') := hf
    cases hf2
    have e1 : hp_C (hp_ex S 1 6) - hp_C S = 1 := by show hp_C S + 1 - hp_C S = 1; omega
    have e2 : hp_Z (hp_ex S 1 6) - hp_Z S = 6 := by show hp_Z S + 6 - hp_Z S = 6; omega
    rw [e1, e2]
    refine ⟨⟨gx_Le.ex _ _ _, hwf.more _ _, hk⟩, hstart 1 6 ?_⟩
    intro p e s m args below meth c s₁ B hml hv
    obtain ⟨rfl, hK, hR⟩ := hv
    have hx1 := B.exec
    have hb := B.bytes
    have hts := atoms_spec (ws := ws_ y cc 1 none) B.pre
    have hts : ∀ w ∈ lw_all, w.before _ s = true := fun w h => hts w (List.mem_cons_of_mem _ h)
    have hown : s.vm.findClass y.cls = some m.cls := findClass_of_methodNamed B.named
    have hnoH : c.exceptionTable.toList = [] := by
      have h := gx_noH B
      exact List.map_eq_nil_iff.mp h
    have hl := lv_entry ([.int x0] : List Value) (n := 1) (Nat.le_of_ble_eq_true rfl)
    rw [lg_entry_eq]
    change W _ _ _ _ _ _ _ _ _ _ _ _ _ _ _ (F0 m 0 ((lg_sl ([.int x0] : List Value) ++ List.replicate (1 - (lg_sl ([.int x0] : List Value)).length) Slot.unset).toArray) [])
    generalize (lg_sl ([.int x0] : List Value) ++ List.replicate (1 - (lg_sl ([.int x0] : List Value)).length) Slot.unset).toArray = ls at hl ⊢
    have hl : lv_has ls 1 [(0, .int x0)] := hl
    refine lv_iload_n hx1 hb d0 rfl (lv_at hl 0 rfl) ?_
    refine lv_if_ne (tgt := 12) hx1 hb d1 (by decide) (fun h => absurd hx h) (fun _ => ?_)
    obtain ⟨cC, kC0, hfc, hkC0, -⟩ := Cond.instantiable_spec (hts _ hins)
    refine W.newcK hx1 hb hown (hts _ hcl) (hts _ hins) (hts _ hini) rfl d4 (Nat.le_of_ble_eq_true rfl) (Nat.le_of_ble_eq_true rfl) hfc rfl fun H' kC hkC f1 f2 f3 => ?_
    refine lv_dup hx1 hb d7 rfl ?_
    intro T hTh X
    have hH0 : ∀ q, q < Y.2.1 → s.heap[q]? = Y.2.2.2.2[q]? := hR.1.2
    obtain ⟨U, st, hrun, hend, hWm, hsame, ce, hce, hoc⟩ := X.ctorThrow0 hx1 (hT e X.admits) (cls := gx_EX kx) (names := gx_names) (ic := ic) hown hfit (by decide +kernel) (fun w hw => gx_atom hts hK hH0 (List.all_eq_true.mp hat w hw)) (fun x hx => by cases hx) (a := s.heap.size) hfc hkC (by rw [hTh]; exact f1) (Nat.le_refl _)
      (g := F0 m 8 ls [.ref s.heap.size, .ref s.heap.size]) rfl (by rw [hml]; exact hl.1) rfl rfl (rest := []) rfl (by rw [hb]; exact d8) (by rw [hb]; exact d11) (by rw [hnoH]; intro x hx; cases hx) (Nat.le_of_ble_eq_true rfl) (Nat.le_of_ble_eq_true rfl) B.notSynchronized
    refine ⟨U, st, .threw s.heap.size, hrun, hend, ⟨⟨s.heap.size, rfl, ce, hce, hoc.vm, ?_⟩, ?_⟩, [], ⟨Or.inr ⟨_, rfl⟩, hWm, hsame⟩, fun q hq => by cases hq⟩
    · rw [hWm.alike.findClass]; exact hoc.cls
    · obtain ⟨-, q2, q3, -, -, q6⟩ := hsame
      have hlt : s.heap.size < U.heap.size := (Array.getElem?_eq_some_iff.mp hce).1
      have q3 : U.heap.size ≤ s.heap.size + 1 := q3
      refine gx_Hp.more hR hwf (show U.heap.size = s.heap.size + 1 by omega) (fun q hq => ?_)
      obtain ⟨c', g1, g2, g3, g4⟩ := q6 q s.heap[q] (Array.getElem?_eq_getElem hq)
      have g1 : U.heap[q]? = some c' := g1
      rw [g1, gx_sameCell g2 (fun i => g4 i (by simp)), Array.getElem?_eq_getElem hq]
  · rw [if_neg hx] at hf
    cases hf
    rw [Nat.sub_self, Nat.sub_self]
    refine ⟨⟨gx_Le.rf _, hwf, trivial⟩, hstart 0 0 ?_⟩
    intro p e s m args below meth c s₁ B hml hv
    obtain ⟨rfl, hK, hR⟩ := hv
    have hx1 := B.exec
    have hb := B.bytes
    have hl := lv_entry ([.int x0] : List Value) (n := 1) (Nat.le_of_ble_eq_true rfl)
    rw [lg_entry_eq]
    change W _ _ _ _ _ _ _ _ _ _ _ _ _ _ _ (F0 m 0 ((lg_sl ([.int x0] : List Value) ++ List.replicate (1 - (lg_sl ([.int x0] : List Value)).length) Slot.unset).toArray) [])
    generalize (lg_sl ([.int x0] : List Value) ++ List.replicate (1 - (lg_sl ([.int x0] : List Value)).length) Slot.unset).toArray = ls at hl ⊢
    have hl : lv_has ls 1 [(0, .int x0)] := hl
    refine lv_iload_n hx1 hb d0 rfl (lv_at hl 0 rfl) ?_
    refine lv_if_ne (tgt := 12) hx1 hb d1 (by decide) (fun _ => ?_) (fun h => absurd h hx)
    exact gx_W_mono (fun t ht => gx_MQ.of ht) (W.vret hx1 hb B.returns (fun t ht _ => ⟨rfl, by rw [ht]; exact hR⟩) (fun q hq => by cases hq) d12 B.notSynchronized)
