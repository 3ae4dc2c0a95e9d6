/-! ===== WALK 11: calls of methods that may throw ===== -/
set_option maxRecDepth 100000
/-- a method that throws, called: the caller's frame below the exception -/
theorem gx_backT {l : Launch} {R : Room} {p : Program} {e : Env} {below : List Frame} {s : State} {sargs : Array Value} {y : MethodName} {W : Nat} {ws : List Cond} {rm : Room} {Pc : Array Value → State → Prop} {Qc : Array Value → State → Outcome → State → Prop} {mc ms : Nat} {free : Addr → Prop} {bytes : ByteArray} {maxL : Nat} {ret : Option FieldType}
    (hM : gx_MetX l y ws rm Pc Qc mc ms free) (hthr : ∀ a st o t, Qc a st o t → ∃ x, o = .threw x) (hblind : FrameBlind Pc) (hrc : rm.cells = mc) (hrs : rm.slots = ms)
    (hframes : rm.frames + 1 ≤ R.frames) (hlocals : W + (maxL + 11) + rm.locals ≤ R.locals)
    (hws : ∀ w ∈ ws, ∀ a' U, s.WarmedH U.vm → w.before a' U = true) (hcode : Cond.code y bytes maxL ret ∈ ws) (hinit : ∀ a' U, s.WarmedH U.vm → (Cond.initialized y.cls).before a' U = true)
    {m : MethodId} {meth : Method} {c : Code} {U : State} {locs : List Loc} {cells slots : Nat} (X : Stand p l e R s m sargs below meth c U locs cells slots) {g : JFrame} (hg : g.method = m) (hsize : g.locals.size = c.maxLocals) {ig : Instr} {len : Nat} (hdg : decode c.code g.pc = .ok (ig, len)) (hW : 2 * g.monitorRoom + (g.stack.map fun v => v.category).sum ≤ W) {mk : MethodId} (hn : U.methodNamed? y = some mk) {a : Array Value} (hp1 : cells + mc ≤ R.cells) (hp2 : slots + ms ≤ R.slots) (hp3 : Pc a U) :
    ∃ (x : Addr) (t T' : State) (L : List Loc), Stand p l e R s m sargs below meth c T' (locs ++ L) (cells + mc) (slots + ms) ∧ (∀ q ∈ L, free q.base) ∧ T'.heap = t.heap ∧ T'.vm = t.vm ∧ Qc a (U.calling g mk a) (.threw x) t ∧ Steps p.tables e below (doInvoke e (U.setTop g) [] mk a).1 ((T'.setTop g).pushFrame (.throwing x)) := by
  have h2 : (Cond.code y bytes maxL ret).before a U = true := hws _ hcode _ _ X.warmed
  obtain ⟨methY, cY, hmY, hcY, -, hlY, -, -, -, -⟩ := Cond.code_spec hn h2
  obtain ⟨kY, hkY, -⟩ := className_of_methodNamed hn
  have hinitY : kY.init = .initialized := Cond.initialized_spec (findClass_of_methodNamed hn) hkY (hinit a _ X.warmed)
  have h : At U g.method c below := by rw [hg]; exact X.here
  have happ : (headSpec ws rm).appliesLoose y e.platform (U.calling g mk a) = true :=
    Spec.appliesLoose_calling (g := g) h hdg hn hkY hinitY
      (X.room_calling (g := g) (R' := (headSpec ws rm).room) hsize hmY hcY hframes (by rw [hlY]; show _ + _ + rm.locals ≤ _; omega) (by rw [show (headSpec ws rm).room.cells = mc from hrc]; exact hp1) (by rw [show (headSpec ws rm).room.slots = ms from hrs]; exact hp2)) (atoms_intro fun w hw => hws w hw _ _ X.warmed)
  obtain ⟨mid, hmid⟩ := h.above
  have hfr : (U.setTop g).frames = (.java g :: mid) ++ below := by rw [State.frames_setTop' g h.top, hmid]; rfl
  obtain ⟨o, s₂, hsteps, -, hend, hq⟩ := Steps.callFree hM p X.admits X.cas X.clock (acts := []) hfr happ (hblind a U g mk hp3) trivial
  have hq' : Qc a (U.calling g mk a) o s₂ ∧ ∃ L, gx_FE (U.calling g mk a) o s₂ L mc ms ∧ ∀ q ∈ L, free q.base := hq
  obtain ⟨hq1, L, ⟨-, hW2, hsame⟩, hL⟩ := hq'
  obtain ⟨x, rfl⟩ := hthr _ _ _ _ hq1
  rw [State.frames_setTop' g h.top, X.tail] at hend
  obtain ⟨T', X', hw3, hs3, ht⟩ := X.outOfThrown hg hend hW2 hsame
  refine ⟨x, s₂, T', L, X', hL, ?_, ?_, hq1, ?_⟩
  · rw [ht, Stand.throwing_heap]
  · rw [ht, Stand.throwing_vm]
  · rw [← ht]
    exact hsteps
/-- the way on which a call returns -/
def gx_un {β : Type} (op : gx_M (β ⊕ Nat)) : gx_M β := fun S => match op S with
  | some (.inl a, S1) => some (a, S1)
  | _ => none
theorem gx_un_some {β : Type} {op : gx_M (β ⊕ Nat)} {S S1 : gx_St} {a : β} (h : gx_un op S = some (a, S1)) : op S = some (.inl a, S1) := by
  unfold gx_un at h
  split at h
  · rename_i a' S1' h'
    cases h
    exact h'
  · cases h
theorem gx_un_of {β : Type} {op : gx_M (β ⊕ Nat)} {S S1 : gx_St} {a : β} (h : op S = some (.inl a, S1)) : gx_un op S = some (a, S1) := by
  unfold gx_un
  rw [h]
theorem gx_CtX.un {Y : gx_Y} {y : MethodName} {ws : List Cond} {F L : Nat} {av : List gx_A} {β : Type} {O2 : gx_Ob β} {op : gx_M (β ⊕ Nat)} (hO : ∀ r S o t, O2.2 r S o t → ∃ v, o = .returned v) (h : gx_CtX Y y ws F L av (gx_Ox O2) op) : gx_Ct Y y ws F L av O2 (gx_un op) := by
  intro S S' r hf hwf hok
  obtain ⟨hlw, hM⟩ := h S S' (.inl r) (gx_un_some hf) hwf hok
  refine ⟨hlw, ?_⟩
  refine MetFree.mono hM (fun _ _ h => h) (fun _ _ _ _ _ h => h) ?_
  intro a s o t _ hq
  obtain ⟨⟨q1, q2⟩, L', ⟨-, q3⟩, q4⟩ := hq
  exact ⟨⟨q1, q2⟩, L', ⟨hO _ _ _ _ q1, q3⟩, q4⟩
section
variable {Y : gx_Y} {μ : gx_U} {ρ α : Type} {O : gx_Ob ρ} {pc : Nat} {lv : List (Nat × gx_A)} {st : List gx_A} {k : α → gx_M ρ}
/-- a call that throws -/
def gx_RunT (Y : gx_Y) (μ : gx_U) (pc : Nat) (st0 : List gx_A) (S : gx_St) (kx : Nat) (S1 : gx_St) : Prop :=
  ∀ (p : Program) (e : Env) (R : Room) (s : State) (m : MethodId) (args : Array Value) (below : List Frame) (meth : Method) (c : Code) (H : Heap) (locs : List Loc) (cells slots : Nat) (ls : Array Slot), gx_C Y μ p R s m args meth c → gx_Rq Y S H → ls.size = μ.2.2.2.2.1 → cells + (hp_C S1 - hp_C S) ≤ R.cells → slots + (hp_Z S1 - hp_Z S) ≤ R.slots →
    ∀ T : State, T.heap = H → Stand p Y.1 e R s m args below meth c T locs cells slots → ∃ (x : Addr) (T' : State) (L : List Loc) (stk : List Value), Stand p Y.1 e R s m args below meth c T' (locs ++ L) (cells + (hp_C S1 - hp_C S)) (slots + (hp_Z S1 - hp_Z S)) ∧ (∀ q ∈ L, Y.2.1 ≤ q.base) ∧ gx_Exn kx x T' ∧ gx_Rq Y S1 T'.heap ∧
      Steps p.tables e below (T.setTop (F0 m pc ls (st0.map (gx_cv Y.2.1 (hp_A S))))) ((T'.setTop (F0 m pc ls stk)).pushFrame (.throwing x))
theorem gx_Exn.mv {kx : Nat} {x : Addr} {t T : State} (h1 : T.heap = t.heap) (h2 : T.vm = t.vm) (h : gx_Exn kx x t) : gx_Exn kx x T := by
  obtain ⟨c, q1, q2, q3⟩ := h
  exact ⟨c, by rw [h1]; exact q1, q2, by rw [h2]; exact q3⟩
theorem gx_runVT {β : Type} {O2 : gx_Ob β} {op : gx_M (β ⊕ Nat)} {y : MethodName} {bytes : ByteArray} {maxL F L n ix ci t : Nat} {ret : Option FieldType} {own : String} {a : gx_Nm} {as st0 : List gx_A} (hct : gx_CtX Y y (ws_ y bytes maxL ret) F L (gx_r t (some a) :: as) (gx_Ox O2) op) (hci : ci < 19) (ht : t = ci + 1 ∨ t = 30 + ci) (hcy : y.cls = gx_R ci) (hst0 : st0 = as.reverse ++ gx_r t (some a) :: st) (hlg : as.all (fun v => !gx_long v) = true) (ho : μ.2.1 = own)
    (h1 : Cond.methodLink own ix y ∈ lw_all) (h2 : Cond.instanceMethod y ∈ lw_all) (h3 : Cond.selects (gx_R ci) y y ∈ lw_all) (h4 : Cond.initialized (gx_R ci) ∈ lw_all) (h5 : Cond.code y bytes maxL ret ∈ lw_all) (hn : as.length = n) (hd9 : y.cls ≠ "java/lang/invoke/MethodHandle" ∧ y.cls ≠ "java/lang/invoke/VarHandle" ∧ (parseMethodDescriptor y.desc).map (fun d => d.parameters.length) = some n) (hfr : F + 1 ≤ μ.2.2.2.2.2.1) (hlo : 8 + (maxL + 11) + L ≤ μ.2.2.2.2.2.2.1) (hsm : (st.map gx_wd).sum ≤ 8) (hd : decode μ.1 pc = .ok (.invokevirtual ix, 3)) :
    ∀ (S S1 : gx_St) (kx : Nat), op S = some (.inr kx, S1) → gx_Wf S → gx_ok S lv st0 → gx_Lw (kx < 4) S S1 ∧ gx_RunT Y μ pc st0 S kx S1 := by
  subst ho
  subst hst0
  intro S S1 kx hop hwf hok
  have hoka : gx_ok S [] (gx_r t (some a) :: as) := gx_okargs hok (fun v hv => by
    rcases List.mem_cons.mp hv with h | h
    · rw [h]; simp
    · simp [h])
  obtain ⟨hlw, hM⟩ := hct S S1 (.inr kx) hop hwf hoka
  have hob := gx_wt.ob (hoka.2 _ List.mem_cons_self) hci ht
  refine ⟨hlw, ?_⟩
  intro p e R s m args below meth c H locs cells slots ls hC hR hls hc hs T hT X
  obtain ⟨hx, hb, hml, hown, hts, hK, -, -, -, hRf, hRl, -⟩ := hC
  have hav : (gx_r t (some a) :: as).map (gx_lc Y.2.1 (hp_A S)) = Value.ref (Y.2.1 + hp_A S a) :: as.map (gx_cv Y.2.1 (hp_A S)) := by
    rw [List.map_cons, gx_lccvs Y.2.1 hlg]
    rfl
  have hPS := gx_PcS (av := gx_r t (some a) :: as) hK hR
  rw [hav] at hPS
  have cw := cwV (R := R) (rm := { frames := F, cells := hp_C S1 - hp_C S, slots := hp_Z S1 - hp_Z S, locals := L }) (mc := hp_C S1 - hp_C S) (ms := hp_Z S1 - hp_Z S) n hts (lw_V h1 h2 h3 h4 h5) rfl rfl rfl ⟨hcy, hd9⟩ ⟨by rw [hRf]; exact hfr, by rw [hRl]; exact hlo⟩
  obtain ⟨⟨hrc, hrs, hfr', hlo', hws, hcw, hcode, hini, hy, hlen, hl⟩, hinst, hsel⟩ := cw
  obtain ⟨cellB, hcB, hobj, hcls⟩ := gx_recv (Y := Y) hK hR hob
  obtain ⟨mk, methM, hnamed, hmethM, hstM, habM⟩ := Cond.instanceMethod_spec hinst
  obtain ⟨methM', cM, hmethM', -, -, -, -, -, -, hsigM⟩ := Cond.code_spec hnamed hcode
  cases hmethM.symm.trans hmethM'
  obtain ⟨c2, r2, m2, q1, q2, q3, q4, kP, hkP, hkPi⟩ := Cond.selects_spec hsel
  cases hcls.symm.trans q1
  cases (State.methodFound?_of_named hnamed hy).symm.trans q2
  cases hnamed.symm.trans q3
  have hselP : selectMethod e.platform s.vm cellB.cls mk = .method mk := by rw [Launch.admits_selectMethod X.admits]; exact q4
  obtain ⟨vm₁, X₁, hstep₁⟩ := X.invokevirtual hx hown hl hnamed hmethM hstM hkP hkPi hy (a := Y.2.1 + hp_A S a) (cell := cellB) (by rw [hT]; exact hcB)
    (fun z h => by rw [h] at hobj; cases hobj) hselP hmethM habM hkP hkPi (g := F0 m pc ls ((as.reverse ++ gx_r t (some a) :: st).map (gx_cv Y.2.1 (hp_A S)))) rfl (argsL := as.map (gx_cv Y.2.1 (hp_A S))) (rest := st.map (gx_cv Y.2.1 (hp_A S))) (by rw [List.length_map]; exact hn.trans (hlen _ hsigM)) (by show List.map _ _ = _; rw [List.map_append, List.map_reverse]; rfl) (by rw [hb]; exact hd)
  obtain ⟨x, t', T', L', X', hL, e1, e2, ⟨hq1, hq2⟩, hsteps⟩ := gx_backT (bytes := bytes) (maxL := maxL) (ret := ret) (W := 8) (g := F0 m pc ls (st.map (gx_cv Y.2.1 (hp_A S)))) hM (fun a st o t h => by obtain ⟨⟨x, h, -⟩, -⟩ := h; exact ⟨x, h⟩) hPS.1 hrc hrs hfr' hlo' hws hcw (fun a' U hW => word_at hW (Or.inl (by first | rfl | simp [Cond.onTables, Cond.keeps, Cond.steady])) hini) X₁ rfl (by rw [hml]; exact hls) (by rw [hb]; exact hd) (gx_hW (m := m) (pc := pc) (ls := ls) (s0 := st.map (gx_cv Y.2.1 (hp_A S))) hsm) (X₁.named hnamed) hc hs (hPS.2 (T.setVm vm₁) hT X₁.warmed)
  obtain ⟨x', hx', hexn⟩ := hq1
  cases hx'
  exact ⟨x, T', L', st.map (gx_cv Y.2.1 (hp_A S)), X', hL, hexn.mv e1 e2, by rw [e1]; exact hq2, (hstep₁ _ fun acts => by rw [doInvoke_state]; exact Steps.refl _).trans hsteps⟩
theorem gx_runST {β : Type} {O2 : gx_Ob β} {op : gx_M (β ⊕ Nat)} {y : MethodName} {bytes : ByteArray} {maxL F L n ix : Nat} {ret : Option FieldType} {own : String} {as st0 : List gx_A} (hct : gx_CtX Y y (ws_ y bytes maxL ret) F L as (gx_Ox O2) op) (hst0 : st0 = as.reverse ++ st) (hlg : as.all (fun v => !gx_long v) = true) (ho : μ.2.1 = own)
    (h1 : Cond.methodLink own ix y ∈ lw_all) (h2 : Cond.static y ∈ lw_all) (h4 : Cond.initialized y.cls ∈ lw_all) (h5 : Cond.code y bytes maxL ret ∈ lw_all) (hn : as.length = n) (hd9 : y.cls ≠ "java/lang/invoke/MethodHandle" ∧ y.cls ≠ "java/lang/invoke/VarHandle" ∧ (parseMethodDescriptor y.desc).map (fun d => d.parameters.length) = some n) (hfr : F + 1 ≤ μ.2.2.2.2.2.1) (hlo : 8 + (maxL + 11) + L ≤ μ.2.2.2.2.2.2.1) (hsm : (st.map gx_wd).sum ≤ 8) (hd : decode μ.1 pc = .ok (.invokestatic ix, 3)) :
    ∀ (S S1 : gx_St) (kx : Nat), op S = some (.inr kx, S1) → gx_Wf S → gx_ok S lv st0 → gx_Lw (kx < 4) S S1 ∧ gx_RunT Y μ pc st0 S kx S1 := by
  subst ho
  subst hst0
  intro S S1 kx hop hwf hok
  have hoka : gx_ok S [] as := gx_okargs hok (fun v hv => by simp [hv])
  obtain ⟨hlw, hM⟩ := hct S S1 (.inr kx) hop hwf hoka
  refine ⟨hlw, ?_⟩
  intro p e R s m args below meth c H locs cells slots ls hC hR hls hc hs T hT X
  obtain ⟨hx, hb, hml, hown, hts, hK, -, -, -, hRf, hRl, -⟩ := hC
  have hPS := gx_PcS (av := as) hK hR
  rw [gx_lccvs Y.2.1 hlg] at hPS
  have cw := va_cwS (R := R) (rm := { frames := F, cells := hp_C S1 - hp_C S, slots := hp_Z S1 - hp_Z S, locals := L }) (mc := hp_C S1 - hp_C S) (ms := hp_Z S1 - hp_Z S) n hts (lw_S h1 h2 h4 h5) rfl rfl rfl hd9 ⟨by rw [hRf]; exact hfr, by rw [hRl]; exact hlo⟩
  obtain ⟨⟨hrc, hrs, hfr', hlo', hws, hcw, hcode, hini, hy, hlen, hl⟩, hstat⟩ := cw
  obtain ⟨mk, hnamed⟩ := Cond.code_named hcode
  obtain ⟨methM, cM, hmethM, -, -, -, -, -, -, hsigM⟩ := Cond.code_spec hnamed hcode
  have hstatic : methM.isStatic = true := Cond.static_spec hnamed hmethM hstat
  obtain ⟨kP, hkP, -⟩ := className_of_methodNamed hnamed
  have hinitP : kP.init = .initialized := Cond.initialized_spec (findClass_of_methodNamed hnamed) hkP hini
  obtain ⟨vm₁, X₁, hstep₁⟩ := X.invokestatic hx hown hl hnamed hmethM hstatic hkP hinitP hy (g := F0 m pc ls ((as.reverse ++ st).map (gx_cv Y.2.1 (hp_A S)))) rfl (argsL := as.map (gx_cv Y.2.1 (hp_A S))) (rest := st.map (gx_cv Y.2.1 (hp_A S))) (by rw [List.length_map]; exact hn.trans (hlen _ hsigM)) (by show List.map _ _ = _; rw [List.map_append, List.map_reverse]) (by rw [hb]; exact hd)
  obtain ⟨x, t', T', L', X', hL, e1, e2, ⟨hq1, hq2⟩, hsteps⟩ := gx_backT (bytes := bytes) (maxL := maxL) (ret := ret) (W := 8) (g := F0 m pc ls (st.map (gx_cv Y.2.1 (hp_A S)))) hM (fun a st o t h => by obtain ⟨⟨x, h, -⟩, -⟩ := h; exact ⟨x, h⟩) hPS.1 hrc hrs hfr' hlo' hws hcw (fun a' U hW => word_at hW (Or.inl (by first | rfl | simp [Cond.onTables, Cond.keeps, Cond.steady])) hini) X₁ rfl (by rw [hml]; exact hls) (by rw [hb]; exact hd) (gx_hW (m := m) (pc := pc) (ls := ls) (s0 := st.map (gx_cv Y.2.1 (hp_A S))) hsm) (X₁.named hnamed) hc hs (hPS.2 (T.setVm vm₁) hT X₁.warmed)
  obtain ⟨x', hx', hexn⟩ := hq1
  cases hx'
  exact ⟨x, T', L', st.map (gx_cv Y.2.1 (hp_A S)), X', hL, hexn.mv e1 e2, by rw [e1]; exact hq2, (hstep₁ _ fun acts => by rw [doInvoke_state]; exact Steps.refl _).trans hsteps⟩
end
section
variable {Y : gx_Y} {μ : gx_U} {ρ α β : Type} {O : gx_Ob ρ} {pc : Nat} {lv : List (Nat × gx_A)} {st : List gx_A}
/-- a call that may throw, in a method without handlers -/
theorem gx_JX {op : gx_M (β ⊕ Nat)} {g : β → gx_M (α ⊕ Nat)} {k : α ⊕ Nat → gx_M (ρ ⊕ Nat)} {st0 : List gx_A} (hh : μ.2.2.2.2.2.2.2 = []) (hk : ∀ e, k (.inr e) = gx_rt (.inr e))
    (hT : ∀ (S S1 : gx_St) (kx : Nat), op S = some (.inr kx, S1) → gx_Wf S → gx_ok S lv st0 → gx_Lw (kx < 4) S S1 ∧ gx_RunT Y μ pc st0 S kx S1)
    (K : gx_J Y μ (gx_Ox O) pc lv st0 (gx_bd (gx_un op) g) k) : gx_J Y μ (gx_Ox O) pc lv st0 (gx_bx op g) k := by
  intro S S' r hf hwf hok
  unfold gx_bx at hf
  rw [gx_bd_as] at hf
  obtain ⟨x, S1, h1, h2⟩ := gx_bd_some hf
  cases x with
  | inl a =>
    refine K S S' r ?_ hwf hok
    rw [gx_bd_as, gx_bd_of (gx_un_of h1)]
    exact h2
  | inr kx =>
    have h3 : k (.inr kx) S1 = some (r, S') := h2
    rw [hk] at h3
    cases h3
    obtain ⟨hlw, hrun⟩ := hT S S' kx h1 hwf hok
    refine ⟨hlw, ?_⟩
    intro p e R s m args below meth c c0 k0 hC H locs ls cells slots hR _ hl hL j1 j2 j3 j4
    have q1 := hlw.1.1
    have q2 := hlw.1.2.1
    intro T hT X
    obtain ⟨x, T', L, stk, X', hLL, hexn, hR2, hst⟩ := hrun p e R s m args below meth c H locs cells slots ls hC hR hl.1 (by omega) (by omega) T hT X
    have hnoH : c.exceptionTable.toList = [] := by
      have h := hC.2.2.2.2.2.2.2.2.2.2.2
      rw [hh] at h
      exact List.map_eq_nil_iff.mp h
    obtain ⟨l1, l2, l3, l4, l5⟩ := X'.leaveThrown x (g := F0 m pc ls stk) rfl rfl rfl (by rw [hnoH]; intro z hz; cases hz) hC.2.2.2.2.2.2.2.1
    have e1 : cells + (hp_C S' - hp_C S) = hp_C S' - c0 := by omega
    have e2 : slots + (hp_Z S' - hp_Z S) = hp_Z S' - k0 := by omega
    rw [e1, e2] at l5
    refine ⟨_, hst.trans l1, .threw x, l2, l3, ⟨⟨x, rfl, hexn.mv rfl rfl⟩, hR2⟩, locs ++ L, ⟨Or.inr ⟨x, rfl⟩, l4, l5⟩, fun q hq => ?_⟩
    rcases List.mem_append.mp hq with h | h
    · exact hL q h
    · exact hLL q h
end
