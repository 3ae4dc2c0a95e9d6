/-! ===== WALK 8: calls ===== -/
theorem gx_AOA {t : FieldType} {u U : State} (hvm : u.vm.Alike U.vm) (h : (Cond.arrayOver (.array t)).before #[] u = true) : (Cond.arrayOver (.array t)).before #[] U = true := by
  obtain ⟨comp, c, k, h1, h2, h3, h4, h5⟩ := arrayOverA_spec h
  obtain ⟨k', hk', he⟩ := hvm.2.2 _ _ h3
  have hi : (U.vm.classes.findIdx? fun (x : Class) => match x.kind with | .array component _ => component == comp | _ => false) = some c := by
    rw [hvm.findIdx?_eq _ (fun _ => rfl)]
    exact h2
  have hkind : k'.kind = .array comp (.array t) := by rw [he]; exact h4
  have f1 : U.vm.findClass (FieldType.array t).toString = some comp := by rw [hvm.findClass]; exact h1
  have f2 : U.vm.findClass ("[" ++ (FieldType.array t).toString) = some c := by rw [hvm.findClass]; exact h5
  unfold Cond.before Cond.holds
  simp only [Cond.value]
  rw [f1, Option.bind_some]
  refine (congrArg (fun o : Option Nat => (o.bind (fun c => (U.vm.classes[c]?).map fun (k : Class) => match k.kind with | .array _ ty => decide (ty = FieldType.array t) && decide (U.vm.findClass ("[" ++ (FieldType.array t).toString) = some c) | _ => false) == some true)) hi).trans ?_
  simp [hk', hkind, f2]
theorem gx_AOs : ∀ C, Cond.arrayOver C ∈ lw_tbl → (∃ n, C = .object n) ∨ ∃ t, C = .array t := by
  intro C h
  have h2 : (lw_tbl.filterMap (fun w => match w with
    | .arrayOver C => some C
    | _ => none)).all (fun C => match C with
    | .object _ => true
    | .array _ => true
    | _ => false) = true := by decide +kernel
  have h3 := List.all_eq_true.mp h2 C (List.mem_filterMap.mpr ⟨_, h, rfl⟩)
  cases C with
  | object n => exact Or.inl ⟨n, rfl⟩
  | array t => exact Or.inr ⟨t, rfl⟩
  | _ => cases h3
theorem gx_Sx1.moved {Y : gx_Y} {n d : String} {u U : State} (hvm : u.vm.Alike U.vm) (h : gx_Sx1 Y n d u) : gx_Sx1 Y n d U := by
  obtain ⟨c, k, i, f, a, cell, v, h1, h2, h3, h4, h5, h6, h7, h8, h9, h10, h11⟩ := h
  obtain ⟨k', hi', he⟩ := State.fieldFound?_setVm hvm h2
  exact ⟨c, k', i, f, a, cell, v, by rw [hvm.findClass]; exact h1, hi', h3, by rw [he]; exact h4, h5, h6, h7, h8, h9, by rw [he]; exact h10, h11⟩
theorem gx_K.moved {Y : gx_Y} {s U : State} (hW : s.WarmedH U.vm) (h : gx_K Y s) : gx_K Y U := by
  obtain ⟨hv, h1, h2, h3, h4, h5, h6, h7⟩ := h
  refine ⟨va_K.moved hW.alike hv, fun a i x hh hm => va_Nw.warmM hW (h1 a i x hh hm), fun C hm => ?_, fun x hm => va_Nw.warmD hW (h3 x hm), fun a b hm => va_Nw.warmC hW (h4 a b hm), ⟨h5.1.moved hW.alike, h5.2.moved hW.alike⟩, fun q hq => ?_, arrOfT_moved hW.alike h7⟩
  · have hb := h2 C hm
    rcases gx_AOs C hm with ⟨n, rfl⟩ | ⟨t, rfl⟩
    · exact va_AO.moved hW.alike hb
    · exact gx_AOA hW.alike hb
  · have hb := h6 q hq
    have e := Cond.onTables_vm (A := #[]) (A' := #[]) (U := s) (U' := U) U.vm (.castable q.1 q.2) rfl
    rw [Cond.castable_setVm hW.alike] at e
    have e2 : U.setVm U.vm = U := rfl
    rw [e2] at e
    rw [← e]
    exact hb
theorem gx_K.call {Y : gx_Y} {U : State} {g : JFrame} {mk : MethodId} {a : Array Value} (h : gx_K Y U) : gx_K Y (U.calling g mk a) := gx_K.moved (s := U) (U := U.calling g mk a) (State.WarmedH.refl U) h
section
variable {Y : gx_Y} {μ : gx_U} {ρ α : Type} {O : gx_Ob ρ} {pc : Nat} {lv : List (Nat × gx_A)} {st : List gx_A} {k : α → gx_M ρ}
theorem gx_lccv {S : gx_St} {v : gx_A} (z : Nat) (h : gx_long v = false) : gx_lc z (hp_A S) v = gx_cv z (hp_A S) v := by
  rcases v with x | q | x | x
  · rfl
  · rfl
  · cases h
  · rfl
theorem gx_lccvs {S : gx_St} {av : List gx_A} (z : Nat) (h : av.all (fun v => !gx_long v) = true) : av.map (gx_lc z (hp_A S)) = av.map (gx_cv z (hp_A S)) := by
  refine List.map_congr_left fun v hv => gx_lccv z ?_
  have := List.all_eq_true.mp h v hv
  simpa using this
/-- what a call leads to, by a run of the machine -/
def gx_Run (Y : gx_Y) (μ : gx_U) (pc : Nat) {β : Type} (O2 : gx_Ob β) (st0 st : List gx_A) (S : gx_St) (x : β) (S1 : gx_St) : Prop :=
  ∀ (p : Program) (e : Env) (R : Room) (s : State) (m : MethodId) (args : Array Value) (below : List Frame) (meth : Method) (c : Code) (H : Heap) (locs : List Loc) (cells slots : Nat) (ls : Array Slot), gx_C Y μ p R s m args meth c → gx_Rq Y S H → ls.size = μ.2.2.2.2.1 → cells + (hp_C S1 - hp_C S) ≤ R.cells → slots + (hp_Z S1 - hp_Z S) ≤ R.slots →
    va_Run p Y.1 e R s m args below meth c H locs cells slots (hp_C S1 - hp_C S) (hp_Z S1 - hp_Z S) (F0 m pc ls (st0.map (gx_cv Y.2.1 (hp_A S)))) (st.map (gx_cv Y.2.1 (hp_A S))) (gx_Q Y O2 x S1 #[]) (fun q => Y.2.1 ≤ q)
theorem gx_Jcall {β : Type} {O2 : gx_Ob β} {op : gx_M β} {g : β → gx_M α} {st0 : List gx_A} (res : β → List gx_A) (F : β → Prop) (hst : ∀ v ∈ st, v ∈ st0)
    (hU : ∀ x S, O2.1 x S → F x ∧ ∀ w ∈ res x, gx_wt S w) (hO : ∀ x S t v, O2.2 x S (.returned v) t → v.toList = (res x).map (gx_cv Y.2.1 (hp_A S)))
    (h : ∀ (S S1 : gx_St) (x : β), op S = some (x, S1) → gx_Wf S → gx_ok S lv st0 → gx_Lw (O2.1 x S1) S S1 ∧ gx_Run Y μ pc O2 st0 st S x S1)
    (K : ∀ x, F x → gx_J Y μ O (pc + 3) lv (res x ++ st) (g x) k) : gx_J Y μ O pc lv st0 (gx_bd op g) k := by
  intro S S' r hf hwf hok
  rw [gx_bd_as] at hf
  obtain ⟨x, S1, h1, h2⟩ := gx_bd_some hf
  obtain ⟨hlw, hrun⟩ := h S S1 x h1 hwf hok
  obtain ⟨hF, hwr⟩ := hU x S1 hlw.2.2
  have hok1 : gx_ok S lv st := ⟨hok.1, fun v hv => hok.2 v (hst v hv)⟩
  have hok2 : gx_ok S1 lv (res x ++ st) := by
    refine ⟨(hlw.1.ok hok1).1, fun v hv => ?_⟩
    rcases List.mem_append.mp hv with h | h
    · exact hwr v h
    · exact (hlw.1.ok hok1).2 v h
  obtain ⟨hle, hV⟩ := K x hF S1 S' r h2 hlw.2.1 hok2
  refine ⟨⟨hlw.1.tr hle.1, hle.2⟩, fun p e R s m args below meth c c0 k0 hC H locs ls cells slots hR _ hl hL j1 j2 j3 j4 => ?_⟩
  have q1 := hlw.1.1
  have q2 := hlw.1.2.1
  have q3 := hle.1.1
  have q4 := hle.1.2.1
  intro T hT X
  obtain ⟨v, st₀, t, T', L, h0, X', hLL, e1, e2, ⟨hO2, hR2⟩, stp⟩ := hrun p e R s m args below meth c H locs cells slots ls hC hR hl.1 (by omega) (by omega) T hT X
  have hv := hO x S1 t v hO2
  obtain ⟨t2, a1, b1⟩ := hV p e R s m args below meth c c0 k0 hC t.heap (locs ++ L) ls (cells + (hp_C S1 - hp_C S)) (slots + (hp_Z S1 - hp_Z S)) hR2 hok2 (by rw [hlw.1.lvs hok.1]; exact hl) (fun q hq => by
      rcases List.mem_append.mp hq with h | h
      · exact hL q h
      · exact hLL q h) (by omega) (by omega) j3 j4 T' e1 X'
  refine ⟨t2, stp t2 ?_, b1⟩
  rw [List.map_append, ← hv, hlw.1.sts hok1.2] at a1
  exact a1
theorem gx_okargs {S : gx_St} {st0 av : List gx_A} (h : gx_ok S lv st0) (ha : ∀ v ∈ av, v ∈ st0) : gx_ok S [] av := ⟨fun q hq => (List.not_mem_nil hq).elim, fun v hv => h.2 v (ha v hv)⟩
/-- the words and rooms of a call -/
theorem gx_hW {z : Nat} {ad : gx_Nm → Nat} {m : MethodId} {pc : Nat} {ls : Array Slot} {s0 : List Value} (hlo : (st.map gx_wd).sum ≤ 8) : 2 * (F0 m pc ls s0).monitorRoom + ((st.map (gx_cv z ad)).map fun v => v.category).sum ≤ 8 := by
  have := gx_catsum z ad st
  show 2 * 0 + _ ≤ 8
  omega
theorem gx_PcS {S : gx_St} {s : State} {av : List gx_A} {H : Heap} (hK : gx_K Y s) (hR : gx_Rq Y S H) : PreS s H (gx_Pc Y av S) (av.map (gx_lc Y.2.1 (hp_A S))) := ⟨fun a U g mk q => by
    obtain ⟨q0, qK, qR⟩ := q
    exact ⟨q0, gx_K.call qK, qR⟩, fun U hU hW => ⟨rfl, gx_K.moved hW hK, by rw [hU]; exact hR⟩⟩
theorem gx_recv {S : gx_St} {s : State} {H : Heap} {a : gx_Nm} {ci : Nat} (hK : gx_K Y s) (hR : gx_Rq Y S H) (hob : gx_ob S a ci) : ∃ cellB : Cell, H[Y.2.1 + hp_A S a]? = some cellB ∧ cellB.vm.isStatics = false ∧ s.vm.findClass (gx_R ci) = some cellB.cls := by
  obtain ⟨cell, q1, q2, q3, -⟩ := hR.2.1 a ci hob
  exact ⟨cell, q1, by rw [q3]; rfl, by rw [q2]; exact (hK.1.1 ci _ (gx_CL_at ci hob.1)).2.1⟩
/-- invokevirtual on an object of the kind ci: av its arguments, the object first -/
theorem gx_runV {β : Type} {O2 : gx_Ob β} {op : gx_M β} {y : MethodName} {bytes : ByteArray} {maxL F L n ix ci t : Nat} {ret : Option FieldType} {own : String} {a : gx_Nm} {as st0 : List gx_A} (hct : gx_Ct Y y (ws_ y bytes maxL ret) F L (gx_r t (some a) :: as) O2 op) (hci : ci < 19) (ht : t = ci + 1 ∨ t = 30 + ci) (hcy : y.cls = gx_R ci) (hst0 : st0 = as.reverse ++ gx_r t (some a) :: st) (hlg : as.all (fun v => !gx_long v) = true) (ho : μ.2.1 = own)
    (h1 : Cond.methodLink own ix y ∈ lw_all) (h2 : Cond.instanceMethod y ∈ lw_all) (h3 : Cond.selects (gx_R ci) y y ∈ lw_all) (h4 : Cond.initialized (gx_R ci) ∈ lw_all) (h5 : Cond.code y bytes maxL ret ∈ lw_all) (hn : as.length = n) (hd9 : y.cls ≠ "java/lang/invoke/MethodHandle" ∧ y.cls ≠ "java/lang/invoke/VarHandle" ∧ (parseMethodDescriptor y.desc).map (fun d => d.parameters.length) = some n) (hfr : F + 1 ≤ μ.2.2.2.2.2.1) (hlo : 8 + (maxL + 11) + L ≤ μ.2.2.2.2.2.2.1) (hsm : (st.map gx_wd).sum ≤ 8) (hd : decode μ.1 pc = .ok (.invokevirtual ix, 3)) :
    ∀ (S S1 : gx_St) (x : β), op S = some (x, S1) → gx_Wf S → gx_ok S lv st0 → gx_Lw (O2.1 x S1) S S1 ∧ gx_Run Y μ pc O2 st0 st S x S1 := by
  subst ho
  subst hst0
  intro S S1 x hop hwf hok
  have hoka : gx_ok S [] (gx_r t (some a) :: as) := gx_okargs hok (fun v hv => by
    rcases List.mem_cons.mp hv with h | h
    · rw [h]; simp
    · simp [h])
  obtain ⟨hlw, hM⟩ := hct S S1 x hop hwf hoka
  have hob := gx_wt.ob (hoka.2 _ List.mem_cons_self) hci ht
  refine ⟨hlw, ?_⟩
  intro p e R s m args below meth c H locs cells slots ls hC hR hls hc hs
  obtain ⟨hx, hb, hml, hown, hts, hK, -, -, -, hRf, hRl, -⟩ := hC
  have hav : (gx_r t (some a) :: as).map (gx_lc Y.2.1 (hp_A S)) = Value.ref (Y.2.1 + hp_A S a) :: as.map (gx_cv Y.2.1 (hp_A S)) := by
    rw [List.map_cons, gx_lccvs Y.2.1 hlg]
    rfl
  have hPS := gx_PcS (av := gx_r t (some a) :: as) hK hR
  rw [hav] at hPS
  have cw := cwV (R := R) (rm := { frames := F, cells := hp_C S1 - hp_C S, slots := hp_Z S1 - hp_Z S, locals := L }) (mc := hp_C S1 - hp_C S) (ms := hp_Z S1 - hp_Z S) n hts (lw_V h1 h2 h3 h4 h5) rfl rfl rfl ⟨hcy, hd9⟩ ⟨by rw [hRf]; exact hfr, by rw [hRl]; exact hlo⟩
  exact va_runV ⟨hx, hb, hml, hown, hts⟩ hM cw ⟨hPS.1, gx_recv (Y := Y) hK hR hob, hPS.2⟩ rfl (by rw [List.length_map]; exact hn) hls (by rw [List.map_append, List.map_reverse]; rfl) (gx_hW hsm) hd ⟨hc, hs⟩
/-- invokestatic -/
theorem gx_runS {β : Type} {O2 : gx_Ob β} {op : gx_M β} {y : MethodName} {bytes : ByteArray} {maxL F L n ix : Nat} {ret : Option FieldType} {own : String} {as st0 : List gx_A} (hct : gx_Ct Y y (ws_ y bytes maxL ret) F L as O2 op) (hst0 : st0 = as.reverse ++ st) (hlg : as.all (fun v => !gx_long v) = true) (ho : μ.2.1 = own)
    (h1 : Cond.methodLink own ix y ∈ lw_all) (h2 : Cond.static y ∈ lw_all) (h4 : Cond.initialized y.cls ∈ lw_all) (h5 : Cond.code y bytes maxL ret ∈ lw_all) (hn : as.length = n) (hd9 : y.cls ≠ "java/lang/invoke/MethodHandle" ∧ y.cls ≠ "java/lang/invoke/VarHandle" ∧ (parseMethodDescriptor y.desc).map (fun d => d.parameters.length) = some n) (hfr : F + 1 ≤ μ.2.2.2.2.2.1) (hlo : 8 + (maxL + 11) + L ≤ μ.2.2.2.2.2.2.1) (hsm : (st.map gx_wd).sum ≤ 8) (hd : decode μ.1 pc = .ok (.invokestatic ix, 3)) :
    ∀ (S S1 : gx_St) (x : β), op S = some (x, S1) → gx_Wf S → gx_ok S lv st0 → gx_Lw (O2.1 x S1) S S1 ∧ gx_Run Y μ pc O2 st0 st S x S1 := by
  subst ho
  subst hst0
  intro S S1 x hop hwf hok
  have hoka : gx_ok S [] as := gx_okargs hok (fun v hv => by simp [hv])
  obtain ⟨hlw, hM⟩ := hct S S1 x hop hwf hoka
  refine ⟨hlw, ?_⟩
  intro p e R s m args below meth c H locs cells slots ls hC hR hls hc hs
  obtain ⟨hx, hb, hml, hown, hts, hK, -, -, -, hRf, hRl, -⟩ := hC
  have hPS := gx_PcS (av := as) hK hR
  rw [gx_lccvs Y.2.1 hlg] at hPS
  have cw := va_cwS (R := R) (rm := { frames := F, cells := hp_C S1 - hp_C S, slots := hp_Z S1 - hp_Z S, locals := L }) (mc := hp_C S1 - hp_C S) (ms := hp_Z S1 - hp_Z S) n hts (lw_S h1 h2 h4 h5) rfl rfl rfl hd9 ⟨by rw [hRf]; exact hfr, by rw [hRl]; exact hlo⟩
  exact va_runS (As := as.map (gx_cv Y.2.1 (hp_A S))) ⟨hx, hb, hml, hown, hts⟩ hM cw hPS rfl (by rw [List.length_map]; exact hn) hls (by rw [List.map_append, List.map_reverse]) (gx_hW hsm) hd ⟨hc, hs⟩
/-- invokespecial <init> -/
theorem gx_runI {β : Type} {O2 : gx_Ob β} {op : gx_M β} {y : MethodName} {bytes : ByteArray} {maxL F L n ix t : Nat} {own : String} {a : gx_Nm} {as st0 : List gx_A} (hct : gx_Ct Y y (ws_ y bytes maxL none) F L (gx_r t (some a) :: as) O2 op) (hst0 : st0 = as.reverse ++ gx_r t (some a) :: st) (hlg : as.all (fun v => !gx_long v) = true) (ho : μ.2.1 = own) (hin : y.name = "<init>")
    (h1 : Cond.methodLink own ix y ∈ lw_all) (h2 : Cond.instanceMethod y ∈ lw_all) (h4 : Cond.initialized y.cls ∈ lw_all) (h5 : Cond.code y bytes maxL none ∈ lw_all) (hn : as.length = n) (hd9 : y.cls ≠ "java/lang/invoke/MethodHandle" ∧ y.cls ≠ "java/lang/invoke/VarHandle" ∧ (parseMethodDescriptor y.desc).map (fun d => d.parameters.length) = some n) (hfr : F + 1 ≤ μ.2.2.2.2.2.1) (hlo : 8 + (maxL + 11) + L ≤ μ.2.2.2.2.2.2.1) (hsm : (st.map gx_wd).sum ≤ 8) (hd : decode μ.1 pc = .ok (.invokespecial ix, 3)) :
    ∀ (S S1 : gx_St) (x : β), op S = some (x, S1) → gx_Wf S → gx_ok S lv st0 → gx_Lw (O2.1 x S1) S S1 ∧ gx_Run Y μ pc O2 st0 st S x S1 := by
  subst ho
  subst hst0
  intro S S1 x hop hwf hok
  have hoka : gx_ok S [] (gx_r t (some a) :: as) := gx_okargs hok (fun v hv => by
    rcases List.mem_cons.mp hv with h | h
    · rw [h]; simp
    · simp [h])
  obtain ⟨hlw, hM⟩ := hct S S1 x hop hwf hoka
  refine ⟨hlw, ?_⟩
  intro p e R s m args below meth c H locs cells slots ls hC hR hls hc hs
  obtain ⟨hx, hb, hml, hown, hts, hK, -, -, -, hRf, hRl, -⟩ := hC
  have hav : (gx_r t (some a) :: as).map (gx_lc Y.2.1 (hp_A S)) = Value.ref (Y.2.1 + hp_A S a) :: as.map (gx_cv Y.2.1 (hp_A S)) := by
    rw [List.map_cons, gx_lccvs Y.2.1 hlg]
    rfl
  have hPS := gx_PcS (av := gx_r t (some a) :: as) hK hR
  rw [hav] at hPS
  have cw := cwI (R := R) (rm := { frames := F, cells := hp_C S1 - hp_C S, slots := hp_Z S1 - hp_Z S, locals := L }) (mc := hp_C S1 - hp_C S) (ms := hp_Z S1 - hp_Z S) n hts (lw_meth h5) rfl rfl rfl (hts _ h4) (hts _ h1) (hts _ h2) hin hd9 ⟨by rw [hRf]; exact hfr, by rw [hRl]; exact hlo⟩
  exact va_runI ⟨hx, hb, hml, hown, hts⟩ hM cw hPS rfl (by rw [List.length_map]; exact hn) hls (by rw [List.map_append, List.map_reverse]; rfl) (gx_hW hsm) hd ⟨hc, hs⟩
/-- invokespecial <init> of a nest mate -/
theorem gx_runIN {β : Type} {O2 : gx_Ob β} {op : gx_M β} {y : MethodName} {bytes : ByteArray} {maxL F L n ix t : Nat} {own host : String} {a : gx_Nm} {as st0 : List gx_A} (hct : gx_Ct Y y (ws_ y bytes maxL none) F L (gx_r t (some a) :: as) O2 op) (hst0 : st0 = as.reverse ++ gx_r t (some a) :: st) (hlg : as.all (fun v => !gx_long v) = true) (ho : μ.2.1 = own) (hin : y.name = "<init>")
    (h1 : Cond.methodLinkNest own ix y host ∈ lw_tbl) (h2 : Cond.instanceMethod y ∈ lw_all) (h4 : Cond.initialized y.cls ∈ lw_all) (h5 : Cond.code y bytes maxL none ∈ lw_all) (hn : as.length = n) (hd9 : y.cls ≠ "java/lang/invoke/MethodHandle" ∧ y.cls ≠ "java/lang/invoke/VarHandle" ∧ (parseMethodDescriptor y.desc).map (fun d => d.parameters.length) = some n) (hfr : F + 1 ≤ μ.2.2.2.2.2.1) (hlo : 8 + (maxL + 11) + L ≤ μ.2.2.2.2.2.2.1) (hsm : (st.map gx_wd).sum ≤ 8) (hd : decode μ.1 pc = .ok (.invokespecial ix, 3)) :
    ∀ (S S1 : gx_St) (x : β), op S = some (x, S1) → gx_Wf S → gx_ok S lv st0 → gx_Lw (O2.1 x S1) S S1 ∧ gx_Run Y μ pc O2 st0 st S x S1 := by
  subst ho
  subst hst0
  intro S S1 x hop hwf hok
  have hoka : gx_ok S [] (gx_r t (some a) :: as) := gx_okargs hok (fun v hv => by
    rcases List.mem_cons.mp hv with h | h
    · rw [h]; simp
    · simp [h])
  obtain ⟨hlw, hM⟩ := hct S S1 x hop hwf hoka
  refine ⟨hlw, ?_⟩
  intro p e R s m args below meth c H locs cells slots ls hC hR hls hc hs
  obtain ⟨hx, hb, hml, hown, hts, hK, -, -, -, hRf, hRl, -⟩ := hC
  have hav : (gx_r t (some a) :: as).map (gx_lc Y.2.1 (hp_A S)) = Value.ref (Y.2.1 + hp_A S a) :: as.map (gx_cv Y.2.1 (hp_A S)) := by
    rw [List.map_cons, gx_lccvs Y.2.1 hlg]
    rfl
  have hPS := gx_PcS (av := gx_r t (some a) :: as) hK hR
  rw [hav] at hPS
  have cw := va_cnB (args := args) (R := R) (rm := { frames := F, cells := hp_C S1 - hp_C S, slots := hp_Z S1 - hp_Z S, locals := L }) (mc := hp_C S1 - hp_C S) (ms := hp_Z S1 - hp_Z S) n hts (lw_meth h5) rfl rfl rfl (hK.2.1 _ _ _ _ h1) (hts _ h4) hd9 ⟨by rw [hRf]; exact hfr, by rw [hRl]; exact hlo⟩
  exact va_runIN ⟨hx, hb, hml, hown, hts⟩ hM ⟨cw, hin, hts _ h2⟩ hPS rfl (by rw [List.length_map]; exact hn) hls (by rw [List.map_append, List.map_reverse]; rfl) (gx_hW hsm) hd ⟨hc, hs⟩
theorem gx_Uv {O2 : gx_Ob Unit} : ∀ (x : Unit) (S : gx_St), O2.1 x S → True ∧ ∀ w ∈ ([] : List gx_A), gx_wt S w := fun _ _ _ => ⟨trivial, fun w h => (List.not_mem_nil h).elim⟩
theorem gx_w1s {S : gx_St} {v : gx_A} (h : gx_wt S v) : ∀ w ∈ [v], gx_wt S w := fun w hw => by rw [List.mem_singleton.mp hw]; exact h
/-- calls by what they answer: nothing, an int, a truth value, a reference, a reference or null -/
theorem gx_Jcv {op : gx_M Unit} {g : Unit → gx_M α} {st0 : List gx_A} (hst : ∀ v ∈ st, v ∈ st0) (h : ∀ (S S1 : gx_St) (x : Unit), op S = some (x, S1) → gx_Wf S → gx_ok S lv st0 → gx_Lw (gx_Ov.1 x S1) S S1 ∧ gx_Run Y μ pc gx_Ov st0 st S x S1) (K : gx_J Y μ O (pc + 3) lv st (g ()) k) : gx_J Y μ O pc lv st0 (gx_bd op g) k :=
  gx_Jcall (fun _ => []) (fun _ => True) hst gx_Uv (fun x S t v h => by cases h; rfl) h (fun x _ => K)
theorem gx_Jci {op : gx_M Int32} {g : Int32 → gx_M α} {st0 : List gx_A} (hst : ∀ v ∈ st, v ∈ st0) (h : ∀ (S S1 : gx_St) (x : Int32), op S = some (x, S1) → gx_Wf S → gx_ok S lv st0 → gx_Lw (gx_Oi.1 x S1) S S1 ∧ gx_Run Y μ pc gx_Oi st0 st S x S1) (K : ∀ x, gx_J Y μ O (pc + 3) lv (gx_i x :: st) (g x) k) : gx_J Y μ O pc lv st0 (gx_bd op g) k :=
  gx_Jcall (fun x => [gx_i x]) (fun _ => True) hst (fun x S _ => ⟨trivial, gx_w1s trivial⟩) (fun x S t v h => by cases h; rfl) h (fun x _ => K x)
theorem gx_Jcz {op : gx_M Int32} {g : Int32 → gx_M α} {st0 : List gx_A} (hst : ∀ v ∈ st, v ∈ st0) (h : ∀ (S S1 : gx_St) (x : Int32), op S = some (x, S1) → gx_Wf S → gx_ok S lv st0 → gx_Lw (gx_Oz.1 x S1) S S1 ∧ gx_Run Y μ pc gx_Oz st0 st S x S1) (K : ∀ x, x &&& 1 = x → gx_J Y μ O (pc + 3) lv (gx_i x :: st) (g x) k) : gx_J Y μ O pc lv st0 (gx_bd op g) k :=
  gx_Jcall (fun x => [gx_i x]) (fun x => x &&& 1 = x) hst (fun x S h => ⟨h, gx_w1s trivial⟩) (fun x S t v h => by cases h; rfl) h K
theorem gx_Jcr {t2 : Nat} {op : gx_M gx_Nm} {g : gx_Nm → gx_M α} {st0 : List gx_A} (hst : ∀ v ∈ st, v ∈ st0) (h : ∀ (S S1 : gx_St) (x : gx_Nm), op S = some (x, S1) → gx_Wf S → gx_ok S lv st0 → gx_Lw ((gx_Or Y t2).1 x S1) S S1 ∧ gx_Run Y μ pc (gx_Or Y t2) st0 st S x S1) (K : ∀ x, gx_J Y μ O (pc + 3) lv (gx_r t2 (some x) :: st) (g x) k) : gx_J Y μ O pc lv st0 (gx_bd op g) k :=
  gx_Jcall (fun x => [gx_r t2 (some x)]) (fun _ => True) hst (fun x S h => ⟨trivial, gx_w1s h⟩) (fun x S t v h => by cases h; rfl) h (fun x _ => K x)
theorem gx_Jco {t2 : Nat} {op : gx_M (Option gx_Nm)} {g : Option gx_Nm → gx_M α} {st0 : List gx_A} (hst : ∀ v ∈ st, v ∈ st0) (h : ∀ (S S1 : gx_St) (x : Option gx_Nm), op S = some (x, S1) → gx_Wf S → gx_ok S lv st0 → gx_Lw ((gx_Oo Y t2).1 x S1) S S1 ∧ gx_Run Y μ pc (gx_Oo Y t2) st0 st S x S1) (K : ∀ x, gx_J Y μ O (pc + 3) lv (gx_r t2 x :: st) (g x) k) : gx_J Y μ O pc lv st0 (gx_bd op g) k :=
  gx_Jcall (fun x => [gx_r t2 x]) (fun _ => True) hst (fun x S h => ⟨trivial, gx_w1s h⟩) (fun x S t v h => by cases h; rfl) h (fun x _ => K x)
theorem gx_hst {as : List gx_A} {b : gx_A} : ∀ v ∈ st, v ∈ as.reverse ++ b :: st := fun v hv => by simp [hv]
theorem gx_hstS {as : List gx_A} : ∀ v ∈ st, v ∈ as.reverse ++ st := fun v hv => by simp [hv]
end
