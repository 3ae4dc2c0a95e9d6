/-! ===== WALK 1: the machine's heap holds the abstract state; the judgement J ===== -/
abbrev gx_A : Type := Int32 ⊕ ((Nat × Option gx_Nm) ⊕ (Int64 ⊕ Nat))
abbrev gx_i (x : Int32) : gx_A := .inl x
abbrev gx_r (t : Nat) (r : Option gx_Nm) : gx_A := .inr (.inl (t, r))
abbrev gx_l (x : Int64) : gx_A := .inr (.inr (.inl x))
abbrev gx_x (a : Nat) : gx_A := .inr (.inr (.inr a))
def gx_rv (z : Nat) (ad : gx_Nm → Nat) (r : Option gx_Nm) : Value := match r with
  | none => .null
  | some b => .ref (z + ad b)
def gx_cv (z : Nat) (ad : gx_Nm → Nat) (v : gx_A) : Value := match v with
  | .inl x => .int x
  | .inr (.inl q) => gx_rv z ad q.2
  | .inr (.inr (.inl x)) => .long x
  | .inr (.inr (.inr a)) => .ref a
def gx_lc (z : Nat) (ad : gx_Nm → Nat) (v : gx_A) : Value := match v with
  | .inl x => .int x
  | .inr (.inl q) => gx_rv z ad q.2
  | .inr (.inr (.inl _)) => .null
  | .inr (.inr (.inr a)) => .ref a
def gx_long (v : gx_A) : Bool := match v with
  | .inr (.inr (.inl _)) => true
  | _ => false
def gx_wd (v : gx_A) : Nat := cond (gx_long v) 2 1
theorem gx_rv_cat (z : Nat) (ad : gx_Nm → Nat) (r : Option gx_Nm) : (gx_rv z ad r).category = 1 := by
  cases r <;> rfl
theorem gx_lc_cat (z : Nat) (ad : gx_Nm → Nat) (v : gx_A) : (gx_lc z ad v).category = 1 := by
  rcases v with x | q | x | a
  · rfl
  · exact gx_rv_cat _ _ _
  · rfl
  · rfl
theorem gx_cv_cat (z : Nat) (ad : gx_Nm → Nat) (v : gx_A) (h : gx_long v = false) : (gx_cv z ad v).category = 1 := by
  rcases v with x | q | x | a
  · rfl
  · exact gx_rv_cat _ _ _
  · cases h
  · rfl
/-- a reference has its shape (codes 30 + kind: of that kind, its constructor may not have ended) -/
def gx_wt (S : gx_St) (v : gx_A) : Prop := match v with
  | .inr (.inl (t, some p)) => hp_H S p ≠ 0 ∧ (hp_H S p = t ∨ (30 ≤ t ∧ t < 50 ∧ hp_H S p + 29 = t))
  | _ => True
def gx_ok (S : gx_St) (lv : List (Nat × gx_A)) (st : List gx_A) : Prop := (∀ q ∈ lv, gx_wt S q.2) ∧ ∀ v ∈ st, gx_wt S v
/-- the value of a field -/
def gx_fv (z : Nat) (S : gx_St) (a : gx_Nm) (ci k : Nat) : Value := if gx_fk ci k ≤ 1 then .int (hp_I S a k) else gx_rv z (hp_A S) (hp_R S a k)
/-- the contents of an array of type t -/
def gx_av (z : Nat) (S : gx_St) (a : gx_Nm) (t j : Nat) : Value := if t ≤ 2 then .int (hp_I S a j) else if t = 3 then .long (hp_L S a j) else gx_rv z (hp_A S) (hp_R S a j)
def gx_cell (z : Nat) (dA : Nat → ClassId) (S : gx_St) (a : gx_Nm) (t : Nat) : Cell := arrV (dA t) (hp_N S a) (gx_av z S a t)
/-- p is an object of the kind ci -/
def gx_ob (S : gx_St) (p : gx_Nm) (ci : Nat) : Prop := ci < 19 ∧ (hp_H S p = ci + 1 ∨ hp_H S p = 30 + ci)
theorem gx_ob.one {S : gx_St} {p : gx_Nm} {ci cj : Nat} (h : gx_ob S p ci) (h2 : gx_ob S p cj) : ci = cj := by
  obtain ⟨a, b⟩ := h
  obtain ⟨c, d⟩ := h2
  omega
theorem gx_ob.live {S : gx_St} {p : gx_Nm} {ci : Nat} (h : gx_ob S p ci) : hp_H S p ≠ 0 := by
  obtain ⟨a, b⟩ := h
  omega
/-- the heap holds the objects and arrays of S -/
def gx_Hp (z : Nat) (D : va_G) (dA : Nat → ClassId) (H0 : Heap) (S : gx_St) (H : Heap) : Prop :=
  (H.size = z + hp_C S ∧ ∀ q, q < z → H[q]? = H0[q]?) ∧
  (∀ p ci, gx_ob S p ci → t_OB (z + hp_A S p) (D.1 ci) (gx_N ci) (D.2 ci) H (gx_fv z S p ci)) ∧
  (∀ p t, t < 10 → hp_H S p = 100 + t → H[z + hp_A S p]? = some (gx_cell z dA S p t))
/-- names are apart, references have their shapes, final fields hold what they must -/
def gx_Wf (S : gx_St) : Prop :=
  (∀ p, hp_H S p ≠ 0 → hp_A S p < hp_C S) ∧
  (∀ p q, hp_H S p ≠ 0 → hp_H S q ≠ 0 → hp_A S p = hp_A S q → p = q) ∧
  (∀ p ci k q, ci < 19 → hp_H S p = ci + 1 → gx_sn ci k p = some q → hp_R S p k = some q) ∧
  (∀ p ci k q, gx_ob S p ci → k < gx_N ci → gx_fk ci k = 2 → hp_R S p k = some q → hp_H S q = gx_ft ci k) ∧
  (∀ p t i q, t < 10 → 4 ≤ t → hp_H S p = 100 + t → i < hp_N S p → hp_R S p i = some q → hp_H S q = gx_et t) ∧
  (∀ p ci k, gx_ob S p ci → gx_fk ci k = 1 → hp_I S p k &&& 1 = hp_I S p k) ∧
  (∀ p i, hp_H S p = 101 → fits .byte (.int (hp_I S p i)) = true)
def gx_Le (S S' : gx_St) : Prop := hp_C S ≤ hp_C S' ∧ hp_Z S ≤ hp_Z S' ∧ ∀ p, hp_H S p ≠ 0 → hp_A S' p = hp_A S p ∧ (hp_H S' p = hp_H S p ∨ (30 ≤ hp_H S p ∧ hp_H S p < 50 ∧ hp_H S' p + 29 = hp_H S p))
theorem gx_Le.rf (S : gx_St) : gx_Le S S := ⟨Nat.le_refl _, Nat.le_refl _, fun _ _ => ⟨rfl, Or.inl rfl⟩⟩
theorem gx_Le.tr {S S1 S2 : gx_St} (h : gx_Le S S1) (h2 : gx_Le S1 S2) : gx_Le S S2 := by
  refine ⟨Nat.le_trans h.1 h2.1, Nat.le_trans h.2.1 h2.2.1, fun p hp => ?_⟩
  obtain ⟨a1, b1⟩ := h.2.2 p hp
  have hp1 : hp_H S1 p ≠ 0 := by omega
  obtain ⟨a2, b2⟩ := h2.2.2 p hp1
  exact ⟨a2.trans a1, by omega⟩
theorem gx_Le.wt {S S' : gx_St} (h : gx_Le S S') {v : gx_A} (hv : gx_wt S v) : gx_wt S' v := by
  rcases v with x | ⟨t, p⟩ | x | a
  · trivial
  · cases p with
    | none => trivial
    | some p =>
      obtain ⟨h1, h2⟩ := hv
      obtain ⟨-, h3⟩ := h.2.2 p h1
      exact ⟨by omega, by omega⟩
  · trivial
  · trivial
theorem gx_Le.cv {S S' : gx_St} (h : gx_Le S S') {v : gx_A} (hv : gx_wt S v) (z : Nat) : gx_cv z (hp_A S') v = gx_cv z (hp_A S) v := by
  rcases v with x | ⟨t, p⟩ | x | a
  · rfl
  · cases p with
    | none => rfl
    | some p =>
      show Value.ref (z + hp_A S' p) = Value.ref (z + hp_A S p)
      rw [(h.2.2 p hv.1).1]
  · rfl
  · rfl
theorem gx_Le.lc {S S' : gx_St} (h : gx_Le S S') {v : gx_A} (hv : gx_wt S v) (z : Nat) : gx_lc z (hp_A S') v = gx_lc z (hp_A S) v := by
  rcases v with x | ⟨t, p⟩ | x | a
  · rfl
  · cases p with
    | none => rfl
    | some p =>
      show Value.ref (z + hp_A S' p) = Value.ref (z + hp_A S p)
      rw [(h.2.2 p hv.1).1]
  · rfl
  · rfl
theorem gx_Le.ok {S S' : gx_St} (h : gx_Le S S') {lv : List (Nat × gx_A)} {st : List gx_A} (hv : gx_ok S lv st) : gx_ok S' lv st := ⟨fun q hq => h.wt (hv.1 q hq), fun v hq => h.wt (hv.2 v hq)⟩
theorem gx_Le.sts {S S' : gx_St} (h : gx_Le S S') {st : List gx_A} (hv : ∀ v ∈ st, gx_wt S v) (z : Nat) : st.map (gx_cv z (hp_A S')) = st.map (gx_cv z (hp_A S)) := List.map_congr_left fun v hq => h.cv (hv v hq) z
theorem gx_Le.lvs {S S' : gx_St} (h : gx_Le S S') {lv : List (Nat × gx_A)} (hv : ∀ q ∈ lv, gx_wt S q.2) (z : Nat) : (lv.map fun q => (q.1, gx_lc z (hp_A S') q.2)) = lv.map fun q => (q.1, gx_lc z (hp_A S) q.2) := List.map_congr_left fun q hq => by rw [h.lc (hv q hq) z]
/-- S' comes behind S, is well formed, and u holds -/
def gx_Lw (u : Prop) (S S' : gx_St) : Prop := gx_Le S S' ∧ (gx_Wf S' ∧ u)
/-- what is said of an answer: by the abstract state alone, and of the machine's end -/
abbrev gx_Ob (ρ : Type) : Type := (ρ → gx_St → Prop) × (ρ → gx_St → Outcome → State → Prop)
/-- what a run has: launch, the first free cell, kinds, array kinds, the first heap -/
abbrev gx_Y : Type := Launch × Nat × va_G × (Nat → ClassId) × Heap
/-- a static reference of Throwable's, as it was at the start -/
def gx_Sx1 (Y : gx_Y) (n d : String) (U : State) : Prop := ∃ (c : ClassId) (k : Class) (i : Nat) (f : Field) (a : Nat) (cell : Cell) (v : Value), U.vm.findClass "java/lang/Throwable" = some c ∧ U.fieldFound? "java/lang/Throwable" n d = some (c, k, i, f) ∧ f.isStatic = true ∧ k.statics = some a ∧ a < Y.2.1 ∧ Y.2.2.2.2[a]? = some cell ∧ cell.vm.isStatics = true ∧ cell.cls = c ∧ f.slot < cell.slots.size ∧ k.staticTypes[f.slot]? = some f.type ∧ cell.slots[f.slot]? = some v ∧ (v = .null ∨ ∃ b, v = .ref b)
/-- pairs of kinds of exceptions, the first none of the second -/
def gx_NC : List (String × String) := [("java/lang/IndexOutOfBoundsException", "java/lang/IllegalArgumentException"), ("java/util/NoSuchElementException", "java/lang/IllegalArgumentException"), ("java/lang/IllegalStateException", "java/lang/IllegalArgumentException"), ("java/util/NoSuchElementException", "java/lang/IllegalStateException"), ("java/lang/IndexOutOfBoundsException", "java/lang/IllegalStateException"), ("java/lang/IndexOutOfBoundsException", "java/util/NoSuchElementException")]
/-- words that don't ride in lw_all, and hold all through -/
def gx_Nx (Y : gx_Y) (U : State) : Prop := (∀ a i x h, Cond.methodLinkNest a i x h ∈ lw_tbl → va_Nw (.methodLinkNest a i x h) U) ∧ (∀ C, Cond.arrayOver C ∈ lw_tbl → (Cond.arrayOver C).before #[] U = true) ∧ (∀ x, Cond.declares x ∈ lw_tbl → va_Nw (.declares x) U) ∧ (∀ a b, Cond.castable a b ∈ lw_tbl → va_Nw (.castable a b) U) ∧ (gx_Sx1 Y "UNASSIGNED_STACK" "[Ljava/lang/StackTraceElement;" U ∧ gx_Sx1 Y "SUPPRESSED_SENTINEL" "Ljava/util/List;" U) ∧ (∀ q ∈ gx_NC, (Cond.castable q.1 q.2).before #[] U = false) ∧ ArrOfT U (Y.2.2.1.1 19) .int
def gx_K (Y : gx_Y) (U : State) : Prop := va_K Y.2.2.1 gx_CL (gx_TY Y.2.2.2.1) U ∧ gx_Nx Y U
/-- a method: code, home, answer, name, locals, frames, words, handlers -/
abbrev gx_U : Type := ByteArray × String × Option FieldType × String × Nat × Nat × Nat × List (Nat × Nat × Nat × Nat)
def gx_Rq (Y : gx_Y) (S : gx_St) (H : Heap) : Prop := gx_Hp Y.2.1 Y.2.2.1 Y.2.2.2.1 Y.2.2.2.2 S H
def gx_Q {ρ : Type} (Y : gx_Y) (O : gx_Ob ρ) (r : ρ) (S' : gx_St) : Array Value → State → Outcome → State → Prop := fun _ _ o t => O.2 r S' o t ∧ gx_Rq Y S' t.heap
/-- the end of a method: it returned, or it threw -/
def gx_FE (s : State) (o : Outcome) (t : State) (L : List Loc) (k n : Nat) : Prop := ((∃ v, o = .returned v) ∨ ∃ x, o = .threw x) ∧ s.WarmedH t.vm ∧ s.sameButNew ({ t with vm := s.vm } : State) L k n
def gx_MQ (below : List Frame) (Qc : Array Value → State → Outcome → State → Prop) (a : Array Value) (s : State) (mc ms : Nat) (free : Addr → Prop) : State → Prop := fun t =>
  ∃ o, t.status = .running ∧ Ended t below o ∧ Qc a s o t ∧ ∃ L, gx_FE s o t L mc ms ∧ ∀ q ∈ L, free q.base
theorem gx_MQ.of {below : List Frame} {Qc : Array Value → State → Outcome → State → Prop} {a : Array Value} {s : State} {mc ms : Nat} {free : Addr → Prop} {t : State} (h : MQ below Qc a s mc ms free t) : gx_MQ below Qc a s mc ms free t := by
  obtain ⟨o, h1, h2, h3, L, ⟨h4, h5⟩, h6⟩ := h
  exact ⟨o, h1, h2, h3, L, ⟨Or.inl h4, h5⟩, h6⟩
/-- the method's code, home, answer, name; the tables' words -/
def gx_C (Y : gx_Y) (μ : gx_U) (p : Program) (R : Room) (s : State) (m : MethodId) (args : Array Value) (meth : Method) (c : Code) : Prop :=
  p.tables.exec = Jvm.exec ∧ c.code = μ.1 ∧ c.maxLocals = μ.2.2.2.2.1 ∧ s.vm.findClass μ.2.1 = some m.cls ∧ (∀ w ∈ lw_all, w.before args s = true) ∧ gx_K Y s ∧ meth.sig.returnType = μ.2.2.1 ∧ meth.locks = false ∧ meth.name = μ.2.2.2.1 ∧ R.frames = μ.2.2.2.2.2.1 ∧ R.locals = μ.2.2.2.2.2.2.1 ∧ c.exceptionTable.toList.map (fun h => (h.startPc, h.endPc, h.handlerPc, h.catchType)) = μ.2.2.2.2.2.2.2
/-- the machine stands at pc, with the abstract state S; it comes to an end with r, S' -/
def gx_V (Y : gx_Y) (μ : gx_U) {ρ : Type} (O : gx_Ob ρ) (pc : Nat) (lv : List (Nat × gx_A)) (st : List gx_A) (S : gx_St) (r : ρ) (S' : gx_St) : Prop :=
  ∀ (p : Program) (e : Env) (R : Room) (s : State) (m : MethodId) (args : Array Value) (below : List Frame) (meth : Method) (c : Code) (c0 k0 : Nat), gx_C Y μ p R s m args meth c →
    ∀ (H : Heap) (locs : List Loc) (ls : Array Slot) (cells slots : Nat), gx_Rq Y S H → gx_ok S lv st → lv_has ls μ.2.2.2.2.1 (lv.map fun q => (q.1, gx_lc Y.2.1 (hp_A S) q.2)) → (∀ q ∈ locs, Y.2.1 ≤ q.base) →
      c0 + cells = hp_C S → k0 + slots = hp_Z S → hp_C S' ≤ c0 + R.cells → hp_Z S' ≤ k0 + R.slots →
      W p Y.1 e R s m args below meth c H locs cells slots (gx_MQ below (gx_Q Y O r S') args s (hp_C S' - c0) (hp_Z S' - k0) (fun q => Y.2.1 ≤ q)) (F0 m pc ls (st.map (gx_cv Y.2.1 (hp_A S))))
/-- at pc with the locals lv and the stack st the machine does what f says, and then k -/
def gx_J (Y : gx_Y) (μ : gx_U) {ρ α : Type} (O : gx_Ob ρ) (pc : Nat) (lv : List (Nat × gx_A)) (st : List gx_A) (f : gx_M α) (k : α → gx_M ρ) : Prop :=
  ∀ (S S' : gx_St) (r : ρ), gx_bd f k S = some (r, S') → gx_Wf S → gx_ok S lv st → gx_Lw (O.1 r S') S S' ∧ gx_V Y μ O pc lv st S r S'
/-- a method's contract -/
def gx_Pc (Y : gx_Y) (av : List gx_A) (S : gx_St) : Array Value → State → Prop := va_Pc (av.map (gx_lc Y.2.1 (hp_A S))) (fun U => gx_K Y U ∧ gx_Rq Y S U.heap)
def gx_Ct (Y : gx_Y) (y : MethodName) (ws : List Cond) (F L : Nat) (av : List gx_A) {ρ : Type} (O : gx_Ob ρ) (f : gx_M ρ) : Prop :=
  ∀ (S S' : gx_St) (r : ρ), f S = some (r, S') → gx_Wf S → gx_ok S [] av → gx_Lw (O.1 r S') S S' ∧ Met Y.1 y ws ({ frames := F, cells := hp_C S' - hp_C S, slots := hp_Z S' - hp_Z S, locals := L }) (gx_Pc Y av S) (gx_Q Y O r S') (hp_C S' - hp_C S) (hp_Z S' - hp_Z S) (fun q => Y.2.1 ≤ q)
/-- a contract of a method that may throw -/
def gx_MetX (l : Launch) (y : MethodName) (ws : List Cond) (rm : Room) (Pc : Array Value → State → Prop) (Qc : Array Value → State → Outcome → State → Prop) (mc ms : Nat) (free : Addr → Prop) : Prop :=
  Jvm.Free.MetFree l y (headSpec ws rm) Pc (fun _ _ _ _ _ => True) (fun a st o t => Qc a st o t ∧ ∃ L, gx_FE st o t L mc ms ∧ ∀ q ∈ L, free q.base)
def gx_CtX (Y : gx_Y) (y : MethodName) (ws : List Cond) (F L : Nat) (av : List gx_A) {ρ : Type} (O : gx_Ob ρ) (f : gx_M ρ) : Prop :=
  ∀ (S S' : gx_St) (r : ρ), f S = some (r, S') → gx_Wf S → gx_ok S [] av → gx_Lw (O.1 r S') S S' ∧ gx_MetX Y.1 y ws ({ frames := F, cells := hp_C S' - hp_C S, slots := hp_Z S' - hp_Z S, locals := L }) (gx_Pc Y av S) (gx_Q Y O r S') (hp_C S' - hp_C S) (hp_Z S' - hp_Z S) (fun q => Y.2.1 ≤ q)
/-- answers -/
def gx_Oi : gx_Ob Int32 := (fun _ _ => True, fun r _ o _ => o = .returned (some (.int r)))
def gx_Oz : gx_Ob Int32 := (fun r _ => r &&& 1 = r, fun r _ o _ => o = .returned (some (.int r)))
def gx_Ov : gx_Ob Unit := (fun _ _ => True, fun _ _ o _ => o = .returned none)
def gx_Or (Y : gx_Y) (t : Nat) : gx_Ob gx_Nm := (fun r S => gx_wt S (gx_r t (some r)), fun r S o _ => o = .returned (some (gx_rv Y.2.1 (hp_A S) (some r))))
def gx_Oo (Y : gx_Y) (t : Nat) : gx_Ob (Option gx_Nm) := (fun r S => gx_wt S (gx_r t r), fun r S o _ => o = .returned (some (gx_rv Y.2.1 (hp_A S) r)))
theorem gx_Oi_r : ∀ r S o t, gx_Oi.2 r S o t → ∃ v, o = .returned v := fun _ _ _ _ h => ⟨_, h⟩
theorem gx_Oz_r : ∀ r S o t, gx_Oz.2 r S o t → ∃ v, o = .returned v := fun _ _ _ _ h => ⟨_, h⟩
theorem gx_Ov_r : ∀ r S o t, gx_Ov.2 r S o t → ∃ v, o = .returned v := fun _ _ _ _ h => ⟨_, h⟩
theorem gx_Or_r {Y : gx_Y} {t : Nat} : ∀ r S o u, (gx_Or Y t).2 r S o u → ∃ v, o = .returned v := fun _ _ _ _ h => ⟨_, h⟩
theorem gx_Oo_r {Y : gx_Y} {t : Nat} : ∀ r S o u, (gx_Oo Y t).2 r S o u → ∃ v, o = .returned v := fun _ _ _ _ h => ⟨_, h⟩
theorem gx_sl_cat1 (z : Nat) (ad : gx_Nm → Nat) (av : List gx_A) : (lg_sl (av.map (gx_lc z ad))).length = av.length := by
  induction av with
  | nil => rfl
  | cons a l ih =>
    have h : ¬ (gx_lc z ad a).category = 2 := by rw [gx_lc_cat]; decide
    simp [lg_sl, h] at ih ⊢
    exact ih
theorem gx_args (z : Nat) (ad : gx_Nm → Nat) : ∀ (av : List gx_A) (n : Nat), lv_args n (av.map (gx_lc z ad)) = (av.zipIdx n).map (fun q => (q.2, gx_lc z ad q.1)) := by
  intro av
  induction av with
  | nil => intro n; rfl
  | cons a l ih =>
    intro n
    have h : ¬ (gx_lc z ad a).category = 2 := by rw [gx_lc_cat]; decide
    simp [lv_args, List.zipIdx_cons, gx_lc_cat, ih]
theorem gx_W_mono {p : Program} {l : Launch} {e : Env} {R : Room} {s : State} {m : MethodId} {args : Array Value} {below : List Frame} {meth : Method} {c : Code} {H : Heap} {locs : List Loc} {cells slots : Nat} {Q Q2 : State → Prop} {g : JFrame} (h : ∀ t, Q t → Q2 t) (k : W p l e R s m args below meth c H locs cells slots Q g) : W p l e R s m args below meth c H locs cells slots Q2 g := by
  intro T hT X
  obtain ⟨t, a, b⟩ := k T hT X
  exact ⟨t, a, h t b⟩
theorem gx_noH {p : Program} {l : Launch} {y : MethodName} {rm : Room} {cc : ByteArray} {maxL : Nat} {ret : Option FieldType} {e : Env} {s : State} {m : MethodId} {args : Array Value} {below : List Frame} {meth : Method} {c : Code} {s₁ : State} (B : BodyLoose p l y (headSpec (ws_ y cc maxL ret) rm) cc maxL ret e s m args below meth c s₁) : c.exceptionTable.toList.map (fun h => (h.startPc, h.endPc, h.handlerPc, h.catchType)) = [] := by
  have h := B.noHandlers (atoms_spec (ws := ws_ y cc maxL ret) B.pre _ List.mem_cons_self)
  have h2 : c.exceptionTable.toList = [] := by simpa using h
  rw [h2]
  rfl
/-- the body of a method by J -/
theorem gx_body {Y : gx_Y} {y : MethodName} {F L : Nat} {hh : List (Nat × Nat × Nat × Nat)} {cc : ByteArray} {maxL : Nat} {ret : Option FieldType} {ws' : List Cond} {av : List gx_A} {lv : List (Nat × gx_A)} {ρ : Type} {O : gx_Ob ρ} {f : gx_M ρ} (hn : av.length ≤ maxL) (hl : (av.zipIdx).map (fun q => (q.2, q.1)) = lv)
    (h : gx_J Y (cc, y.cls, ret, y.name, maxL, F, L, hh) O 0 lv [] f gx_rt) {S S' : gx_St} {r : ρ} (hf : f S = some (r, S')) (hwf : gx_Wf S) (hok : gx_ok S [] av) : gx_Lw (O.1 r S') S S' ∧ ∀ p e s m args below meth c s₁, BodyLoose p Y.1 y (headSpec ws' ({ frames := F, cells := hp_C S' - hp_C S, slots := hp_Z S' - hp_Z S, locals := L })) cc maxL ret e s m args below meth c s₁ → c.maxLocals = maxL → (∀ w ∈ lw_all, w ∈ ws') → c.exceptionTable.toList.map (fun h => (h.startPc, h.endPc, h.handlerPc, h.catchType)) = hh → gx_Pc Y av S args s →
      W p Y.1 e (headSpec ws' ({ frames := F, cells := hp_C S' - hp_C S, slots := hp_Z S' - hp_Z S, locals := L })).room s m args below meth c s.heap [] 0 0 (gx_MQ below (gx_Q Y O r S') args s (hp_C S' - hp_C S) (hp_Z S' - hp_Z S) (fun q => Y.2.1 ≤ q)) (entryFrame m args maxL) := by
  have hf2 : gx_bd f gx_rt S = some (r, S') := by rw [gx_bd_of hf]; rfl
  have hok2 : gx_ok S lv [] := by
    refine ⟨fun q hq => ?_, fun v hv => by cases hv⟩
    rw [← hl] at hq
    obtain ⟨w, hw, rfl⟩ := List.mem_map.mp hq
    exact hok.2 _ (List.fst_mem_of_mem_zipIdx hw)
  obtain ⟨hle, hV⟩ := h S S' r hf2 hwf hok2
  refine ⟨hle, ?_⟩
  intro p e s m args below meth c s₁ B hml hin hhh hv
  obtain ⟨rfl, hK, hR⟩ := hv
  have hts := atoms_spec (ws := ws') B.pre
  have hts : ∀ w ∈ lw_all, w.before _ s = true := fun w h => hts w (hin w h)
  have hlen : (lg_sl (av.map (gx_lc Y.2.1 (hp_A S)))).length ≤ maxL := by rw [gx_sl_cat1]; exact hn
  have hle2 := lv_entry (av.map (gx_lc Y.2.1 (hp_A S))) (n := maxL) hlen
  rw [lg_entry_eq]
  refine hV p e _ s m _ below meth c (hp_C S) (hp_Z S) ⟨B.exec, B.bytes, hml, findClass_of_methodNamed B.named, hts, hK, B.returns, B.notSynchronized, (name_of_methodNamed B.named B.method).1, rfl, rfl, hhh⟩ s.heap [] _ 0 0 hR hok2 ?_ (fun q h => by cases h) (Nat.add_zero _) (Nat.add_zero _) ?_ ?_
  · rw [gx_args] at hle2
    rw [← hl, List.map_map]
    exact hle2
  · have := hle.1.1
    show hp_C S' ≤ hp_C S + (hp_C S' - hp_C S)
    omega
  · have := hle.1.2.1
    show hp_Z S' ≤ hp_Z S + (hp_Z S' - hp_Z S)
    omega
/-- the start of a method that returns -/
theorem gx_start {Y : gx_Y} {y : MethodName} {F L : Nat} {cc : ByteArray} {maxL : Nat} {ret : Option FieldType} {av : List gx_A} {lv : List (Nat × gx_A)} {ρ : Type} {O : gx_Ob ρ} {f : gx_M ρ} (hO : ∀ r S o t, O.2 r S o t → ∃ v, o = .returned v) (hy : plainName y.cls = true) (hn : av.length ≤ maxL) (hl : (av.zipIdx).map (fun q => (q.2, q.1)) = lv)
    (h : gx_J Y (cc, y.cls, ret, y.name, maxL, F, L, []) O 0 lv [] f gx_rt) : gx_Ct Y y (ws_ y cc maxL ret) F L av O f := by
  intro S S' r hf hwf hok
  obtain ⟨hle, hB⟩ := gx_body (ws' := ws_ y cc maxL ret) hn hl h hf hwf hok
  refine ⟨hle, Met.ofW (cc := cc) (maxL := maxL) (ret := ret) hy rfl ?_⟩
  intro p e s m args below meth c s₁ B hml hv
  refine gx_W_mono (fun t ht => ?_) (hB p e s m args below meth c s₁ B hml (fun w hw => List.mem_cons_of_mem _ hw) (gx_noH B) hv)
  obtain ⟨o, h1, h2, h3, L', ⟨-, h5⟩, h6⟩ := ht
  exact ⟨o, h1, h2, h3, L', ⟨hO _ _ _ _ h3.1, h5⟩, h6⟩
/-- the start of a method that may throw -/
theorem gx_startX {Y : gx_Y} {y : MethodName} {F L : Nat} {cc : ByteArray} {maxL : Nat} {ret : Option FieldType} {av : List gx_A} {lv : List (Nat × gx_A)} {ρ : Type} {O : gx_Ob ρ} {f : gx_M ρ} (hy : plainName y.cls = true) (hn : av.length ≤ maxL) (hl : (av.zipIdx).map (fun q => (q.2, q.1)) = lv)
    (h : gx_J Y (cc, y.cls, ret, y.name, maxL, F, L, []) O 0 lv [] f gx_rt) : gx_CtX Y y (ws_ y cc maxL ret) F L av O f := by
  intro S S' r hf hwf hok
  obtain ⟨hle, hB⟩ := gx_body (ws' := ws_ y cc maxL ret) hn hl h hf hwf hok
  refine ⟨hle, MetFree.of_bodyS (code := cc) (maxLocals := maxL) (ret := ret) hy ?_ ?_⟩
  · intro args s m h hn
    obtain ⟨meth, c, h1, h2, h3, h4, h5, h6, -, -⟩ := Cond.code_spec hn (atoms_spec (ws := ws_ y cc maxL ret) h _ List.mem_cons_self)
    exact ⟨meth, c, h1, h2, h3, h4, h5, h6⟩
  · intro p e s m args below meth c s₁ B hml hP _
    have hh0 : s₁.heap = s.heap := by rw [B.state]; rfl
    obtain ⟨t, a1, o, b1, b2, b3⟩ := hB p e s m args below meth c s₁ B hml (fun w hw => List.mem_cons_of_mem _ hw) (gx_noH B) hP s₁ hh0 (Stand.of_body B)
    exact ⟨t, o, a1, b1, b2, ⟨b3.1, b3.2⟩⟩
