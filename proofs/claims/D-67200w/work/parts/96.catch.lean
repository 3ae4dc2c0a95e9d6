/-! ===== WALK 13: exceptions that are caught ===== -/
set_option maxRecDepth 100000
/-- the kinds by the numbers that the law's class has for them -/
def gx_cat (kx : Nat) : Nat := match kx with
  | 0 => 13
  | 1 => 45
  | 2 => 43
  | _ => 19
def gx_ctn (ct : Nat) : String := match ct with
  | 13 => "java/lang/IllegalArgumentException"
  | 45 => "java/util/NoSuchElementException"
  | 43 => "java/lang/IllegalStateException"
  | _ => "java/lang/IndexOutOfBoundsException"
/-- where a handler's table leads -/
def gx_catch (kx pc : Nat) : List (Nat × Nat × Nat × Nat) → Option Nat
  | [] => none
  | q :: t => if q.1 ≤ pc ∧ pc < q.2.1 then (if q.2.2.2 = gx_cat kx then some q.2.2.1 else if (gx_EX kx, gx_ctn q.2.2.2) ∈ gx_NC ∧ q.2.2.2 ∈ [13, 45, 43, 19] then gx_catch kx pc t else none) else gx_catch kx pc t
theorem gx_ctl : ∀ ct, ct ∈ [13, 45, 43, 19] → Cond.classLink "CouncilStoreLaw" ct (gx_ctn ct) ∈ lw_all := by
  intro ct h
  simp only [List.mem_cons, List.not_mem_nil, or_false] at h
  rcases h with rfl | rfl | rfl | rfl
  · exact q751
  · exact q998
  · exact q997
  · exact q873
theorem gx_cat4 : ∀ kx, kx < 4 → gx_cat kx ∈ [13, 45, 43, 19] ∧ gx_ctn (gx_cat kx) = gx_EX kx := by decide
theorem gx_goC {e : Env} {T : State} {f : JFrame} {a : Addr} {x : ExceptionTableEntry} {t : List ExceptionTableEntry} {c : ClassId} {cell : Cell} {vm₁ : Vm} (hx : covers x f.pc = true) (h0 : x.catchType ≠ 0) (hg : (resolveClass f.method.cls x.catchType).Gives e.toSetting T.vm (.ok c) vm₁) (hsz : vm₁.classes.size ≤ T.vm.classes.size) (hcell : T.heap[a]? = some cell) (hobj : ∀ k, cell.vm ≠ .statics k) (hk : ∃ k, vm₁.classes[cell.cls]? = some k) (hc : ∃ k, vm₁.classes[c]? = some k) {Q : Handler → Pre} {E : CtlPost} {d : Bool} {acts : List Action} :
    wp (findHandler.go f a (x :: t)) Q E e d acts T ↔ if vm₁.assignable cell.cls c = true then Q (.found x.handlerPc) d acts (T.setVm vm₁) else wp (findHandler.go f a t) Q E e d acts (T.setVm vm₁) := by
  obtain ⟨ha, ht⟩ := hg.op (op := VmOp.resolveClass f.method.cls x.catchType) rfl
  simp only [covers] at hx
  cases hfit : vm₁.assignable cell.cls c <;> simp [findHandler.go, hx, h0, ha, ht, hsz, hcell, hobj, hk, hc, hfit, VmOp.dirties, VmOp.acts]
theorem gx_asg (vm : Vm) (c : ClassId) : vm.assignable c c = true := by
  show vm.assignableAux (255 + 1) c c = true
  unfold Vm.assignableAux
  simp
theorem gx_notC {s : State} {A B : String} {c t : ClassId} (h : (Cond.castable A B).before #[] s = false) (h1 : s.vm.findClass A = some c) (h2 : s.vm.findClass B = some t) : s.vm.assignable c t = false := by
  cases ha : s.vm.assignable c t with
  | false => rfl
  | true =>
    simp [Cond.before, Cond.holds, Cond.value, h1, h2, ha] at h
/-- the search through the table -/
theorem gx_seek {Y : gx_Y} {e : Env} {s T : State} {args : Array Value} {f : JFrame} {a : Addr} {cell : Cell} {kx hpc : Nat} (hts : ∀ w ∈ lw_all, w.before args s = true) (hK : gx_K Y s) (hown : s.vm.findClass "CouncilStoreLaw" = some f.method.cls) (hpl : e.platform.magicAccessors = ({} : Platform).magicAccessors) (hcell : T.heap[a]? = some cell) (hvm : cell.vm = .none) (hcls : s.vm.findClass (gx_EX kx) = some cell.cls) (hkx : kx < 4) :
    ∀ (L : List ExceptionTableEntry) (vm₀ : Vm), s.WarmedH vm₀ → gx_catch kx f.pc (L.map (fun h => (h.startPc, h.endPc, h.handlerPc, h.catchType))) = some hpc → ∃ vm', s.WarmedH vm' ∧ ∀ (Q : Handler → Pre) (E : CtlPost) (d : Bool) (acts : List Action), wp (findHandler.go f a L) Q E e d acts (T.setVm vm₀) ↔ Q (.found hpc) d acts (T.setVm vm') := by
  intro L
  induction L with
  | nil => intro vm₀ _ h; cases h
  | cons x t ih =>
    intro vm₀ hW h
    rw [List.map_cons] at h
    unfold gx_catch at h
    by_cases hcov : x.startPc ≤ f.pc ∧ f.pc < x.endPc
    · rw [if_pos hcov] at h
      have hx : covers x f.pc = true := by
        unfold covers
        simp [hcov.1, hcov.2]
      have key : ∀ ct, ct = x.catchType → ct ∈ [13, 45, 43, 19] → ∃ (c : ClassId) (vm₁ : Vm), s.vm.findClass (gx_ctn ct) = some c ∧ s.WarmedH vm₁ ∧ ∀ (Q : Handler → Pre) (E : CtlPost) (d : Bool) (acts : List Action), wp (findHandler.go f a (x :: t)) Q E e d acts (T.setVm vm₀) ↔ if vm₁.assignable cell.cls c = true then Q (.found x.handlerPc) d acts (T.setVm vm₁) else wp (findHandler.go f a t) Q E e d acts (T.setVm vm₁) := by
        intro ct hct hin
        obtain ⟨c, hfc, hcl⟩ := Cond.classLink_spec hown (hts _ (gx_ctl ct hin)) e.platform hpl
        obtain ⟨hg₁, hwarm₁, -⟩ := State.classEntry (e := e) hW hcl
        have hal : s.vm.Alike (vm₀.noted f.method.cls ct (.cls c)) := hwarm₁.alike
        have h0 : ct ≠ 0 := by
          intro h0
          rw [h0] at hin
          revert hin
          decide
        have hk : ∃ k, (vm₀.noted f.method.cls ct (.cls c)).classes[cell.cls]? = some k := Vm.classAt_of_findClass (name := gx_EX kx) (by rw [hal.findClass]; exact hcls)
        have hc : ∃ k, (vm₀.noted f.method.cls ct (.cls c)).classes[c]? = some k := Vm.classAt_of_findClass (name := gx_ctn ct) (by rw [hal.findClass]; exact hfc)
        refine ⟨c, vm₀.noted f.method.cls ct (.cls c), hfc, hwarm₁, fun Q E d acts => ?_⟩
        subst hct
        refine (gx_goC (T := T.setVm vm₀) hx h0 hg₁ ?_ hcell (fun k h => by rw [hvm] at h; cases h) hk hc).trans ?_
        · rw [Vm.size_noted]
          exact Nat.le_refl _
        · rfl
      by_cases hm : x.catchType = gx_cat kx
      · rw [if_pos hm] at h
        obtain ⟨c, vm₁, k1, k2, k3⟩ := key _ hm.symm (gx_cat4 kx hkx).1
        rw [(gx_cat4 kx hkx).2] at k1
        have hcc : cell.cls = c := Option.some.inj (hcls.symm.trans k1)
        have hh : x.handlerPc = hpc := Option.some.inj h
        refine ⟨vm₁, k2, fun Q E d acts => ?_⟩
        rw [k3, hcc, if_pos (gx_asg _ _), hh]
      · rw [if_neg hm] at h
        split at h
        case isFalse => cases h
        case isTrue hp =>
          obtain ⟨hnc, hin⟩ := hp
          obtain ⟨c, vm₁, k1, k2, k3⟩ := key _ rfl hin
          have hno : vm₁.assignable cell.cls c = false := by
            rw [k2.alike.assignable]
            exact gx_notC (hK.2.2.2.2.2.2.1 _ hnc) hcls k1
          obtain ⟨vm', i1, i2⟩ := ih vm₁ k2 h
          refine ⟨vm', i1, fun Q E d acts => ?_⟩
          rw [k3, if_neg (by rw [hno]; decide)]
          exact i2 Q E d acts
    · rw [if_neg hcov] at h
      have hx : covers x f.pc = false := by
        unfold covers
        by_cases h1 : x.startPc ≤ f.pc
        · have h2 : ¬ f.pc < x.endPc := fun h2 => hcov ⟨h1, h2⟩
          simp [h2]
        · simp [h1]
      obtain ⟨vm', i1, i2⟩ := ih vm₀ hW h
      refine ⟨vm', i1, fun Q E d acts => ?_⟩
      rw [W.findHandler_go_skip hx]
      exact i2 Q E d acts
/-- an exception is caught -/
theorem gx_caught {p : Program} {l : Launch} {e : Env} {R : Room} {s : State} {m : MethodId} {args : Array Value} {below : List Frame} {meth : Method} {c : Code} {T : State} {locs : List Loc} {cells slots : Nat} (X : Stand p l e R s m args below meth c T locs cells slots) (x : Addr) {g : JFrame} (hg : g.method = m) {hpc : Nat} {vm' : Vm}
    (hfind : ∀ (Q : Handler → Pre) (E : CtlPost) (d : Bool) (acts : List Action), wp (findHandler g x) Q E e d acts ((T.setTop g).pushFrame (.throwing x)) ↔ Q (.found hpc) d acts (((T.setTop g).pushFrame (.throwing x)).setVm vm')) {target : State}
    (hrest : Steps p.tables e below ((T.setVm vm').setTop { g with pc := hpc, stack := [.ref x] }) target) : Steps p.tables e below ((T.setTop g).pushFrame (.throwing x)) target := by
  have h : At T g.method c below := by rw [hg]; exact X.here
  obtain ⟨hgo, hw⟩ := h.throwing x
  refine Steps.head hgo hw ?_
  have hstep : ∀ r, (stepThrowing e ((T.setTop g).pushFrame (.throwing x)) x (.java g :: r)).1 = (((T.setTop g).pushFrame (.throwing x)).setVm vm').setFrames (.java { g with pc := hpc, stack := [.ref x] } :: r) := by
    intro r
    simp only [stepThrowing, searchFrame, vmDo]
    generalize hr : Sem.go _ e false [] ((T.setTop g).pushFrame (.throwing x)) = res
    obtain ⟨as, rfl, ha⟩ := Sem.eq_ok_of hr (a := Handler.found hpc) (s' := ((T.setTop g).pushFrame (.throwing x)).setVm vm') (acts' := []) (by simp [hfind _ _ _ _])
    rfl
  rw [stepThread_throwing (frames_entered h.top _), hstep]
  obtain ⟨g₀, hg0⟩ := Option.isSome_iff_exists.mp h.top
  obtain ⟨r, hr⟩ := State.topJava?_eq_some.mp hg0
  have hr' : (T.setVm vm').frames = .java g₀ :: r := hr
  rw [State.setTop_of_frames _ hr'] at hrest
  rw [hr]
  have e1 : ((T.setTop g).pushFrame (.throwing x)).setVm vm' = ((T.setVm vm').setTop g).pushFrame (.throwing x) := rfl
  rw [e1, State.pushFrame, State.setFrames_setFrames, State.setTop_of_frames _ hr', State.setFrames_setFrames]
  exact hrest
section
variable {Y : gx_Y} {μ : gx_U} {ρ α β : Type} {O : gx_Ob ρ} {pc : Nat} {lv : List (Nat × gx_A)} {st : List gx_A} {k : α → gx_M ρ}
/-- a call in a method with handlers -/
theorem gx_JC {op : gx_M (β ⊕ Nat)} {g : β → gx_M α} {k0 : Nat → gx_M α} {st0 : List gx_A} (ho : μ.2.1 = "CouncilStoreLaw")
    (hT : ∀ (S S1 : gx_St) (kx : Nat), op S = some (.inr kx, S1) → gx_Wf S → gx_ok S lv st0 → gx_Lw (kx < 4) S S1 ∧ gx_RunT Y μ pc st0 S kx S1)
    (hc : ∀ kx, kx < 4 → k0 kx = gx_no ∨ ∃ hpc, gx_catch kx pc μ.2.2.2.2.2.2.2 = some hpc ∧ ∀ x, gx_J Y μ O hpc lv [gx_x x] (k0 kx) k)
    (K : gx_J Y μ O pc lv st0 (gx_bd (gx_un op) g) k) : gx_J Y μ O pc lv st0 (gx_bd op (fun o => match o with
      | .inl a => g a
      | .inr kx => k0 kx)) k := by
  intro S S' r hf hwf hok
  rw [gx_bd_as] at hf
  obtain ⟨x, S1, h1, h2⟩ := gx_bd_some hf
  cases x with
  | inl a =>
    refine K S S' r ?_ hwf hok
    rw [gx_bd_as, gx_bd_of (gx_un_of h1)]
    exact h2
  | inr kx =>
    obtain ⟨hlw, hrun⟩ := hT S S1 kx h1 hwf hok
    have h3 : gx_bd (k0 kx) k S1 = some (r, S') := h2
    rcases hc kx hlw.2.2 with hno | ⟨hpc, hcat, hK0⟩
    · rw [hno] at h3
      cases h3
    · have hok1 : ∀ x, gx_ok S1 lv [gx_x x] := fun x => ⟨fun q hq => hlw.1.wt (hok.1 q hq), fun v hv => by rw [List.mem_singleton.mp hv]; trivial⟩
      have hle := (hK0 0 S1 S' r h3 hlw.2.1 (hok1 0)).1
      refine ⟨⟨hlw.1.tr hle.1, hle.2⟩, ?_⟩
      intro p e R s m args below meth c c0 k1 hC H locs ls cells slots hR _ hl hL j1 j2 j3 j4
      have q1 := hlw.1.1
      have q2 := hlw.1.2.1
      have q3 := hle.1.1
      have q4 := hle.1.2.1
      intro T hT2 X
      obtain ⟨x, T', L, stk, X', hLL, hexn, hR2, hst⟩ := hrun p e R s m args below meth c H locs cells slots ls hC hR hl.1 (by omega) (by omega) T hT2 X
      obtain ⟨cell, y1, y2, y3⟩ := hexn
      obtain ⟨hx, hb, hml, hown, hts, hKK, -, -, -, -, -, htab⟩ := id hC
      rw [ho] at hown
      have hpl : e.platform.magicAccessors = ({} : Platform).magicAccessors := by rw [X.admits.platform]
      rw [← htab] at hcat
      obtain ⟨vm', i1, i2⟩ := gx_seek (e := e) (T := (T'.setTop (F0 m pc ls stk)).pushFrame (.throwing x)) (f := F0 m pc ls stk) (a := x) hts hKK hown hpl (by rw [Stand.throwing_heap]; exact y1) y2 (by rw [← X'.warmed.alike.findClass]; exact y3) hlw.2.2 c.exceptionTable.toList T'.vm X'.warmed hcat
      have XV := X'.noted i1
      obtain ⟨t2, a1, b1⟩ := (hK0 x S1 S' r h3 hlw.2.1 (hok1 x)).2 p e R s m args below meth c c0 k1 hC T'.heap (locs ++ L) ls (cells + (hp_C S1 - hp_C S)) (slots + (hp_Z S1 - hp_Z S)) hR2 (hok1 x) (by rw [hlw.1.lvs hok.1]; exact hl) (fun q hq => by
        rcases List.mem_append.mp hq with h | h
        · exact hL q h
        · exact hLL q h) (by omega) (by omega) j3 j4 (T'.setVm vm') rfl XV
      refine ⟨t2, hst.trans (gx_caught X' x (g := F0 m pc ls stk) rfl (hpc := hpc) (vm' := vm') (fun Q E d acts => ?_) a1), b1⟩
      rw [W.findHandler_eq (meth := meth) (code := c) (by rw [Stand.throwing_vm]; exact X'.method') X'.code]
      have e2 : ((T'.setTop (F0 m pc ls stk)).pushFrame (.throwing x)).setVm T'.vm = (T'.setTop (F0 m pc ls stk)).pushFrame (.throwing x) := rfl
      have i3 := i2 Q E d acts
      rw [e2] at i3
      exact i3
end
