/-! ===== WALK 14: methods with handlers: their start, and calls of them ===== -/
set_option maxRecDepth 100000
theorem gx_startW {Y : gx_Y} {y : MethodName} {F L : Nat} {cc : ByteArray} {maxL : Nat} {ret : Option FieldType} {hh : List (Nat × Nat × Nat × Nat)} {av : List gx_A} {lv : List (Nat × gx_A)} {ρ : Type} {O : gx_Ob ρ} {f : gx_M ρ} (hO : ∀ r S o t, O.2 r S o t → ∃ v, o = .returned v) (hy : plainName y.cls = true) (hn : av.length ≤ maxL) (hl : (av.zipIdx).map (fun q => (q.2, q.1)) = lv)
    (h : gx_J Y (cc, y.cls, ret, y.name, maxL, F, L, hh) O 0 lv [] f gx_rt) : gx_Ct Y y (wsW_ y cc maxL ret hh) F L av O f := by
  intro S S' r hf hwf hok
  obtain ⟨hle, hB⟩ := gx_body (ws' := wsW_ y cc maxL ret hh) hn hl h hf hwf hok
  refine ⟨hle, va_MetW (cc := cc) (maxL := maxL) (ret := ret) (hh := hh) hy rfl ?_⟩
  intro p e s m args below meth c s₁ B hml hv
  have htab : c.exceptionTable.toList.map (fun h => (h.startPc, h.endPc, h.handlerPc, h.catchType)) = hh := by
    obtain ⟨m9, meth9, c9, hn9, h1, h2, -, -, h5, -⟩ := Cond.codeWith_spec (atoms_spec (ws := wsW_ y cc maxL ret hh) B.pre _ List.mem_cons_self)
    cases B.named.symm.trans hn9
    cases B.method.symm.trans h1
    cases (Stand.of_body B).code.symm.trans h2
    exact h5
  refine gx_W_mono (fun t ht => ?_) (hB p e s m args below meth c s₁ B hml (fun w hw => List.mem_cons_of_mem _ hw) htab hv)
  obtain ⟨o, h1, h2, h3, L', ⟨-, h5⟩, h6⟩ := ht
  exact ⟨o, h1, h2, h3, L', ⟨hO _ _ _ _ h3.1, h5⟩, h6⟩
section
variable {Y : gx_Y} {μ : gx_U} {pc : Nat} {lv : List (Nat × gx_A)} {st : List gx_A}
/-- invokestatic of a method with handlers -/
theorem gx_runSW {β : Type} {O2 : gx_Ob β} {op : gx_M β} {y : MethodName} {bytes : ByteArray} {maxL F L n ix : Nat} {ret : Option FieldType} {hh : List (Nat × Nat × Nat × Nat)} {own : String} {as st0 : List gx_A} (hct : gx_Ct Y y (wsW_ y bytes maxL ret hh) F L as O2 op) (hst0 : st0 = as.reverse ++ st) (hlg : as.all (fun v => !gx_long v) = true) (ho : μ.2.1 = own)
    (h1 : Cond.methodLink own ix y ∈ lw_all) (h2 : Cond.static y ∈ lw_all) (h4 : Cond.initialized y.cls ∈ lw_all) (h5 : Cond.codeWith y bytes maxL ret hh ∈ lw_all) (hn : as.length = n) (hd9 : y.cls ≠ "java/lang/invoke/MethodHandle" ∧ y.cls ≠ "java/lang/invoke/VarHandle" ∧ (parseMethodDescriptor y.desc).map (fun d => d.parameters.length) = some n) (hfr : F + 1 ≤ μ.2.2.2.2.2.1) (hlo : 8 + (maxL + 11) + L ≤ μ.2.2.2.2.2.2.1) (hsm : (st.map gx_wd).sum ≤ 8) (hd : decode μ.1 pc = .ok (.invokestatic ix, 3)) :
    ∀ (S S1 : gx_St) (x : β), op S = some (x, S1) → gx_Wf S → gx_ok S lv st0 → gx_Lw (O2.1 x S1) S S1 ∧ gx_Run Y μ pc O2 st0 st S x S1 := by
  subst ho
  subst hst0
  intro S S1 x hop hwf hok
  have hoka : gx_ok S [] as := gx_okargs hok (fun v hv => by simp [hv])
  obtain ⟨hlw, hM⟩ := hct S S1 x hop hwf hoka
  refine ⟨hlw, ?_⟩
  intro p e R s m args below meth c H locs cells slots ls hC hR hls hc hs
  obtain ⟨hx, hb, hml, hown, hts, hK, -, -, -, hRf, hRl, -⟩ := hC
  have hPS := gx_PcS (av := as) hK hR
  rw [gx_lccvs Y.2.1 hlg] at hPS
  have hG : GoodIn lw_all (wsW_ y bytes maxL ret hh) := lw_methW h5
  have hini := hts _ h4
  have hBk : Back Y.1 R p e below s args y 3 8 (PreOf R (hp_C S1 - hp_C S) (hp_Z S1 - hp_Z S) (gx_Pc Y as S)) (PostOf (gx_Q Y O2 x S1) (hp_C S1 - hp_C S) (hp_Z S1 - hp_Z S) (fun q => Y.2.1 ≤ q)) :=
    va_backW (hh := hh) (bytes := bytes) (maxL := maxL) (ret := ret) hM hPS.1 rfl rfl (by rw [hRf]; exact hfr) (by rw [hRl]; exact hlo) (pay_in hts hG) List.mem_cons_self (fun a' U hW => word_at hW (Or.inl (by first | rfl | simp [Cond.onTables, Cond.keeps, Cond.steady])) hini)
  intro T hT X
  obtain ⟨mk, methM, cM, hnamed, hmethM, -, -, -, -, -, -, hsigM⟩ := Cond.codeWith_spec (hts _ h5)
  have hstatic : methM.isStatic = true := Cond.static_spec hnamed hmethM (hts _ h2)
  obtain ⟨kP, hkP, -⟩ := className_of_methodNamed hnamed
  have hinitP : kP.init = .initialized := Cond.initialized_spec (findClass_of_methodNamed hnamed) hkP hini
  have hlen : as.length = methM.sig.parameters.length := by
    have h := hd9.2.2
    rw [hsigM] at h
    exact hn.trans (Option.some.inj h).symm
  obtain ⟨vm₁, X₁, hstep₁⟩ := X.invokestatic hx hown (hts _ h1) hnamed hmethM hstatic hkP hinitP ⟨hd9.1, hd9.2.1⟩ (g := F0 m pc ls ((as.reverse ++ st).map (gx_cv Y.2.1 (hp_A S)))) rfl (argsL := as.map (gx_cv Y.2.1 (hp_A S))) (rest := st.map (gx_cv Y.2.1 (hp_A S))) (by rw [List.length_map]; exact hlen) (by show List.map _ _ = _; rw [List.map_append, List.map_reverse]) (by rw [hb]; exact hd)
  obtain ⟨v, ⟨U', l2, c2, s2⟩, X', ⟨g', mk', t, L', e1, e2, hq, k1, hL, k2, k3⟩, hsteps⟩ := hBk m meth c ⟨T.setVm vm₁, locs, cells, slots⟩ (F0 m pc ls (st.map (gx_cv Y.2.1 (hp_A S)))) (.invokestatic ix) mk (as.map (gx_cv Y.2.1 (hp_A S))).toArray X₁ rfl (by rw [hml]; exact hls) (by rw [hb]; exact hd) (gx_hW (m := m) (pc := pc) (ls := ls) (s0 := st.map (gx_cv Y.2.1 (hp_A S))) hsm) (X₁.named hnamed) ⟨hc, hs, hPS.2 (T.setVm vm₁) hT X₁.warmed⟩
  dsimp only [Pt.U, Pt.locs, Pt.cells, Pt.slots] at X' e1 e2 k1 k2 k3
  subst k1; subst k2; subst k3
  exact ⟨v, (T.setVm vm₁).calling g' mk' (as.map (gx_cv Y.2.1 (hp_A S))).toArray, t, U', L', hT, X', hL, e1, e2, hq, fun target h => hstep₁ _ fun acts => by rw [doInvoke_state]; exact hsteps.trans h⟩
end
/-- a call whose exceptions are caught -/
def gx_cx {α β : Type} (f : gx_M (α ⊕ Nat)) (g : α → gx_M β) (k0 : Nat → gx_M β) : gx_M β := gx_bd f (fun o => match o with
  | .inl a => g a
  | .inr kx => k0 kx)
section
variable {Y : gx_Y} {μ : gx_U} {ρ α β : Type} {O : gx_Ob ρ} {pc : Nat} {lv : List (Nat × gx_A)} {k : α → gx_M ρ}
theorem gx_Jcx {op : gx_M (β ⊕ Nat)} {g : β → gx_M α} {k0 : Nat → gx_M α} {st0 : List gx_A} (ho : μ.2.1 = "CouncilStoreLaw")
    (hT : ∀ (S S1 : gx_St) (kx : Nat), op S = some (.inr kx, S1) → gx_Wf S → gx_ok S lv st0 → gx_Lw (kx < 4) S S1 ∧ gx_RunT Y μ pc st0 S kx S1)
    (hc : ∀ kx, kx < 4 → k0 kx = gx_no ∨ ∃ hpc, gx_catch kx pc μ.2.2.2.2.2.2.2 = some hpc ∧ ∀ x, gx_J Y μ O hpc lv [gx_x x] (k0 kx) k)
    (K : gx_J Y μ O pc lv st0 (gx_bd (gx_un op) g) k) : gx_J Y μ O pc lv st0 (gx_cx op g k0) k := gx_JC ho hT hc K
theorem gx_Jeq {st0 : List gx_A} {f f' : gx_M α} (h : f = f') (K : gx_J Y μ O pc lv st0 f' k) : gx_J Y μ O pc lv st0 f k := by
  rw [h]
  exact K
end
