/-! ===== WALK 7: Object.<init>, Math, switches, returns ===== -/
theorem gx_catsum (z : Nat) (ad : gx_Nm → Nat) : ∀ l : List gx_A, ((l.map (gx_cv z ad)).map fun v => v.category).sum ≤ (l.map gx_wd).sum := by
  intro l
  induction l with
  | nil => exact Nat.le_refl _
  | cons x l ih =>
    have : (gx_cv z ad x).category ≤ gx_wd x := by
      cases hx : gx_long x with
      | false => rw [gx_cv_cat _ _ _ hx]; unfold gx_wd; rw [hx]; decide
      | true =>
        rcases x with x | q | x | x
        · cases hx
        · cases hx
        · exact Nat.le_refl _
        · cases hx
    simp only [List.map_cons, List.sum_cons]
    omega
theorem gx_b0 : (0 : Int32) &&& 1 = 0 := by decide
theorem gx_b1 : (1 : Int32) &&& 1 = 1 := by decide
section
variable {Y : gx_Y} {μ : gx_U} {ρ α : Type} {O : gx_Ob ρ} {pc : Nat} {lv : List (Nat × gx_A)} {st : List gx_A} {f : gx_M α} {k : α → gx_M ρ}
theorem gx_Jobj {a : gx_Nm} {t ix : Nat} {own : String} (ho : μ.2.1 = own) (h1 : Cond.methodLink own ix Lib.objectInit ∈ lw_all) (h2 : Cond.instanceMethod Lib.objectInit ∈ lw_all) (h3 : Cond.code Lib.objectInit ⟨#[0xb1]⟩ 1 none ∈ lw_all) (hfr : 1 ≤ μ.2.2.2.2.2.1) (hlo : (st.map gx_wd).sum + 12 ≤ μ.2.2.2.2.2.2.1) (hd : decode μ.1 pc = .ok (.invokespecial ix, 3))
    (K : gx_J Y μ O (pc + 3) lv st f k) : gx_J Y μ O pc lv (gx_r t (some a) :: st) f k := by
  subst ho
  refine gx_Jp (fun S h v hv => h.2 v (List.mem_cons_of_mem _ hv)) (fun {p e R s m args below meth c H locs cells slots Q ls ad} hC hx hb hl w => ?_) K
  obtain ⟨-, -, hml, hown, hts, -, -, -, -, hRf, hRl, -⟩ := hC
  refine W.objInit hx hb hown (hts _ h1) (hts _ h2) (hts _ h3) rfl (by rw [hml]; exact hl.1) rfl hd (by rw [hRf]; exact hfr) ?_ w
  have := gx_catsum Y.2.1 ad st
  rw [hRl]
  show 2 * 0 + _ + 12 ≤ _
  omega
/-- a pure step that asks for room in the heap's count -/
theorem gx_Jpr2 {pc' : Nat} {st0 st' : List gx_A} (hw : ∀ S, gx_ok S lv st0 → ∀ v ∈ st', gx_wt S v) (h : ∀ {p : Program} {e : Env} {R : Room} {s : State} {m : MethodId} {args : Array Value} {below : List Frame} {meth : Method} {c : Code} {H : Heap} {locs : List Loc} {cells slots : Nat} {Q : State → Prop} {ls : Array Slot} {ad : gx_Nm → Nat}, gx_C Y μ p R s m args meth c → ls.size = μ.2.2.2.2.1 → cells ≤ R.cells → slots ≤ R.slots →
      W p Y.1 e R s m args below meth c H locs cells slots Q (F0 m pc' ls (st'.map (gx_cv Y.2.1 ad))) → W p Y.1 e R s m args below meth c H locs cells slots Q (F0 m pc ls (st0.map (gx_cv Y.2.1 ad))))
    (K : gx_J Y μ O pc' lv st' f k) : gx_J Y μ O pc lv st0 f k := by
  intro S S' r hf hwf hok
  obtain ⟨hle, hV⟩ := K S S' r hf hwf ⟨hok.1, hw S hok⟩
  refine ⟨hle, fun p e R s m args below meth c c0 k0 hC H locs ls cells slots hR _ hl hL h1 h2 h3 h4 => h hC hl.1 ?_ ?_ (hV p e R s m args below meth c c0 k0 hC H locs ls cells slots hR ⟨hok.1, hw S hok⟩ hl hL h1 h2 h3 h4)⟩
  · have := hle.1.1
    omega
  · have := hle.1.2.1
    omega
theorem gx_Jmax {x y : Int32} {ix : Nat} {own : String} (ho : μ.2.1 = own) (h1 : Cond.methodLink own ix Lib.Math.max.name ∈ lw_all) (h2 : Cond.static Lib.Math.max.name ∈ lw_all) (h3 : Cond.initialized "java/lang/Math" ∈ lw_all) (h4 : Cond.code Lib.Math.max.name Lib.Math.max.code 2 (some .int) ∈ lw_all) (hfr : 1 ≤ μ.2.2.2.2.2.1) (hlo : (st.map gx_wd).sum + 13 ≤ μ.2.2.2.2.2.2.1) (hd : decode μ.1 pc = .ok (.invokestatic ix, 3))
    (K : gx_J Y μ O (pc + 3) lv (gx_i (gx_max x y) :: st) f k) : gx_J Y μ O pc lv (gx_i y :: gx_i x :: st) f k := by
  subst ho
  refine gx_Jpr2 (fun S h => gx_w1 (gx_wi S _) gx_t2 h) (fun {p e R s m args below meth c H locs cells slots Q ls ad} hC hls hc hs w => ?_) K
  obtain ⟨hx, hb, hml, hown, hts, -, -, -, -, hRf, hRl, -⟩ := hC
  refine va_mmax hx hb (hml.trans hls.symm) hown (hts _ h1) (hts _ h2) (hts _ h3) (hts _ h4) (by rw [hRf]; exact hfr) ?_ hc hs hd w
  have := gx_catsum Y.2.1 ad st
  rw [hRl]
  omega
theorem gx_Jmin {x y : Int32} {ix : Nat} {own : String} (ho : μ.2.1 = own) (h1 : Cond.methodLink own ix Lib.Math.min.name ∈ lw_all) (h2 : Cond.static Lib.Math.min.name ∈ lw_all) (h3 : Cond.initialized "java/lang/Math" ∈ lw_all) (h4 : Cond.code Lib.Math.min.name Lib.Math.min.code 2 (some .int) ∈ lw_all) (hfr : 1 ≤ μ.2.2.2.2.2.1) (hlo : (st.map gx_wd).sum + 13 ≤ μ.2.2.2.2.2.2.1) (hd : decode μ.1 pc = .ok (.invokestatic ix, 3))
    (K : gx_J Y μ O (pc + 3) lv (gx_i (gx_min x y) :: st) f k) : gx_J Y μ O pc lv (gx_i y :: gx_i x :: st) f k := by
  subst ho
  refine gx_Jpr2 (fun S h => gx_w1 (gx_wi S _) gx_t2 h) (fun {p e R s m args below meth c H locs cells slots Q ls ad} hC hls hc hs w => ?_) K
  obtain ⟨hx, hb, hml, hown, hts, -, -, -, -, hRf, hRl, -⟩ := hC
  refine va_mmin hx hb (hml.trans hls.symm) hown (hts _ h1) (hts _ h2) (hts _ h3) (hts _ h4) (by rw [hRf]; exact hfr) ?_ hc hs hd w
  have := gx_catsum Y.2.1 ad st
  rw [hRl]
  omega
/-- a table of targets: the number's own entry leads to tgt -/
theorem gx_Jtab {x : Int32} {dflt lo hi : Int} {offs : Array Int} {len tgt : Nat} (hd : decode μ.1 pc = .ok (.tableswitch dflt lo hi offs, len)) (hsz : (offs.size : Int) = hi - lo + 1) (hdef : x.toInt < lo ∨ hi < x.toInt → (pc : Int) + dflt = (tgt : Int)) (hin : ∀ (j : Nat) (o : Int), offs[j]? = some o → x.toInt = lo + (j : Int) → (pc : Int) + o = (tgt : Int))
    (K : gx_J Y μ O tgt lv st f k) : gx_J Y μ O pc lv (gx_i x :: st) f k := by
  refine gx_Jp (fun S h v hv => h.2 v (List.mem_cons_of_mem _ hv)) (fun {p e R s m args below meth c H locs cells slots Q ls ad} hC hx hb hl w => ?_) K
  by_cases h : x.toInt < lo ∨ hi < x.toInt
  · exact lv_tableOut hx hb hd h (hdef h) w
  · have h1 : ¬ x.toInt < lo := fun q => h (Or.inl q)
    have h2 : ¬ hi < x.toInt := fun q => h (Or.inr q)
    have hlt : (x.toInt - lo).toNat < offs.size := by omega
    refine lv_tableIn (off := offs[(x.toInt - lo).toNat]) hx hb hd h1 h2 (Array.getElem?_eq_getElem hlt) (hin _ _ (Array.getElem?_eq_getElem hlt) (by omega)) w
theorem gx_Jlook {x : Int32} {dflt : Int} {ps : Array (Int × Int)} {len tgt : Nat} {off : Int} (hd : decode μ.1 pc = .ok (.lookupswitch dflt ps, len)) (hp : (ps.toList.zip (ps.toList.drop 1)).all (fun (a, next) => a.1 < next.1) = true) (ho : Op.lookupswitch.offset ps.toList dflt x.toInt = off) (ht : (pc : Int) + off = (tgt : Int))
    (K : gx_J Y μ O tgt lv st f k) : gx_J Y μ O pc lv (gx_i x :: st) f k :=
  gx_Jp (fun S h v hv => h.2 v (List.mem_cons_of_mem _ hv)) (fun hC hx hb hl w => lv_lookup hx hb hd hp ho ht w) K
end
section
variable {Y : gx_Y} {μ : gx_U} {ρ : Type} {O : gx_Ob ρ} {pc : Nat} {lv : List (Nat × gx_A)}
/-- returns -/
theorem gx_Jend {st : List gx_A} {r : ρ} (hU : ∀ S, gx_ok S lv st → O.1 r S) (h : ∀ (S : gx_St) (p : Program) (e : Env) (R : Room) (s : State) (m : MethodId) (args : Array Value) (below : List Frame) (meth : Method) (c : Code) (H : Heap) (locs : List Loc) (cells slots : Nat) (ls : Array Slot), gx_ok S lv st → gx_C Y μ p R s m args meth c → gx_Rq Y S H → (∀ q ∈ locs, Y.2.1 ≤ q.base) → W p Y.1 e R s m args below meth c H locs cells slots (MQ below (gx_Q Y O r S) args s cells slots (fun q => Y.2.1 ≤ q)) (F0 m pc ls (st.map (gx_cv Y.2.1 (hp_A S))))) : gx_J Y μ O pc lv st (gx_rt r) gx_rt := by
  intro S S' r' hf hwf hok
  cases hf
  refine ⟨⟨gx_Le.rf _, hwf, hU _ hok⟩, fun p e R s m args below meth c c0 k0 hC H locs ls cells slots hR _ hl hL h1 h2 h3 h4 => ?_⟩
  have e1 : hp_C S - c0 = cells := by omega
  have e2 : hp_Z S - k0 = slots := by omega
  rw [e1, e2]
  exact gx_W_mono (fun t ht => gx_MQ.of ht) (h S p e R s m args below meth c H locs cells slots ls hok hC hR hL)
theorem gx_Jiret {x : Int32} {r : ρ} (hr : μ.2.2.1 = some .int) (hU : ∀ S, O.1 r S) (hO : ∀ S t, O.2 r S (.returned (some (.int x))) t) (hd : decode μ.1 pc = .ok (.ireturn, 1)) : gx_J Y μ O pc lv [gx_i x] (gx_rt r) gx_rt :=
  gx_Jend (fun S _ => hU S) (fun S p e R s m args below meth c H locs cells slots ls hok hC hR hL => W.iret hC.1 hC.2.1 (hC.2.2.2.2.2.2.1.trans hr) (fun t ht _ => ⟨hO S t, by rw [ht]; exact hR⟩) hL hd hC.2.2.2.2.2.2.2.1)
theorem gx_Jzret {x : Int32} {r : ρ} (hr : μ.2.2.1 = some .boolean) (hx : x &&& 1 = x) (hU : ∀ S, O.1 r S) (hO : ∀ S t, O.2 r S (.returned (some (.int x))) t) (hd : decode μ.1 pc = .ok (.ireturn, 1)) : gx_J Y μ O pc lv [gx_i x] (gx_rt r) gx_rt :=
  gx_Jend (fun S _ => hU S) (fun S p e R s m args below meth c H locs cells slots ls hok hC hR hL => W.zret hC.1 hC.2.1 (hC.2.2.2.2.2.2.1.trans hr) (by show Value.int (x &&& 1) = _; rw [hx]) (fun t ht _ => ⟨hO S t, by rw [ht]; exact hR⟩) hL hd hC.2.2.2.2.2.2.2.1)
theorem gx_Jvret {r : ρ} (hr : μ.2.2.1 = none) (hU : ∀ S, O.1 r S) (hO : ∀ S t, O.2 r S (.returned none) t) (hd : decode μ.1 pc = .ok (.return_, 1)) : gx_J Y μ O pc lv [] (gx_rt r) gx_rt :=
  gx_Jend (fun S _ => hU S) (fun S p e R s m args below meth c H locs cells slots ls hok hC hR hL => W.vret hC.1 hC.2.1 (hC.2.2.2.2.2.2.1.trans hr) (fun t ht _ => ⟨hO S t, by rw [ht]; exact hR⟩) hL hd hC.2.2.2.2.2.2.2.1)
theorem gx_Jaret {t : Nat} {q : Option gx_Nm} {r : ρ} {rt : FieldType} (hr : μ.2.2.1 = some rt) (hrt : (∃ n, rt = .object n) ∨ ∃ t, rt = .array t) (hU : ∀ S, gx_wt S (gx_r t q) → O.1 r S) (hO : ∀ S u, O.2 r S (.returned (some (gx_rv Y.2.1 (hp_A S) q))) u) (hd : decode μ.1 pc = .ok (.areturn, 1)) : gx_J Y μ O pc lv [gx_r t q] (gx_rt r) gx_rt :=
  gx_Jend (fun S hok => hU S (hok.2 _ List.mem_cons_self)) (fun S p e R s m args below meth c H locs cells slots ls hok hC hR hL => W.aret hC.1 hC.2.1 (hC.2.2.2.2.2.2.1.trans hr) hrt (by cases q with
    | none => exact Or.inl rfl
    | some q => exact Or.inr ⟨_, rfl⟩) (fun u ht _ => ⟨hO S u, by rw [ht]; exact hR⟩) hL hd hC.2.2.2.2.2.2.2.1)
end
