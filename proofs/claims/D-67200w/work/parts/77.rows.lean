/-! ===== WALK 2: rows of J, no heap ===== -/
theorem gx_m {α : Type} {t : List α} {q : α} (i : Nat) (h : t[i]? = some q) : q ∈ t := List.mem_of_getElem? h
theorem gx_wi (S : gx_St) (x : Int32) : gx_wt S (gx_i x) := trivial
theorem gx_wl (S : gx_St) (x : Int64) : gx_wt S (gx_l x) := trivial
section
variable {Y : gx_Y} {μ : gx_U} {ρ α : Type} {O : gx_Ob ρ} {pc : Nat} {lv : List (Nat × gx_A)} {st : List gx_A} {f : gx_M α} {k : α → gx_M ρ}
theorem gx_Jp {pc' : Nat} {st0 st' : List gx_A} (hw : ∀ S, gx_ok S lv st0 → ∀ v ∈ st', gx_wt S v) (h : ∀ {p : Program} {e : Env} {R : Room} {s : State} {m : MethodId} {args : Array Value} {below : List Frame} {meth : Method} {c : Code} {H : Heap} {locs : List Loc} {cells slots : Nat} {Q : State → Prop} {ls : Array Slot} {ad : gx_Nm → Nat}, gx_C Y μ p R s m args meth c → p.tables.exec = Jvm.exec → c.code = μ.1 → lv_has ls μ.2.2.2.2.1 (lv.map fun q => (q.1, gx_lc Y.2.1 ad q.2)) →
      W p Y.1 e R s m args below meth c H locs cells slots Q (F0 m pc' ls (st'.map (gx_cv Y.2.1 ad))) → W p Y.1 e R s m args below meth c H locs cells slots Q (F0 m pc ls (st0.map (gx_cv Y.2.1 ad))))
    (K : gx_J Y μ O pc' lv st' f k) : gx_J Y μ O pc lv st0 f k := by
  intro S S' r hf hwf hok
  obtain ⟨hle, hV⟩ := K S S' r hf hwf ⟨hok.1, hw S hok⟩
  exact ⟨hle, fun p e R s m args below meth c c0 k0 hC H locs ls cells slots hR _ hl hL h1 h2 h3 h4 => h hC hC.1 hC.2.1 hl (hV p e R s m args below meth c c0 k0 hC H locs ls cells slots hR ⟨hok.1, hw S hok⟩ hl hL h1 h2 h3 h4)⟩
theorem gx_Js {pc' : Nat} {st0 st' : List gx_A} {lv' : List (Nat × gx_A)} (hw : ∀ S, gx_ok S lv st0 → gx_ok S lv' st') (h : ∀ {p : Program} {e : Env} {R : Room} {s : State} {m : MethodId} {args : Array Value} {below : List Frame} {meth : Method} {c : Code} {H : Heap} {locs : List Loc} {cells slots : Nat} {Q : State → Prop} {ls : Array Slot} {ad : gx_Nm → Nat}, p.tables.exec = Jvm.exec → c.code = μ.1 → lv_has ls μ.2.2.2.2.1 (lv.map fun q => (q.1, gx_lc Y.2.1 ad q.2)) →
      (∀ ls' : Array Slot, lv_has ls' μ.2.2.2.2.1 (lv'.map fun q => (q.1, gx_lc Y.2.1 ad q.2)) → W p Y.1 e R s m args below meth c H locs cells slots Q (F0 m pc' ls' (st'.map (gx_cv Y.2.1 ad)))) → W p Y.1 e R s m args below meth c H locs cells slots Q (F0 m pc ls (st0.map (gx_cv Y.2.1 ad))))
    (K : gx_J Y μ O pc' lv' st' f k) : gx_J Y μ O pc lv st0 f k := by
  intro S S' r hf hwf hok
  obtain ⟨hle, hV⟩ := K S S' r hf hwf (hw S hok)
  exact ⟨hle, fun p e R s m args below meth c c0 k0 hC H locs ls cells slots hR _ hl hL h1 h2 h3 h4 => h hC.1 hC.2.1 hl (fun ls' hl' => hV p e R s m args below meth c c0 k0 hC H locs ls' cells slots hR (hw S hok) hl' hL h1 h2 h3 h4)⟩
theorem gx_Jb {P : Prop} {dP : Decidable P} {f1 f2 : gx_M α} {pt pf : Nat} {st0 st' : List gx_A} (hs : ∀ v ∈ st', v ∈ st0) (h : ∀ {p : Program} {e : Env} {R : Room} {s : State} {m : MethodId} {args : Array Value} {below : List Frame} {meth : Method} {c : Code} {H : Heap} {locs : List Loc} {cells slots : Nat} {Q : State → Prop} {ls : Array Slot} {ad : gx_Nm → Nat}, p.tables.exec = Jvm.exec → c.code = μ.1 →
      (P → W p Y.1 e R s m args below meth c H locs cells slots Q (F0 m pt ls (st'.map (gx_cv Y.2.1 ad)))) → (¬ P → W p Y.1 e R s m args below meth c H locs cells slots Q (F0 m pf ls (st'.map (gx_cv Y.2.1 ad)))) → W p Y.1 e R s m args below meth c H locs cells slots Q (F0 m pc ls (st0.map (gx_cv Y.2.1 ad))))
    (K1 : P → gx_J Y μ O pt lv st' f1 k) (K2 : ¬ P → gx_J Y μ O pf lv st' f2 k) : gx_J Y μ O pc lv st0 (@ite _ P dP f1 f2) k := by
  intro S S' r hf hwf hok
  have hok2 : gx_ok S lv st' := ⟨hok.1, fun v hv => hok.2 v (hs v hv)⟩
  by_cases hP : P
  · rw [if_pos hP] at hf
    obtain ⟨hle, hV⟩ := K1 hP S S' r hf hwf hok2
    exact ⟨hle, fun p e R s m args below meth c c0 k0 hC H locs ls cells slots hR _ hl hL h1 h2 h3 h4 => h hC.1 hC.2.1 (fun _ => hV p e R s m args below meth c c0 k0 hC H locs ls cells slots hR hok2 hl hL h1 h2 h3 h4) (fun q => absurd hP q)⟩
  · rw [if_neg hP] at hf
    obtain ⟨hle, hV⟩ := K2 hP S S' r hf hwf hok2
    exact ⟨hle, fun p e R s m args below meth c c0 k0 hC H locs ls cells slots hR _ hl hL h1 h2 h3 h4 => h hC.1 hC.2.1 (fun q => absurd q hP) (fun _ => hV p e R s m args below meth c c0 k0 hC H locs ls cells slots hR hok2 hl hL h1 h2 h3 h4)⟩
theorem gx_lvat {ls : Array Slot} {nL z : Nat} {ad : gx_Nm → Nat} (h : lv_has ls nL (lv.map fun q => (q.1, gx_lc z ad q.2))) (j : Nat) {i : Nat} {v : gx_A} (hk : lv[j]? = some (i, v)) : ls[i]? = some (.val (gx_lc z ad v)) := lv_at h j (by rw [List.getElem?_map, hk]; rfl)
theorem gx_lvst {z i : Nat} {ad : gx_Nm → Nat} {v : gx_A} {ls : Array Slot} {nL : Nat} {lv' : List (Nat × gx_A)} (hl : (i, v) :: lv.filter (fun q => !(q.1 == i)) = lv') (h : lv_has ls nL ((i, gx_lc z ad v) :: (lv.map fun q => (q.1, gx_lc z ad q.2)).filter (fun q => !(q.1 == i) && !(q.1 + 1 == i && q.2.category == 2)))) : lv_has ls nL (lv'.map fun q => (q.1, gx_lc z ad q.2)) := by
  refine ⟨h.1, h.2.1, fun q hq => h.2.2 q ?_⟩
  rw [← hl] at hq
  rcases List.mem_cons.mp hq with e | e
  · rw [e]; exact List.mem_cons_self
  · obtain ⟨w, hw, rfl⟩ := List.mem_map.mp e
    obtain ⟨h1, h2⟩ := List.mem_filter.mp hw
    refine List.mem_cons_of_mem _ (List.mem_filter.mpr ⟨List.mem_map.mpr ⟨w, h1, rfl⟩, ?_⟩)
    have h3 : (gx_lc z ad w.2).category = 1 := gx_lc_cat z ad w.2
    simp only [h3, Bool.and_eq_true]
    exact ⟨h2, by simp⟩
theorem gx_okst {i : Nat} {v : gx_A} {lv' : List (Nat × gx_A)} (hl : (i, v) :: lv.filter (fun q => !(q.1 == i)) = lv') (S : gx_St) (h : gx_ok S lv (v :: st)) : gx_ok S lv' st := by
  refine ⟨fun q hq => ?_, fun w hw => h.2 w (List.mem_cons_of_mem _ hw)⟩
  rw [← hl] at hq
  rcases List.mem_cons.mp hq with e | e
  · rw [e]; exact h.2 v List.mem_cons_self
  · exact h.1 q (List.mem_filter.mp e).1
theorem gx_w1 {S : gx_St} {x : gx_A} {st0 : List gx_A} (hx : gx_wt S x) (hs : ∀ v ∈ st, v ∈ st0) (h : gx_ok S lv st0) : ∀ v ∈ x :: st, gx_wt S v := by
  intro v hv
  rcases List.mem_cons.mp hv with e | e
  · rw [e]; exact hx
  · exact h.2 v (hs v e)
theorem gx_t1 {a : gx_A} : ∀ v ∈ st, v ∈ a :: st := fun _ h => List.mem_cons_of_mem _ h
theorem gx_t2 {a b : gx_A} : ∀ v ∈ st, v ∈ a :: b :: st := fun _ h => List.mem_cons_of_mem _ (List.mem_cons_of_mem _ h)
theorem gx_t0 : ∀ v ∈ st, v ∈ st := fun _ h => h
theorem gx_iadd {x y : Int32} (hd : decode μ.1 pc = .ok (.iadd, 1)) (K : gx_J Y μ O (pc + 1) lv (gx_i (x + y) :: st) f k) : gx_J Y μ O pc lv (gx_i y :: gx_i x :: st) f k := gx_Jp (fun S h => gx_w1 (gx_wi S _) gx_t2 h) (fun hC hx hb hl w => lv_iadd hx hb hd w) K
theorem gx_isub {x y : Int32} (hd : decode μ.1 pc = .ok (.isub, 1)) (K : gx_J Y μ O (pc + 1) lv (gx_i (x - y) :: st) f k) : gx_J Y μ O pc lv (gx_i y :: gx_i x :: st) f k := gx_Jp (fun S h => gx_w1 (gx_wi S _) gx_t2 h) (fun hC hx hb hl w => lv_isub hx hb hd w) K
theorem gx_imul {x y : Int32} (hd : decode μ.1 pc = .ok (.imul, 1)) (K : gx_J Y μ O (pc + 1) lv (gx_i (x * y) :: st) f k) : gx_J Y μ O pc lv (gx_i y :: gx_i x :: st) f k := gx_Jp (fun S h => gx_w1 (gx_wi S _) gx_t2 h) (fun hC hx hb hl w => lv_imul hx hb hd w) K
theorem gx_iand {x y : Int32} (hd : decode μ.1 pc = .ok (.iand, 1)) (K : gx_J Y μ O (pc + 1) lv (gx_i (x &&& y) :: st) f k) : gx_J Y μ O pc lv (gx_i y :: gx_i x :: st) f k := gx_Jp (fun S h => gx_w1 (gx_wi S _) gx_t2 h) (fun hC hx hb hl w => lv_iand hx hb hd w) K
theorem gx_ior {x y : Int32} (hd : decode μ.1 pc = .ok (.ior, 1)) (K : gx_J Y μ O (pc + 1) lv (gx_i (x ||| y) :: st) f k) : gx_J Y μ O pc lv (gx_i y :: gx_i x :: st) f k := gx_Jp (fun S h => gx_w1 (gx_wi S _) gx_t2 h) (fun hC hx hb hl w => lv_ior hx hb hd w) K
theorem gx_ixor {x y : Int32} (hd : decode μ.1 pc = .ok (.ixor, 1)) (K : gx_J Y μ O (pc + 1) lv (gx_i (x ^^^ y) :: st) f k) : gx_J Y μ O pc lv (gx_i y :: gx_i x :: st) f k := gx_Jp (fun S h => gx_w1 (gx_wi S _) gx_t2 h) (fun hC hx hb hl w => lv_ixor hx hb hd w) K
theorem gx_ishl {x y : Int32} (hd : decode μ.1 pc = .ok (.ishl, 1)) (K : gx_J Y μ O (pc + 1) lv (gx_i (x <<< (y &&& 31)) :: st) f k) : gx_J Y μ O pc lv (gx_i y :: gx_i x :: st) f k := gx_Jp (fun S h => gx_w1 (gx_wi S _) gx_t2 h) (fun hC hx hb hl w => lv_ishl hx hb hd w) K
theorem gx_ishr {x y : Int32} (hd : decode μ.1 pc = .ok (.ishr, 1)) (K : gx_J Y μ O (pc + 1) lv (gx_i (x >>> (y &&& 31)) :: st) f k) : gx_J Y μ O pc lv (gx_i y :: gx_i x :: st) f k := gx_Jp (fun S h => gx_w1 (gx_wi S _) gx_t2 h) (fun hC hx hb hl w => lv_ishr hx hb hd w) K
theorem gx_idiv {x y : Int32} (hn : ¬ y = 0) (hd : decode μ.1 pc = .ok (.idiv, 1)) (K : gx_J Y μ O (pc + 1) lv (gx_i (x / y) :: st) f k) : gx_J Y μ O pc lv (gx_i y :: gx_i x :: st) f k := gx_Jp (fun S h => gx_w1 (gx_wi S _) gx_t2 h) (fun hC hx hb hl w => lv_idiv hx hb hd hn w) K
theorem gx_iremr {x y : Int32} (hn : ¬ y = 0) (hd : decode μ.1 pc = .ok (.irem, 1)) (K : gx_J Y μ O (pc + 1) lv (gx_i (gx_irem x y) :: st) f k) : gx_J Y μ O pc lv (gx_i y :: gx_i x :: st) f k := gx_Jp (fun S h => gx_w1 (gx_wi S _) gx_t2 h) (fun hC hx hb hl w => lv_irem hx hb hd hn w) K
theorem gx_iushr {x y : Int32} (hd : decode μ.1 pc = .ok (.iushr, 1)) (K : gx_J Y μ O (pc + 1) lv (gx_i (gx_ushr x y) :: st) f k) : gx_J Y μ O pc lv (gx_i y :: gx_i x :: st) f k := gx_Jp (fun S h => gx_w1 (gx_wi S _) gx_t2 h) (fun hC hx hb hl w => lv_iushr hx hb hd rfl w) K
theorem gx_i2b {x : Int32} (hd : decode μ.1 pc = .ok (.i2b, 1)) (K : gx_J Y μ O (pc + 1) lv (gx_i x.toInt8.toInt32 :: st) f k) : gx_J Y μ O pc lv (gx_i x :: st) f k := gx_Jp (fun S h => gx_w1 (gx_wi S _) gx_t1 h) (fun hC hx hb hl w => lv_i2b hx hb hd rfl w) K
theorem gx_i2l {x : Int32} (hd : decode μ.1 pc = .ok (.i2l, 1)) (K : gx_J Y μ O (pc + 1) lv (gx_l x.toInt64 :: st) f k) : gx_J Y μ O pc lv (gx_i x :: st) f k := gx_Jp (fun S h => gx_w1 (gx_wl S _) gx_t1 h) (fun hC hx hb hl w => lv_i2l hx hb hd rfl w) K
theorem gx_lcmp {x y : Int64} (hd : decode μ.1 pc = .ok (.lcmp, 1)) (K : gx_J Y μ O (pc + 1) lv (gx_i (lg_cmp x y) :: st) f k) : gx_J Y μ O pc lv (gx_l y :: gx_l x :: st) f k := gx_Jp (fun S h => gx_w1 (gx_wi S _) gx_t2 h) (fun hC hx hb hl w => W.lcmp hx hb hd w) K
theorem gx_iconst {n : Int} {v : Int32} (hv : Int32.ofInt n = v) (hd : decode μ.1 pc = .ok (.iconst n, 1)) (K : gx_J Y μ O (pc + 1) lv (gx_i v :: st) f k) : gx_J Y μ O pc lv (st) f k := gx_Jp (fun S h => gx_w1 (gx_wi S _) gx_t0 h) (fun hC hx hb hl w => lv_iconst hx hb hd hv w) K
theorem gx_bipush {n : Int} {v : Int32} (hv : (Int8.ofInt n).toInt32 = v) (hd : decode μ.1 pc = .ok (.bipush n, 2)) (K : gx_J Y μ O (pc + 2) lv (gx_i v :: st) f k) : gx_J Y μ O pc lv (st) f k := gx_Jp (fun S h => gx_w1 (gx_wi S _) gx_t0 h) (fun hC hx hb hl w => lv_bipush hx hb hd hv w) K
theorem gx_sipush {n : Int} {v : Int32} (hv : (Int16.ofInt n).toInt32 = v) (hd : decode μ.1 pc = .ok (.sipush n, 3)) (K : gx_J Y μ O (pc + 3) lv (gx_i v :: st) f k) : gx_J Y μ O pc lv (st) f k := gx_Jp (fun S h => gx_w1 (gx_wi S _) gx_t0 h) (fun hC hx hb hl w => lv_sipush hx hb hd hv w) K
theorem gx_ldc {own : String} {ix : Nat} {v : Int32} (ho : μ.2.1 = own) (hq : Cond.constant own ix v ∈ lw_all) (hd : decode μ.1 pc = .ok (.ldc ix, 2)) (K : gx_J Y μ O (pc + 2) lv (gx_i v :: st) f k) : gx_J Y μ O pc lv (st) f k := gx_Jp (fun S h => gx_w1 (gx_wi S _) gx_t0 h) (fun hC hx hb hl w => lv_ldc hx hb (by rw [← ho]; exact hC.2.2.2.1) (hC.2.2.2.2.1 _ hq) hd w) K
theorem gx_aconst_null (hd : decode μ.1 pc = .ok (.aconst_null, 1)) (K : gx_J Y μ O (pc + 1) lv (gx_r 0 none :: st) f k) : gx_J Y μ O pc lv (st) f k := gx_Jp (fun S h => gx_w1 (x := gx_r 0 none) trivial gx_t0 h) (fun hC hx hb hl w => lv_null hx hb hd w) K
theorem gx_dup {v : gx_A} (hv : gx_long v = false) (hd : decode μ.1 pc = .ok (.dup, 1)) (K : gx_J Y μ O (pc + 1) lv (v :: v :: st) f k) : gx_J Y μ O pc lv (v :: st) f k := gx_Jp (fun S h => gx_w1 (h.2 _ List.mem_cons_self) gx_t0 h) (fun hC hx hb hl w => lv_dup hx hb hd (gx_cv_cat _ _ _ hv) w) K
theorem gx_dup2 {v u : gx_A} (hv : gx_long v = false) (hu : gx_long u = false) (hd : decode μ.1 pc = .ok (.dup2, 1)) (K : gx_J Y μ O (pc + 1) lv (v :: u :: v :: u :: st) f k) : gx_J Y μ O pc lv (v :: u :: st) f k := gx_Jp (fun S h => gx_w1 (lv := lv) (h.2 _ List.mem_cons_self) gx_t0 ⟨h.1, gx_w1 (h.2 _ (List.mem_cons_of_mem _ List.mem_cons_self)) gx_t0 h⟩) (fun hC hx hb hl w => lv_dup2_11 hx hb hd (gx_cv_cat _ _ _ hv) (gx_cv_cat _ _ _ hu) w) K
theorem gx_pop {v : gx_A} (hv : gx_long v = false) (hd : decode μ.1 pc = .ok (.pop, 1)) (K : gx_J Y μ O (pc + 1) lv (st) f k) : gx_J Y μ O pc lv (v :: st) f k := gx_Jp (fun S h v hv => h.2 v (List.mem_cons_of_mem _ hv)) (fun hC hx hb hl w => lv_pop hx hb hd (gx_cv_cat _ _ _ hv) w) K
theorem gx_goto {off : Int} {tgt : Nat} (ht : (pc : Int) + off = (tgt : Int)) (hd : decode μ.1 pc = .ok (.goto off, 3)) (K : gx_J Y μ O (tgt) lv (st) f k) : gx_J Y μ O pc lv (st) f k := gx_Jp (fun S h => h.2) (fun hC hx hb hl w => lv_goto hx hb hd ht w) K
theorem gx_iload_n {n : Fin 4} {i : Nat} {x : Int32} (hi : (n : Nat) = i) (j : Nat) (hj : lv[j]? = some (i, gx_i x)) (hd : decode μ.1 pc = .ok (.iload_n n, 1)) (K : gx_J Y μ O (pc + 1) lv (gx_i x :: st) f k) : gx_J Y μ O pc lv (st) f k := gx_Jp (fun S h => gx_w1 (gx_wi S _) gx_t0 h) (fun hC hx hb hl w => lv_iload_n hx hb hd hi (gx_lvat hl j hj) w) K
theorem gx_iload {i : Nat} {x : Int32} (j : Nat) (hj : lv[j]? = some (i, gx_i x)) (hd : decode μ.1 pc = .ok (.iload i, 2)) (K : gx_J Y μ O (pc + 2) lv (gx_i x :: st) f k) : gx_J Y μ O pc lv (st) f k := gx_Jp (fun S h => gx_w1 (gx_wi S _) gx_t0 h) (fun hC hx hb hl w => lv_iload hx hb hd (gx_lvat hl j hj) w) K
theorem gx_aload_n {n : Fin 4} {i t : Nat} {x : Option gx_Nm} (hi : (n : Nat) = i) (j : Nat) (hj : lv[j]? = some (i, gx_r t x)) (hd : decode μ.1 pc = .ok (.aload_n n, 1)) (K : gx_J Y μ O (pc + 1) lv (gx_r t x :: st) f k) : gx_J Y μ O pc lv st f k := by
  cases x with
  | none => exact gx_Jp (fun S h => gx_w1 (h.1 _ (List.mem_of_getElem? hj)) gx_t0 h) (fun hC hx hb hl w => lv_aload_nN hx hb hd hi (gx_lvat hl j hj) w) K
  | some x => exact gx_Jp (fun S h => gx_w1 (h.1 _ (List.mem_of_getElem? hj)) gx_t0 h) (fun hC hx hb hl w => lv_aload_n hx hb hd hi (gx_lvat hl j hj) w) K
theorem gx_aload {i t : Nat} {x : Option gx_Nm} (j : Nat) (hj : lv[j]? = some (i, gx_r t x)) (hd : decode μ.1 pc = .ok (.aload i, 2)) (K : gx_J Y μ O (pc + 2) lv (gx_r t x :: st) f k) : gx_J Y μ O pc lv st f k := by
  cases x with
  | none => exact gx_Jp (fun S h => gx_w1 (h.1 _ (List.mem_of_getElem? hj)) gx_t0 h) (fun hC hx hb hl w => lv_aloadN hx hb hd (gx_lvat hl j hj) w) K
  | some x => exact gx_Jp (fun S h => gx_w1 (h.1 _ (List.mem_of_getElem? hj)) gx_t0 h) (fun hC hx hb hl w => lv_aload hx hb hd (gx_lvat hl j hj) w) K
theorem gx_aload_nx {n : Fin 4} {i a : Nat} (hi : (n : Nat) = i) (j : Nat) (hj : lv[j]? = some (i, gx_x a)) (hd : decode μ.1 pc = .ok (.aload_n n, 1)) (K : gx_J Y μ O (pc + 1) lv (gx_x a :: st) f k) : gx_J Y μ O pc lv st f k := gx_Jp (fun S h => gx_w1 (h.1 _ (List.mem_of_getElem? hj)) gx_t0 h) (fun hC hx hb hl w => lv_aload_n hx hb hd hi (gx_lvat hl j hj) w) K
theorem gx_istore_n {n : Fin 4} {i : Nat} {x : Int32} {lv' : List (Nat × gx_A)} (hi : (n : Nat) = i) (hn : i < μ.2.2.2.2.1) (hl : (i, gx_i x) :: lv.filter (fun q => !(q.1 == i)) = lv') (hd : decode μ.1 pc = .ok (.istore_n n, 1)) (K : gx_J Y μ O (pc + 1) lv' st f k) : gx_J Y μ O pc lv (gx_i x :: st) f k := gx_Js (gx_okst hl) (fun hx hb h w => lv_istore_n hx hb hd hi h hn rfl (fun ls' h' => w ls' (gx_lvst hl h'))) K
theorem gx_istore {i : Nat} {x : Int32} {lv' : List (Nat × gx_A)} (hn : i < μ.2.2.2.2.1) (hl : (i, gx_i x) :: lv.filter (fun q => !(q.1 == i)) = lv') (hd : decode μ.1 pc = .ok (.istore i, 2)) (K : gx_J Y μ O (pc + 2) lv' st f k) : gx_J Y μ O pc lv (gx_i x :: st) f k := gx_Js (gx_okst hl) (fun hx hb h w => lv_istore hx hb hd h hn rfl (fun ls' h' => w ls' (gx_lvst hl h'))) K
theorem gx_astore_n {n : Fin 4} {i t : Nat} {x : Option gx_Nm} {lv' : List (Nat × gx_A)} (hi : (n : Nat) = i) (hn : i < μ.2.2.2.2.1) (hl : (i, gx_r t x) :: lv.filter (fun q => !(q.1 == i)) = lv') (hd : decode μ.1 pc = .ok (.astore_n n, 1)) (K : gx_J Y μ O (pc + 1) lv' st f k) : gx_J Y μ O pc lv (gx_r t x :: st) f k := by
  cases x with
  | none => exact gx_Js (gx_okst hl) (fun hx hb h w => lv_astore_nN hx hb hd hi h hn rfl (fun ls' h' => w ls' (gx_lvst hl h'))) K
  | some x => exact gx_Js (gx_okst hl) (fun hx hb h w => lv_astore_n hx hb hd hi h hn rfl (fun ls' h' => w ls' (gx_lvst hl h'))) K
theorem gx_astore {i t : Nat} {x : Option gx_Nm} {lv' : List (Nat × gx_A)} (hn : i < μ.2.2.2.2.1) (hl : (i, gx_r t x) :: lv.filter (fun q => !(q.1 == i)) = lv') (hd : decode μ.1 pc = .ok (.astore i, 2)) (K : gx_J Y μ O (pc + 2) lv' st f k) : gx_J Y μ O pc lv (gx_r t x :: st) f k := by
  cases x with
  | none => exact gx_Js (gx_okst hl) (fun hx hb h w => lv_astoreN hx hb hd h hn rfl (fun ls' h' => w ls' (gx_lvst hl h'))) K
  | some x => exact gx_Js (gx_okst hl) (fun hx hb h w => lv_astore hx hb hd h hn rfl (fun ls' h' => w ls' (gx_lvst hl h'))) K
theorem gx_astore_nx {n : Fin 4} {i a : Nat} {lv' : List (Nat × gx_A)} (hi : (n : Nat) = i) (hn : i < μ.2.2.2.2.1) (hl : (i, gx_x a) :: lv.filter (fun q => !(q.1 == i)) = lv') (hd : decode μ.1 pc = .ok (.astore_n n, 1)) (K : gx_J Y μ O (pc + 1) lv' st f k) : gx_J Y μ O pc lv (gx_x a :: st) f k := gx_Js (gx_okst hl) (fun hx hb h w => lv_astore_n hx hb hd hi h hn rfl (fun ls' h' => w ls' (gx_lvst hl h'))) K
theorem gx_astorex {i a : Nat} {lv' : List (Nat × gx_A)} (hn : i < μ.2.2.2.2.1) (hl : (i, gx_x a) :: lv.filter (fun q => !(q.1 == i)) = lv') (hd : decode μ.1 pc = .ok (.astore i, 2)) (K : gx_J Y μ O (pc + 2) lv' st f k) : gx_J Y μ O pc lv (gx_x a :: st) f k := gx_Js (gx_okst hl) (fun hx hb h w => lv_astore hx hb hd h hn rfl (fun ls' h' => w ls' (gx_lvst hl h'))) K
theorem gx_iinc {i j : Nat} {n : Int} {x v : Int32} {lv' : List (Nat × gx_A)} (hj : lv[j]? = some (i, gx_i x)) (hv : x + Int32.ofInt n = v) (hn : i < μ.2.2.2.2.1) (hl : (i, gx_i v) :: lv.filter (fun q => !(q.1 == i)) = lv') (hd : decode μ.1 pc = .ok (.iinc i n, 3)) (K : gx_J Y μ O (pc + 3) lv' st f k) : gx_J Y μ O pc lv st f k := gx_Js (fun S h => gx_okst hl S ⟨h.1, gx_w1 (gx_wi S _) gx_t0 h⟩) (fun hx hb h w => lv_iinc (k := j) hx hb hd h (by rw [List.getElem?_map, hj]; rfl) hv hn rfl (fun ls' h' => w ls' (gx_lvst hl h'))) K
theorem gx_icmp_eq {x y : Int32} {dP : Decidable (x = y)} {f1 f2 : gx_M α} {off : Int} {tgt : Nat} (ht : (pc : Int) + off = (tgt : Int)) (hd : decode μ.1 pc = .ok (.if_icmp .eq off, 3)) (K1 : x = y → gx_J Y μ O tgt lv st f1 k) (K2 : ¬ x = y → gx_J Y μ O (pc + 3) lv st f2 k) : gx_J Y μ O pc lv (gx_i y :: gx_i x :: st) (@ite _ (x = y) dP f1 f2) k := gx_Jb gx_t2 (fun hx hb k1 k2 => lv_icmp_eq hx hb hd ht k1 k2) K1 K2
theorem gx_if_eq {x y : Int32} {dP : Decidable (x = 0)} {f1 f2 : gx_M α} {off : Int} {tgt : Nat} (ht : (pc : Int) + off = (tgt : Int)) (hd : decode μ.1 pc = .ok (.ifCond .eq off, 3)) (K1 : x = 0 → gx_J Y μ O tgt lv st f1 k) (K2 : ¬ x = 0 → gx_J Y μ O (pc + 3) lv st f2 k) : gx_J Y μ O pc lv (gx_i x :: st) (@ite _ (x = 0) dP f1 f2) k := gx_Jb gx_t1 (fun hx hb k1 k2 => lv_if_eq hx hb hd ht k1 k2) K1 K2
theorem gx_icmp_ne {x y : Int32} {dP : Decidable (x = y)} {f1 f2 : gx_M α} {off : Int} {tgt : Nat} (ht : (pc : Int) + off = (tgt : Int)) (hd : decode μ.1 pc = .ok (.if_icmp .ne off, 3)) (K1 : x = y → gx_J Y μ O (pc + 3) lv st f1 k) (K2 : ¬ x = y → gx_J Y μ O tgt lv st f2 k) : gx_J Y μ O pc lv (gx_i y :: gx_i x :: st) (@ite _ (x = y) dP f1 f2) k := gx_Jb gx_t2 (fun hx hb k1 k2 => lv_icmp_ne hx hb hd ht k2 k1) K1 K2
theorem gx_if_ne {x y : Int32} {dP : Decidable (x = 0)} {f1 f2 : gx_M α} {off : Int} {tgt : Nat} (ht : (pc : Int) + off = (tgt : Int)) (hd : decode μ.1 pc = .ok (.ifCond .ne off, 3)) (K1 : x = 0 → gx_J Y μ O (pc + 3) lv st f1 k) (K2 : ¬ x = 0 → gx_J Y μ O tgt lv st f2 k) : gx_J Y μ O pc lv (gx_i x :: st) (@ite _ (x = 0) dP f1 f2) k := gx_Jb gx_t1 (fun hx hb k1 k2 => lv_if_ne hx hb hd ht k2 k1) K1 K2
theorem gx_icmp_lt {x y : Int32} {dP : Decidable (x < y)} {f1 f2 : gx_M α} {off : Int} {tgt : Nat} (ht : (pc : Int) + off = (tgt : Int)) (hd : decode μ.1 pc = .ok (.if_icmp .lt off, 3)) (K1 : x < y → gx_J Y μ O tgt lv st f1 k) (K2 : ¬ x < y → gx_J Y μ O (pc + 3) lv st f2 k) : gx_J Y μ O pc lv (gx_i y :: gx_i x :: st) (@ite _ (x < y) dP f1 f2) k := gx_Jb gx_t2 (fun hx hb k1 k2 => lv_icmp_lt hx hb hd ht k1 k2) K1 K2
theorem gx_if_lt {x y : Int32} {dP : Decidable (x < 0)} {f1 f2 : gx_M α} {off : Int} {tgt : Nat} (ht : (pc : Int) + off = (tgt : Int)) (hd : decode μ.1 pc = .ok (.ifCond .lt off, 3)) (K1 : x < 0 → gx_J Y μ O tgt lv st f1 k) (K2 : ¬ x < 0 → gx_J Y μ O (pc + 3) lv st f2 k) : gx_J Y μ O pc lv (gx_i x :: st) (@ite _ (x < 0) dP f1 f2) k := gx_Jb gx_t1 (fun hx hb k1 k2 => lv_if_lt hx hb hd ht k1 k2) K1 K2
theorem gx_icmp_ge {x y : Int32} {dP : Decidable (y ≤ x)} {f1 f2 : gx_M α} {off : Int} {tgt : Nat} (ht : (pc : Int) + off = (tgt : Int)) (hd : decode μ.1 pc = .ok (.if_icmp .ge off, 3)) (K1 : y ≤ x → gx_J Y μ O tgt lv st f1 k) (K2 : ¬ y ≤ x → gx_J Y μ O (pc + 3) lv st f2 k) : gx_J Y μ O pc lv (gx_i y :: gx_i x :: st) (@ite _ (y ≤ x) dP f1 f2) k := gx_Jb gx_t2 (fun hx hb k1 k2 => lv_icmp_ge hx hb hd ht k1 k2) K1 K2
theorem gx_if_ge {x y : Int32} {dP : Decidable (0 ≤ x)} {f1 f2 : gx_M α} {off : Int} {tgt : Nat} (ht : (pc : Int) + off = (tgt : Int)) (hd : decode μ.1 pc = .ok (.ifCond .ge off, 3)) (K1 : 0 ≤ x → gx_J Y μ O tgt lv st f1 k) (K2 : ¬ 0 ≤ x → gx_J Y μ O (pc + 3) lv st f2 k) : gx_J Y μ O pc lv (gx_i x :: st) (@ite _ (0 ≤ x) dP f1 f2) k := gx_Jb gx_t1 (fun hx hb k1 k2 => lv_if_ge hx hb hd ht k1 k2) K1 K2
theorem gx_icmp_gt {x y : Int32} {dP : Decidable (y < x)} {f1 f2 : gx_M α} {off : Int} {tgt : Nat} (ht : (pc : Int) + off = (tgt : Int)) (hd : decode μ.1 pc = .ok (.if_icmp .gt off, 3)) (K1 : y < x → gx_J Y μ O tgt lv st f1 k) (K2 : ¬ y < x → gx_J Y μ O (pc + 3) lv st f2 k) : gx_J Y μ O pc lv (gx_i y :: gx_i x :: st) (@ite _ (y < x) dP f1 f2) k := gx_Jb gx_t2 (fun hx hb k1 k2 => lv_icmp_gt hx hb hd ht k1 k2) K1 K2
theorem gx_if_gt {x y : Int32} {dP : Decidable (0 < x)} {f1 f2 : gx_M α} {off : Int} {tgt : Nat} (ht : (pc : Int) + off = (tgt : Int)) (hd : decode μ.1 pc = .ok (.ifCond .gt off, 3)) (K1 : 0 < x → gx_J Y μ O tgt lv st f1 k) (K2 : ¬ 0 < x → gx_J Y μ O (pc + 3) lv st f2 k) : gx_J Y μ O pc lv (gx_i x :: st) (@ite _ (0 < x) dP f1 f2) k := gx_Jb gx_t1 (fun hx hb k1 k2 => lv_if_gt hx hb hd ht k1 k2) K1 K2
theorem gx_icmp_le {x y : Int32} {dP : Decidable (x ≤ y)} {f1 f2 : gx_M α} {off : Int} {tgt : Nat} (ht : (pc : Int) + off = (tgt : Int)) (hd : decode μ.1 pc = .ok (.if_icmp .le off, 3)) (K1 : x ≤ y → gx_J Y μ O tgt lv st f1 k) (K2 : ¬ x ≤ y → gx_J Y μ O (pc + 3) lv st f2 k) : gx_J Y μ O pc lv (gx_i y :: gx_i x :: st) (@ite _ (x ≤ y) dP f1 f2) k := gx_Jb gx_t2 (fun hx hb k1 k2 => lv_icmp_le hx hb hd ht k1 k2) K1 K2
theorem gx_if_le {x y : Int32} {dP : Decidable (x ≤ 0)} {f1 f2 : gx_M α} {off : Int} {tgt : Nat} (ht : (pc : Int) + off = (tgt : Int)) (hd : decode μ.1 pc = .ok (.ifCond .le off, 3)) (K1 : x ≤ 0 → gx_J Y μ O tgt lv st f1 k) (K2 : ¬ x ≤ 0 → gx_J Y μ O (pc + 3) lv st f2 k) : gx_J Y μ O pc lv (gx_i x :: st) (@ite _ (x ≤ 0) dP f1 f2) k := gx_Jb gx_t1 (fun hx hb k1 k2 => lv_if_le hx hb hd ht k1 k2) K1 K2
theorem gx_ifnull {t : Nat} {x : Option gx_Nm} {dP : Decidable (x = none)} {f1 f2 : gx_M α} {off : Int} {tgt : Nat} (ht : (pc : Int) + off = (tgt : Int)) (hd : decode μ.1 pc = .ok (.ifnull off, 3)) (K1 : x = none → gx_J Y μ O tgt lv st f1 k) (K2 : ¬ x = none → gx_J Y μ O (pc + 3) lv st f2 k) : gx_J Y μ O pc lv (gx_r t x :: st) (@ite _ (x = none) dP f1 f2) k := by
  cases x with
  | none => exact gx_Jb gx_t1 (fun hx hb k1 k2 => lv_ifnullN hx hb hd ht (k1 rfl)) K1 K2
  | some x => exact gx_Jb gx_t1 (fun hx hb k1 k2 => lv_ifnull hx hb hd (k2 (fun h => by cases h))) K1 K2
theorem gx_ifnonnull {t : Nat} {x : Option gx_Nm} {dP : Decidable (x = none)} {f1 f2 : gx_M α} {off : Int} {tgt : Nat} (ht : (pc : Int) + off = (tgt : Int)) (hd : decode μ.1 pc = .ok (.ifnonnull off, 3)) (K1 : x = none → gx_J Y μ O (pc + 3) lv st f1 k) (K2 : ¬ x = none → gx_J Y μ O tgt lv st f2 k) : gx_J Y μ O pc lv (gx_r t x :: st) (@ite _ (x = none) dP f1 f2) k := by
  cases x with
  | none => exact gx_Jb gx_t1 (fun hx hb k1 k2 => lv_ifnonnullN hx hb hd (k1 rfl)) K1 K2
  | some x => exact gx_Jb gx_t1 (fun hx hb k1 k2 => lv_ifnonnull hx hb hd ht (k2 (fun h => by cases h))) K1 K2
/-- the abstract program's own steps -/
theorem gx_Jas {β : Type} {g : β → gx_M α} {f0 : gx_M β} (K : gx_J Y μ O pc lv st f0 (fun b => gx_bd (g b) k)) : gx_J Y μ O pc lv st (gx_bd f0 g) k := fun S S' r hf => K S S' r (by rw [← gx_bd_as]; exact hf)
theorem gx_Jite {P : Prop} {dP : Decidable P} {f1 f2 : gx_M α} (K1 : P → gx_J Y μ O pc lv st f1 k) (K2 : ¬ P → gx_J Y μ O pc lv st f2 k) : gx_J Y μ O pc lv st (@ite _ P dP f1 f2) k := by
  by_cases hP : P
  · rw [if_pos hP]; exact K1 hP
  · rw [if_neg hP]; exact K2 hP
/-- a reference that must not be null: st0 is the stack with it named -/
theorem gx_Jnn {x : Option gx_Nm} {st0 : gx_Nm → List gx_A} {g : gx_Nm → gx_M α} (hs : ∀ a, x = some a → st = st0 a) (K : ∀ a, gx_J Y μ O pc lv (st0 a) (g a) k) : gx_J Y μ O pc lv st (gx_bd (gx_nn x) g) k := by
  cases x with
  | none => intro S S' r hf; cases hf
  | some a =>
    rw [hs a rfl]
    exact K a
theorem gx_Jpeek {β : Type} {op : gx_M β} {g : β → gx_M α} (hop : ∀ S q, op S = some q → q.2 = S) (K : ∀ x, gx_J Y μ O pc lv st (g x) k) : gx_J Y μ O pc lv st (gx_bd op g) k := by
  intro S S' r hf
  rw [gx_bd_as] at hf
  obtain ⟨x, S1, h1, h2⟩ := gx_bd_some hf
  have he : S1 = S := hop S _ h1
  rw [he] at h2
  exact K x S S' r h2
/-- the end of a piece: what comes then is known -/
theorem gx_Jrt {x : α} {β : Type} {f' : gx_M β} {k' : β → gx_M ρ} (h : k x = gx_bd f' k') (K : gx_J Y μ O pc lv st f' k') : gx_J Y μ O pc lv st (gx_rt x) k := fun S S' r hf => K S S' r (by rw [← h]; exact hf)
theorem gx_Jw {lv0 : List (Nat × gx_A)} (js : List Nat) (hl : js.filterMap (fun j => lv0[j]?) = lv) (K : gx_J Y μ O pc lv st f k) : gx_J Y μ O pc lv0 st f k := by
  have hsub : ∀ q ∈ lv, q ∈ lv0 := fun q hq => by
    rw [← hl] at hq
    obtain ⟨j, -, hj⟩ := List.mem_filterMap.mp hq
    exact List.mem_of_getElem? hj
  intro S S' r hf hwf hok
  have hok2 : gx_ok S lv st := ⟨fun q hq => hok.1 q (hsub q hq), hok.2⟩
  obtain ⟨hle, hV⟩ := K S S' r hf hwf hok2
  refine ⟨hle, fun p e R s m args below meth c c0 k0 hC H locs ls cells slots hR _ hl0 hL h1 h2 h3 h4 => hV p e R s m args below meth c c0 k0 hC H locs ls cells slots hR hok2 ⟨hl0.1, hl0.2.1, fun q hq => ?_⟩ hL h1 h2 h3 h4⟩
  obtain ⟨w, hw, rfl⟩ := List.mem_map.mp hq
  exact hl0.2.2 _ (List.mem_map.mpr ⟨w, hsub w hw, rfl⟩)
/-- a loop: lvh its locals at the head; H1: it goes round; H2: it is left -/
theorem gx_Jlp {σ β : Type} {b : σ → gx_M (σ ⊕ β)} {lvh : σ → List (Nat × gx_A)} {k : β → gx_M ρ}
    (B : ∀ (x : σ) (kk : σ ⊕ β → gx_M ρ), (∀ y, gx_J Y μ O pc (lvh y) st (gx_rt (.inl y)) kk) → (∀ r, kk (.inr r) = k r) → gx_J Y μ O pc (lvh x) st (b x) kk) (x : σ) : gx_J Y μ O pc (lvh x) st (gx_lp b x) k := by
  have main : ∀ (n : Nat) (x : σ), gx_J Y μ O pc (lvh x) st (gx_it b n x) k := by
    intro n
    induction n with
    | zero => intro x S S' r hf; cases hf
    | succ n ih =>
      intro x S S' r hf
      have e : gx_bd (gx_it b (n + 1) x) k = gx_bd (b x) (fun o => match o with
        | .inl y => gx_bd (gx_it b n y) k
        | .inr r => k r) := by
        show gx_bd (gx_bd (b x) _) k = _
        rw [gx_bd_as]
        congr 1
        funext o
        cases o with
        | inl y => rfl
        | inr r => rfl
      rw [e] at hf
      refine B x (fun o => match o with
        | .inl y => gx_bd (gx_it b n y) k
        | .inr r => k r) (fun y => ?_) (fun r => rfl) S S' r hf
      exact fun S S' r hf => ih y S S' r hf
  intro S S' r hf
  obtain ⟨q, S1, h1, h2⟩ := gx_bd_some hf
  obtain ⟨n, hn⟩ := gx_lp_it h1
  exact main n x S S' r (by rw [gx_bd_of hn]; exact h2)
end
