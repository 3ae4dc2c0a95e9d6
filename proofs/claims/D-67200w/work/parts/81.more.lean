/-! ===== WALK 6: new arrays, arraycopy, Object.<init>, Math, switches, returns ===== -/
section
variable {Y : gx_Y} {μ : gx_U} {ρ α : Type} {O : gx_Ob ρ} {pc : Nat} {lv : List (Nat × gx_A)} {st : List gx_A} {k : α → gx_M ρ}
theorem gx_cb {t : FieldType} : componentBytes t ≤ 8 := by
  cases t <;> first | decide | exact (by decide : (4 : Nat) ≤ 8)
theorem gx_av0 : ∀ t, t < 10 → (if t ≤ 2 then Value.int 0 else if t = 3 then .long 0 else .null) = defaultValue (gx_ety t) := by
  intro t h
  match t, h with
  | 0, _ => rfl
  | 1, _ => rfl
  | 2, _ => rfl
  | 3, _ => rfl
  | 4, _ => rfl
  | 5, _ => rfl
  | 6, _ => rfl
  | 7, _ => rfl
  | 8, _ => rfl
  | 9, _ => rfl
  | n + 10, h => exact absurd h (by omega)
/-- a new array by what the machine does -/
theorem gx_Jna0 {a : gx_Nm} {n : Int32} {t c0 pc' : Nat} {g : Unit → gx_M α} (ht : t < 10) (hc0 : c0 = 100 + t)
    (hw : ∀ (p : Program) (e : Env) (R : Room) (s : State) (m : MethodId) (args : Array Value) (below : List Frame) (meth : Method) (c : Code) (H : Heap) (locs : List Loc) (cells slots : Nat) (Q : State → Prop) (ls : Array Slot) (rest : List Value), gx_C Y μ p R s m args meth c → ¬ n < 0 → n.toNatClampNeg ≤ 1000000 → cells + 1 ≤ R.cells → slots + n.toNatClampNeg ≤ R.slots →
      (∀ (H' : Heap), H'[H.size]? = some (arrV (Y.2.2.2.1 t) n.toNatClampNeg (fun _ => defaultValue (gx_ety t))) → H'.size = H.size + 1 → (∀ q, q < H.size → H'[q]? = H[q]?) → W p Y.1 e R s m args below meth c H' locs (cells + 1) (slots + n.toNatClampNeg) Q (F0 m pc' ls (.ref H.size :: rest))) → W p Y.1 e R s m args below meth c H locs cells slots Q (F0 m pc ls (.int n :: rest)))
    (K : gx_J Y μ O pc' lv (gx_r c0 (some a) :: st) (g ()) k) : gx_J Y μ O pc lv (gx_i n :: st) (gx_bd (gx_na c0 n a) g) k := by
  subst hc0
  refine gx_Jmake (n := n.toNatClampNeg) gx_t1 ?_ K
  intro S S1 h hwf hok
  unfold gx_na at h
  split at h
  case isFalse => cases h
  case isTrue hh =>
    obtain ⟨hn, hle, hfr⟩ := hh
    cases h
    have hHa : hp_H (hp_mk S (100 + t) n.toNatClampNeg a) a = 100 + t := gx_u1_s _ _ _
    refine ⟨⟨gx_Le.mk hfr, hwf.new hfr (fun cj hcj => by omega), rfl, rfl, gx_wt.of hHa (by omega), gx_u1_s _ _ _⟩, ?_⟩
    intro p e R s m args below meth c H locs cells slots Q ls hC hR hcells hslots w
    refine hw p e R s m args below meth c H locs cells slots Q ls _ hC hn hle hcells hslots (fun H' e1 z1 o1 => ?_)
    have hsz : H.size = Y.2.1 + hp_C S := hR.1.1
    rw [hsz] at e1 ⊢
    refine w H' (hR.new hwf hfr (by rw [z1]) o1 (fun cj hcj hor => absurd hor (by omega)) (fun u hu hu2 => ?_))
    have : u = t := by omega
    subst this
    rw [e1]
    congr 2
    funext j
    exact (gx_av0 u hu).symm
theorem gx_Jna {a : gx_Nm} {n : Int32} {t c0 : Nat} {atype : ArrayType} {g : Unit → gx_M α} (ht : t < 4) (hc0 : c0 = 100 + t) (hty : newarray.typeOf atype = gx_ety t) (hq : Cond.arrayClass (gx_ety t) ∈ lw_all) (hd : decode μ.1 pc = .ok (.newarray atype, 2))
    (K : gx_J Y μ O (pc + 2) lv (gx_r c0 (some a) :: st) (g ()) k) : gx_J Y μ O pc lv (gx_i n :: st) (gx_bd (gx_na c0 n a) g) k := by
  refine gx_Jna0 (t := t) (by omega) hc0 ?_ K
  intro p e R s m args below meth c H locs cells slots Q ls rest hC hn hle hcells hslots w
  refine va_newaK hC.1 hC.2.1 (by rw [hty]; exact hC.2.2.2.2.1 _ hq) rfl hd rfl hn rfl ?_ hcells hslots rfl (fun H' cA e1 z1 o1 hAr hNm => ?_)
  · have := gx_cb (t := newarray.typeOf atype)
    have := Nat.mul_le_mul hle this
    omega
  · have hRA := (hC.2.2.2.2.2.1.1.2 t _ (gx_TY_at _ t (by omega))).2
    have hcA : cA = Y.2.2.2.1 t := by
      rw [hty] at hNm
      have h2 : s.vm.findClass ("[" ++ (gx_ety t).toString) = some (Y.2.2.2.1 t) := by
        match t, ht with
        | 0, _ => exact hRA
        | 1, _ => exact hRA
        | 2, _ => exact hRA
        | 3, _ => exact hRA
      exact Option.some.inj (hNm.symm.trans h2)
    subst hcA
    rw [hty] at e1
    exact w H' e1 z1 o1
/-- arrays of objects of the kind ci -/
theorem gx_Jnr {a : gx_Nm} {n : Int32} {t c0 ci ix : Nat} {own : String} {g : Unit → gx_M α} (ht : t < 10) (hc0 : c0 = 100 + t) (hty : gx_ety t = .object (gx_R ci)) (ho : μ.2.1 = own) (hcl : Cond.classLink own ix (gx_R ci) ∈ lw_all) (hov : Cond.arrayOver (.object (gx_R ci)) ∈ lw_tbl) (hd : decode μ.1 pc = .ok (.anewarray ix, 3))
    (K : gx_J Y μ O (pc + 3) lv (gx_r c0 (some a) :: st) (g ()) k) : gx_J Y μ O pc lv (gx_i n :: st) (gx_bd (gx_na c0 n a) g) k := by
  subst ho
  refine gx_Jna0 (t := t) ht hc0 ?_ K
  intro p e R s m args below meth c H locs cells slots Q ls rest hC hn hle hcells hslots w
  refine W.anew hC.1 hC.2.1 hC.2.2.2.1 (hC.2.2.2.2.1 _ hcl) (va_AO.use (hC.2.2.2.2.2.1.2.2.1 _ hov)) rfl hd rfl hn (by omega) hcells hslots (fun cA kA comp h1 h2 h3 h4 => ?_)
  have hRA := (hC.2.2.2.2.2.1.1.2 t _ (gx_TY_at _ t ht)).2
  rw [hty] at hRA
  obtain ⟨kA', comp', k1, k2, k3, k4⟩ := hRA
  have hcA : cA = Y.2.2.2.1 t := Option.some.inj (h1.symm.trans k4)
  subst hcA
  refine w _ ?_ (by simp) (fun q hq => by rw [Array.getElem?_push, if_neg (Nat.ne_of_lt hq)])
  have e1 : (fun _ : Nat => defaultValue (gx_ety t)) = fun _ => Value.null := by rw [hty]; rfl
  rw [e1, ← arrV_new]
  simp
/-- System.arraycopy, both from the first place on -/
theorem gx_Jac {a b : gx_Nm} {n : Int32} {t ix : Nat} {own : String} {g : Unit → gx_M α} (ht : t < 2) (ho : μ.2.1 = own) (hlink : Cond.methodLink own ix arraycopyName ∈ lw_all) (hnat : Cond.native arraycopyName ∈ lw_all) (hstat : Cond.static arraycopyName ∈ lw_all) (hini : Cond.initialized "java/lang/System" ∈ lw_all) (hfr : 1 ≤ μ.2.2.2.2.2.1) (hlo : (st.map gx_wd).sum + (nativeFrameWords "java/lang/System" "arraycopy" 5 + 11) ≤ μ.2.2.2.2.2.2.1) (hd : decode μ.1 pc = .ok (.invokestatic ix, 3))
    (K : gx_J Y μ O (pc + 3) lv st (g ()) k) : gx_J Y μ O pc lv (gx_i n :: gx_i 0 :: gx_r (100 + t) (some b) :: gx_i 0 :: gx_r (100 + t) (some a) :: st) (gx_bd (gx_ac a b n) g) k := by
  subst ho
  refine gx_Jupd (fun v h => List.mem_cons_of_mem _ (List.mem_cons_of_mem _ (List.mem_cons_of_mem _ (gx_t2 v h)))) ?_ K
  intro S S1 h hwf hok
  unfold gx_ac at h
  split at h
  case isFalse => cases h
  case isTrue hh =>
    obtain ⟨hab, hn, hla, hlb⟩ := hh
    cases h
    have hsb := gx_wt.arr (hok.2 (gx_r (100 + t) (some b)) (by simp))
    have hsa := gx_wt.arr (hok.2 (gx_r (100 + t) (some a)) (by simp))
    have hI : ∀ x j, x ≠ b → hp_I (hp_cp S a b n.toNatClampNeg) x j = hp_I S x j := fun x j h => congrFun (gx_u1_n _ _ _ h) j
    have hIb : ∀ j, hp_I (hp_cp S a b n.toNatClampNeg) b j = if j < n.toNatClampNeg then hp_I S a j else hp_I S b j := fun j => congrFun (gx_u1_s _ _ _) j
    have hfit : ∀ x, hp_H S x = 100 + t → ∀ j, fits (gx_ety t) (.int (hp_I S x j)) = true := by
      intro x hx j
      match t, ht with
      | 0, _ => rfl
      | 1, _ => exact hwf.2.2.2.2.2.2 x j hx
    refine ⟨⟨gx_Le.cp _ _ _ _, hwf.arr (S2 := hp_cp S a b n.toNatClampNeg) hsb rfl rfl rfl rfl hI (fun _ _ _ => rfl) (fun _ _ h => absurd h (by omega)) (fun h1 j => ?_), rfl, rfl⟩, ?_⟩
    · rw [hIb]
      subst h1
      split
      · exact hwf.2.2.2.2.2.2 a j hsa
      · exact hwf.2.2.2.2.2.2 b j hsb
    intro p e R s m args below meth c H locs cells slots Q ls hC hR hls w2
    obtain ⟨hx, hb, hml, hown, hts, hK, -, -, -, hRf, hRl, -⟩ := hC
    have hcA : ∀ x, gx_cell Y.2.1 Y.2.2.2.1 S x t = arrV (Y.2.2.2.1 t) (hp_N S x) (fun j => .int (hp_I S x j)) := fun x => by
      unfold gx_cell
      congr 1
      funext j
      exact gx_av_i (by omega) j
    have hc0 := hR.2.2 a t (by omega) hsa
    have hc1 := hR.2.2 b t (by omega) hsb
    rw [hcA] at hc0 hc1
    obtain ⟨-, k0, hk0, cm0, hkk0⟩ := gx_Karr hK (t := t) (by omega) (hp_N S a) (fun j => .int (hp_I S a j))
    obtain ⟨-, k1, hk1, cm1, hkk1⟩ := gx_Karr hK (t := t) (by omega) (hp_N S b) (fun j => .int (hp_I S b j))
    have hprim : refKind (gx_ety t) = false := by
      match t, ht with
      | 0, _ => rfl
      | 1, _ => rfl
    have hnn : n.toInt = (n.toNatClampNeg : Int) := by
      have hz0 : (0 : Int) ≤ n.toInt := by
        have := Int32.not_lt.mp hn
        simpa using Int32.le_iff_toInt_le.mp this
      show n.toInt = ((n.toInt.toNat : Nat) : Int)
      omega
    have h00 : ¬ (0 : Int32) < 0 := by decide
    have h0t : (0 : Int32).toInt = 0 := rfl
    have h0c : (0 : Int32).toNatClampNeg = 0 := rfl
    have hsum : ∀ l : List gx_A, ((l.map (gx_cv Y.2.1 (hp_A S))).map fun v => v.category).sum ≤ (l.map gx_wd).sum := by
      intro l
      induction l with
      | nil => exact Nat.le_refl _
      | cons x l ih =>
        have : (gx_cv Y.2.1 (hp_A S) x).category ≤ gx_wd x := by
          cases hx : gx_long x with
          | false => rw [gx_cv_cat _ _ _ hx]; unfold gx_wd; rw [hx]; decide
          | true =>
            rcases x with x | q | x | x
            · cases hx
            · cases hx
            · exact Nat.le_refl _
            · cases hx
        simp only [List.map_cons, List.sum_cons]
        omega
    have hlo2 : 2 * 0 + ((st.map (gx_cv Y.2.1 (hp_A S))).map fun v => v.category).sum + (nativeFrameWords "java/lang/System" "arraycopy" 5 + 11) ≤ R.locals := by
      have := hsum st
      rw [hRl]
      omega
    intro T hT X
    obtain ⟨vm', X', step⟩ := X.arraycopy hx hown (hts _ hlink) (hts _ hnat) (hts _ hstat) (hts _ hini) (src := Y.2.1 + hp_A S a) (dst := Y.2.1 + hp_A S b) (cs := arrV (Y.2.2.2.1 t) (hp_N S a) (fun j => .int (hp_I S a j))) (cd := arrV (Y.2.2.2.1 t) (hp_N S b) (fun j => .int (hp_I S b j))) (srcPos := 0) (destPos := 0) (n := n) (by rw [hT]; exact hc0) (by rw [hT]; exact hc1)
      (fun _ h => by cases h) (fun _ h => by cases h) (fun h => by cases h) (fun h => by cases h) hk0 hk1 hkk0 hkk1 (by simp [hprim]) h00 h00 hn
      (by rw [h0t, hnn, arrV_size]; omega) (by rw [h0t, hnn, arrV_size]; omega)
      (fun vm₁ _ i hi => by
        have e : (arrV (Y.2.2.2.1 t) (hp_N S a) (fun j => .int (hp_I S a j))).slots.getD ((0 : Int32).toNatClampNeg + i) .null = .int (hp_I S a i) := by
          rw [h0c, Nat.zero_add, Array.getD_eq_getD_getElem?, arrV_read _ _ (by omega)]
          rfl
        refine ⟨?_, ?_⟩
        · rw [e]
          exact hfit a hsa i
        · rw [e]
          exact trivial)
      (g := F0 m pc ls (.int n :: .int 0 :: .ref (Y.2.1 + hp_A S b) :: .int 0 :: .ref (Y.2.1 + hp_A S a) :: st.map (gx_cv Y.2.1 (hp_A S)))) rfl (by rw [hml]; exact hls) (rest := st.map (gx_cv Y.2.1 (hp_A S))) rfl (by rw [hb]; exact hd) (by rw [hRf]; exact hfr) hlo2
    have e1 : copied (arrV (Y.2.2.2.1 t) (hp_N S a) (fun j => .int (hp_I S a j))) (arrV (Y.2.2.2.1 t) (hp_N S b) (fun j => .int (hp_I S b j))) 0 0 n = gx_cell Y.2.1 Y.2.2.2.1 (hp_cp S a b n.toNatClampNeg) b t := by
      have e2 := va_copied (fun z : Int32 => Value.int z) (Y.2.2.2.1 t) (Y.2.2.2.1 t) (n0 := hp_N S a) (n1 := hp_N S b) (sp := 0) (dp := 0) (n := n.toNatClampNeg) (hp_I S a) (hp_I S b) (by omega)
      refine Eq.trans e2 ?_
      unfold gx_cell
      show arrV _ (hp_N S b) _ = arrV _ (hp_N S b) _
      congr 1
      funext j
      rw [gx_av_i (by omega), hIb]
      unfold va_cpy
      by_cases hj : j < n.toNatClampNeg
      · rw [if_pos (by omega), if_pos hj]
        congr 2
        omega
      · rw [if_neg (by omega), if_neg hj]
    rw [e1] at X' step
    have hl : Y.2.1 + hp_A S b < H.size := (Array.getElem?_eq_some_iff.mp hc1).1
    have oq : ∀ q : Nat, q ≠ Y.2.1 + hp_A S b → (H.setIfInBounds (Y.2.1 + hp_A S b) (gx_cell Y.2.1 Y.2.2.2.1 (hp_cp S a b n.toNatClampNeg) b t))[q]? = H[q]? := fun q hq => by simp [Array.getElem?_setIfInBounds, Ne.symm hq]
    obtain ⟨t9, a1, b1⟩ := w2 (H.setIfInBounds (Y.2.1 + hp_A S b) (gx_cell Y.2.1 Y.2.2.2.1 (hp_cp S a b n.toNatClampNeg) b t)) _ (hR.arr hwf (by omega) hsb (S2 := hp_cp S a b n.toNatClampNeg) (by simp [Array.getElem?_setIfInBounds, hl]) (by simp) oq rfl rfl rfl rfl hI (fun _ _ _ => rfl) (fun _ _ _ => rfl)) (fun q hq => by
        obtain ⟨z, -, hz⟩ := List.mem_map.mp hq
        rw [← hz]
        exact Nat.le_add_right _ _) _ (by rw [← hT]; rfl) X'
    exact ⟨t9, step t9 a1, b1⟩
end
