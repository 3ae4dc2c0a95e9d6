/-! ===== WALK 5: arrays, new cells, returns ===== -/
section
variable {Y : gx_Y} {μ : gx_U} {ρ α : Type} {O : gx_Ob ρ} {pc : Nat} {lv : List (Nat × gx_A)} {st : List gx_A} {k : α → gx_M ρ}
theorem gx_Karr {s : State} (hK : gx_K Y s) {t : Nat} (ht : t < 10) : ArrOfT s (Y.2.2.2.1 t) (gx_ety t) := (hK.1.2 t _ (gx_TY_at _ t ht)).1
theorem gx_av_i {z : Nat} {S : gx_St} {a : gx_Nm} {t : Nat} (ht : t < 3) (j : Nat) : gx_av z S a t j = .int (hp_I S a j) := by
  unfold gx_av
  rw [if_pos (by omega)]
theorem gx_av_l {z : Nat} {S : gx_St} {a : gx_Nm} (j : Nat) : gx_av z S a 3 j = .long (hp_L S a j) := by
  unfold gx_av
  rw [if_neg (by decide), if_pos rfl]
theorem gx_av_r {z : Nat} {S : gx_St} {a : gx_Nm} {t : Nat} (ht : 4 ≤ t) (j : Nat) : gx_av z S a t j = gx_rv z (hp_A S) (hp_R S a j) := by
  unfold gx_av
  rw [if_neg (by omega), if_neg (by omega)]
theorem gx_in_cell {z : Nat} {dA : Nat → ClassId} {S : gx_St} {a : gx_Nm} {t : Nat} {i : Int32} (h : gx_in i (hp_N S a) = true) : ¬ (i < 0 ∨ (gx_cell z dA S a t).slots.size ≤ i.toNatClampNeg) := by
  unfold gx_cell
  rw [arrV_size]
  exact gx_in_vp h
theorem gx_in_lt {n : Nat} {i : Int32} (h : gx_in i n = true) : i.toNatClampNeg < n := Nat.not_le.mp fun q => gx_in_vp h (Or.inr q)
theorem gx_at_cell {z : Nat} {dA : Nat → ClassId} {S : gx_St} {a : gx_Nm} {t : Nat} {i : Int32} (h : gx_in i (hp_N S a) = true) : (gx_cell z dA S a t).slots[i.toNatClampNeg]? = some (gx_av z S a t i.toNatClampNeg) := arrV_read _ _ (gx_in_lt h)
theorem gx_Jia0 {a : gx_Nm} {i : Int32} {t pc' : Nat} {g : Int32 → gx_M α} (ht : t < 3)
    (hw : ∀ (p : Program) (e : Env) (R : Room) (s : State) (m : MethodId) (args : Array Value) (below : List Frame) (meth : Method) (c : Code) (H : Heap) (locs : List Loc) (cells slots : Nat) (Q : State → Prop) (ls : Array Slot) (ad : Nat) (cell : Cell) (v : Value) (rest : List Value), gx_C Y μ p R s m args meth c → H[ad]? = some cell → s.isArrayOf cell (gx_ety t) → cell.vm ≠ .unknown → ¬ (i < 0 ∨ cell.slots.size ≤ i.toNatClampNeg) → cell.slots[i.toNatClampNeg]? = some v →
      W p Y.1 e R s m args below meth c H locs cells slots Q (F0 m pc' ls (v :: rest)) → W p Y.1 e R s m args below meth c H locs cells slots Q (F0 m pc ls (.int i :: .ref ad :: rest)))
    (K : ∀ x, gx_J Y μ O pc' lv (gx_i x :: st) (g x) k) : gx_J Y μ O pc lv (gx_i i :: gx_r (100 + t) (some a) :: st) (gx_bd (gx_ia a i) g) k := by
  refine gx_Jval gx_i (fun _ => True) gx_t2 ?_ (fun x _ => K x)
  intro S S1 x h hwf hok
  unfold gx_ia at h
  split at h
  case isFalse => cases h
  case isTrue hin =>
    cases h
    have hsh := gx_wt.arr (hok.2 _ (List.mem_cons_of_mem _ List.mem_cons_self))
    refine ⟨rfl, trivial, trivial, ?_⟩
    intro p e R s m args below meth c H locs cells slots Q ls hC hR w
    refine hw p e R s m args below meth c H locs cells slots Q ls _ _ _ _ hC (hR.2.2 a t (by omega) hsh) (gx_Karr hC.2.2.2.2.2.1 (by omega) _ _) (fun h => by cases h) (gx_in_cell hin) (gx_at_cell hin) ?_
    have e1 : gx_av Y.2.1 S a t i.toNatClampNeg = .int (hp_I S a i.toNatClampNeg) := by unfold gx_av; rw [if_pos (by omega)]
    rw [e1]
    exact w
theorem gx_Jia {a : gx_Nm} {i : Int32} {g : Int32 → gx_M α} (hd : decode μ.1 pc = .ok (.iaload, 1)) (K : ∀ x, gx_J Y μ O (pc + 1) lv (gx_i x :: st) (g x) k) : gx_J Y μ O pc lv (gx_i i :: gx_r 100 (some a) :: st) (gx_bd (gx_ia a i) g) k :=
  gx_Jia0 (t := 0) (by decide) (fun p e R s m args below meth c H locs cells slots Q ls ad cell v rest hC h1 h2 h3 h4 h5 w => W.iald hC.1 hC.2.1 h1 h2 h3 h4 h5 rfl rfl hd w) K
theorem gx_Jba {a : gx_Nm} {i : Int32} {g : Int32 → gx_M α} (hd : decode μ.1 pc = .ok (.baload, 1)) (K : ∀ x, gx_J Y μ O (pc + 1) lv (gx_i x :: st) (g x) k) : gx_J Y μ O pc lv (gx_i i :: gx_r 101 (some a) :: st) (gx_bd (gx_ia a i) g) k :=
  gx_Jia0 (t := 1) (by decide) (fun p e R s m args below meth c H locs cells slots Q ls ad cell v rest hC h1 h2 h3 h4 h5 w => W.bald hC.1 hC.2.1 h1 h2 h3 h4 h5 rfl rfl hd w) K
theorem gx_Jza {a : gx_Nm} {i : Int32} {g : Int32 → gx_M α} (hd : decode μ.1 pc = .ok (.baload, 1)) (K : ∀ x, gx_J Y μ O (pc + 1) lv (gx_i x :: st) (g x) k) : gx_J Y μ O pc lv (gx_i i :: gx_r 102 (some a) :: st) (gx_bd (gx_ia a i) g) k :=
  gx_Jia0 (t := 2) (by decide) (fun p e R s m args below meth c H locs cells slots Q ls ad cell v rest hC h1 h2 h3 h4 h5 w => W.zald hC.1 hC.2.1 h1 h2 h3 h4 h5 rfl rfl hd w) K
theorem gx_Jla {a : gx_Nm} {i : Int32} {g : Int64 → gx_M α} (hd : decode μ.1 pc = .ok (.laload, 1)) (K : ∀ x, gx_J Y μ O (pc + 1) lv (gx_l x :: st) (g x) k) : gx_J Y μ O pc lv (gx_i i :: gx_r 103 (some a) :: st) (gx_bd (gx_la a i) g) k := by
  refine gx_Jval gx_l (fun _ => True) gx_t2 ?_ (fun x _ => K x)
  intro S S1 x h hwf hok
  unfold gx_la at h
  split at h
  case isFalse => cases h
  case isTrue hin =>
    cases h
    have hsh := gx_wt.arr (t := 3) (hok.2 _ (List.mem_cons_of_mem _ List.mem_cons_self))
    refine ⟨rfl, trivial, trivial, ?_⟩
    intro p e R s m args below meth c H locs cells slots Q ls hC hR w
    exact W.lald hC.1 hC.2.1 (hR.2.2 a 3 (by decide) hsh) (gx_Karr hC.2.2.2.2.2.1 (by decide) _ _) (fun h => by cases h) (gx_in_cell hin) (gx_at_cell hin) rfl rfl hd w
theorem gx_Jis0 {a : gx_Nm} {i v w : Int32} {t pc' : Nat} {g : Unit → gx_M α} (ht : t < 3) (hby : t = 1 → fits .byte (.int w) = true)
    (hw : ∀ (p : Program) (e : Env) (R : Room) (s : State) (m : MethodId) (args : Array Value) (below : List Frame) (meth : Method) (c : Code) (H : Heap) (locs : List Loc) (cells slots : Nat) (Q : State → Prop) (ls : Array Slot) (ad : Nat) (cell : Cell) (rest : List Value), gx_C Y μ p R s m args meth c → H[ad]? = some cell → s.isArrayOf cell (gx_ety t) → cell.vm ≠ .unknown → ¬ (i < 0 ∨ cell.slots.size ≤ i.toNatClampNeg) →
      (∀ H' : Heap, H'[ad]? = some (cell.setSlot i.toNatClampNeg (.int w)) → H'.size = H.size → (∀ q, q ≠ ad → H'[q]? = H[q]?) → W p Y.1 e R s m args below meth c H' (locs ++ [⟨ad, i.toNatClampNeg⟩]) cells slots Q (F0 m pc' ls rest)) → W p Y.1 e R s m args below meth c H locs cells slots Q (F0 m pc ls (.int v :: .int i :: .ref ad :: rest)))
    (K : gx_J Y μ O pc' lv st (g ()) k) : gx_J Y μ O pc lv (gx_i v :: gx_i i :: gx_r (100 + t) (some a) :: st) (gx_bd (gx_is a i w) g) k := by
  refine gx_Jupd (fun v h => List.mem_cons_of_mem _ (gx_t2 v h)) ?_ K
  intro S S1 h hwf hok
  unfold gx_is at h
  split at h
  case isFalse => cases h
  case isTrue hin =>
    cases h
    have hsh := gx_wt.arr (hok.2 _ (List.mem_cons_of_mem _ (List.mem_cons_of_mem _ List.mem_cons_self)))
    have hI : ∀ b j, b ≠ a → hp_I (hp_wi S a i.toNatClampNeg w) b j = hp_I S b j := fun b j h => gx_u2_n _ _ _ _ (Or.inl h)
    refine ⟨⟨gx_Le.wi _ _ _ _, hwf.arr (S2 := hp_wi S a i.toNatClampNeg w) hsh rfl rfl rfl rfl hI (fun _ _ _ => rfl) (fun _ _ h => absurd h (by omega)) (fun h1 j => ?_), rfl, rfl⟩, ?_⟩
    · by_cases hj : j = i.toNatClampNeg
      · rw [hj]
        show fits .byte (.int (gx_u2 (hp_I S) a i.toNatClampNeg w a i.toNatClampNeg)) = true
        rw [gx_u2_s]
        exact hby h1
      · show fits .byte (.int (gx_u2 (hp_I S) a i.toNatClampNeg w a j)) = true
        rw [gx_u2_n _ _ _ _ (Or.inr hj)]
        exact hwf.2.2.2.2.2.2 a j (by rw [hsh, h1])
    intro p e R s m args below meth c H locs cells slots Q ls hC hR hls w2
    refine hw p e R s m args below meth c H locs cells slots Q ls _ _ _ hC (hR.2.2 a t (by omega) hsh) (gx_Karr hC.2.2.2.2.2.1 (by omega) _ _) (fun h => by cases h) (gx_in_cell hin) (fun H' e1 e2 e3 => ?_)
    refine w2 H' _ (hR.arr hwf (by omega) hsh (S2 := hp_wi S a i.toNatClampNeg w) ?_ e2 e3 rfl rfl rfl rfl hI (fun _ _ _ => rfl) (fun _ _ _ => rfl)) (fun q hq => by rw [List.mem_singleton.mp hq]; exact Nat.le_add_right _ _)
    rw [e1]
    unfold gx_cell
    rw [arrV_store]
    congr 2
    funext j
    unfold updV
    rw [gx_av_i ht, gx_av_i ht]
    by_cases hj : j = i.toNatClampNeg
    · rw [if_pos hj, hj]
      show _ = Value.int (gx_u2 (hp_I S) a i.toNatClampNeg w a i.toNatClampNeg)
      rw [gx_u2_s]
    · rw [if_neg hj]
      show _ = Value.int (gx_u2 (hp_I S) a i.toNatClampNeg w a j)
      rw [gx_u2_n _ _ _ _ (Or.inr hj)]
theorem gx_Jis {a : gx_Nm} {i v : Int32} {g : Unit → gx_M α} (hd : decode μ.1 pc = .ok (.iastore, 1)) (K : gx_J Y μ O (pc + 1) lv st (g ()) k) : gx_J Y μ O pc lv (gx_i v :: gx_i i :: gx_r 100 (some a) :: st) (gx_bd (gx_is a i v) g) k :=
  gx_Jis0 (t := 0) (by decide) (fun h => by cases h) (fun p e R s m args below meth c H locs cells slots Q ls ad cell rest hC h1 h2 h3 h4 w => W.iast hC.1 hC.2.1 h1 h2 h3 h4 rfl rfl hd w) K
theorem gx_Jbs {a : gx_Nm} {i v : Int32} {g : Unit → gx_M α} (hd : decode μ.1 pc = .ok (.bastore, 1)) (K : gx_J Y μ O (pc + 1) lv st (g ()) k) : gx_J Y μ O pc lv (gx_i v :: gx_i i :: gx_r 101 (some a) :: st) (gx_bd (gx_is a i v.toInt8.toInt32) g) k :=
  gx_Jis0 (t := 1) (pc' := pc + 1) (by decide) (fun _ => pk_fb v) (fun p e R s m args below meth c H locs cells slots Q ls ad cell rest hC h1 h2 h3 h4 w => W.bast hC.1 hC.2.1 h1 h2 h3 h4 rfl rfl hd (fun H' e1 e2 e3 => w H' e1 e2 e3)) K
theorem gx_Jzs {a : gx_Nm} {i v : Int32} {g : Unit → gx_M α} (hd : decode μ.1 pc = .ok (.bastore, 1)) (K : gx_J Y μ O (pc + 1) lv st (g ()) k) : gx_J Y μ O pc lv (gx_i v :: gx_i i :: gx_r 102 (some a) :: st) (gx_bd (gx_is a i (v &&& 1)) g) k :=
  gx_Jis0 (t := 2) (pc' := pc + 1) (by decide) (fun h => by cases h) (fun p e R s m args below meth c H locs cells slots Q ls ad cell rest hC h1 h2 h3 h4 w => W.zast hC.1 hC.2.1 h1 h2 h3 h4 rfl rfl hd (fun H' e1 e2 e3 => w H' e1 e2 e3)) K
theorem gx_Jls {a : gx_Nm} {i : Int32} {v : Int64} {g : Unit → gx_M α} (hd : decode μ.1 pc = .ok (.lastore, 1)) (K : gx_J Y μ O (pc + 1) lv st (g ()) k) : gx_J Y μ O pc lv (gx_l v :: gx_i i :: gx_r 103 (some a) :: st) (gx_bd (gx_ls a i v) g) k := by
  refine gx_Jupd (fun v h => List.mem_cons_of_mem _ (gx_t2 v h)) ?_ K
  intro S S1 h hwf hok
  unfold gx_ls at h
  split at h
  case isFalse => cases h
  case isTrue hin =>
    cases h
    have hsh := gx_wt.arr (t := 3) (hok.2 _ (List.mem_cons_of_mem _ (List.mem_cons_of_mem _ List.mem_cons_self)))
    refine ⟨⟨gx_Le.wl _ _ _ _, hwf.arr (S2 := hp_wl S a i.toNatClampNeg v) hsh rfl rfl rfl rfl (fun _ _ _ => rfl) (fun _ _ _ => rfl) (fun _ _ h => absurd h (by omega)) (fun h1 => absurd h1 (by decide)), rfl, rfl⟩, ?_⟩
    intro p e R s m args below meth c H locs cells slots Q ls hC hR hls w2
    refine W.last hC.1 hC.2.1 (hR.2.2 a 3 (by decide) hsh) (gx_Karr hC.2.2.2.2.2.1 (by decide) _ _) (fun h => by cases h) (gx_in_cell hin) rfl rfl hd (fun H' e1 e2 e3 => ?_)
    refine w2 H' _ (hR.arr hwf (by omega) hsh (S2 := hp_wl S a i.toNatClampNeg v) ?_ e2 e3 rfl rfl rfl rfl (fun _ _ _ => rfl) (fun _ _ _ => rfl) (fun b j h => gx_u2_n _ _ _ _ (Or.inl h))) (fun q hq => by rw [List.mem_singleton.mp hq]; exact Nat.le_add_right _ _)
    rw [e1]
    unfold gx_cell
    rw [arrV_store]
    congr 2
    funext j
    unfold updV
    rw [gx_av_l, gx_av_l]
    by_cases hj : j = i.toNatClampNeg
    · rw [if_pos hj, hj]
      show _ = Value.long (gx_u2 (hp_L S) a i.toNatClampNeg v a i.toNatClampNeg)
      rw [gx_u2_s]
    · rw [if_neg hj]
      show _ = Value.long (gx_u2 (hp_L S) a i.toNatClampNeg v a j)
      rw [gx_u2_n _ _ _ _ (Or.inr hj)]
theorem gx_etyref : ∀ t, t < 10 → 4 ≤ t → (gx_ety t).isReference = true := by
  intro t h h2
  match t, h, h2 with
  | 4, _, _ => rfl
  | 5, _, _ => rfl
  | 6, _, _ => rfl
  | 7, _, _ => rfl
  | 8, _, _ => rfl
  | 9, _, _ => rfl
  | n + 10, h, _ => exact absurd h (by omega)
theorem gx_Jro {a : gx_Nm} {i : Int32} {t t2 : Nat} {g : Option gx_Nm → gx_M α} (ht : t < 10) (ht4 : 4 ≤ t) (ht2 : gx_et t = t2) (hd : decode μ.1 pc = .ok (.aaload, 1)) (K : ∀ x, gx_J Y μ O (pc + 1) lv (gx_r t2 x :: st) (g x) k) : gx_J Y μ O pc lv (gx_i i :: gx_r (100 + t) (some a) :: st) (gx_bd (gx_ro a i) g) k := by
  refine gx_Jval (fun x => gx_r t2 x) (fun _ => True) gx_t2 ?_ (fun x _ => K x)
  intro S S1 x h hwf hok
  unfold gx_ro at h
  split at h
  case isFalse => cases h
  case isTrue hin =>
    cases h
    have hsh := gx_wt.arr (hok.2 _ (List.mem_cons_of_mem _ List.mem_cons_self))
    refine ⟨rfl, trivial, ?_, ?_⟩
    · cases hq : hp_R S a i.toNatClampNeg with
      | none => trivial
      | some q => exact gx_wt.of ((hwf.2.2.2.2.1 a t _ q ht ht4 hsh (gx_in_lt hin) hq).trans ht2) (by rw [← ht2]; exact gx_zet t ht)
    intro p e R s m args below meth c H locs cells slots Q ls hC hR w
    refine W.aald hC.1 hC.2.1 (hR.2.2 a t ht hsh) (gx_Karr hC.2.2.2.2.2.1 ht _ _) (gx_etyref t ht ht4) (fun h => by cases h) (gx_in_cell hin) (gx_at_cell hin) rfl rfl hd ?_
    have e1 : gx_av Y.2.1 S a t i.toNatClampNeg = gx_rv Y.2.1 (hp_A S) (hp_R S a i.toNatClampNeg) := by unfold gx_av; rw [if_neg (by omega), if_neg (by omega)]
    rw [e1]
    exact w
theorem gx_ra_ro (a : gx_Nm) (i : Int32) : gx_ra a i = gx_bd (gx_ro a i) (fun x => gx_nn x) := by
  funext S
  unfold gx_ra gx_bd gx_ro gx_nn
  by_cases h : gx_in i (hp_N S a) = true
  · rw [if_pos h, if_pos h]
  · rw [if_neg h, if_neg h]
theorem gx_Jra {a : gx_Nm} {i : Int32} {t t2 : Nat} {g : gx_Nm → gx_M α} (ht : t < 10) (ht4 : 4 ≤ t) (ht2 : gx_et t = t2) (hd : decode μ.1 pc = .ok (.aaload, 1)) (K : ∀ x, gx_J Y μ O (pc + 1) lv (gx_r t2 (some x) :: st) (g x) k) : gx_J Y μ O pc lv (gx_i i :: gx_r (100 + t) (some a) :: st) (gx_bd (gx_ra a i) g) k := by
  rw [gx_ra_ro, gx_bd_as]
  exact gx_Jro ht ht4 ht2 hd (fun x => gx_Jnn (st0 := fun q => gx_r t2 (some q) :: st) (fun a h => by rw [h]) K)
theorem gx_Jal {a : gx_Nm} {t : Nat} {g : Int32 → gx_M α} (ht : t < 10) (hd : decode μ.1 pc = .ok (.arraylength, 1)) (K : ∀ x, gx_J Y μ O (pc + 1) lv (gx_i x :: st) (g x) k) : gx_J Y μ O pc lv (gx_r (100 + t) (some a) :: st) (gx_bd (gx_al a) g) k := by
  refine gx_Jval gx_i (fun _ => True) gx_t1 ?_ (fun x _ => K x)
  intro S S1 x h hwf hok
  cases h
  have hsh := gx_wt.arr (hok.2 _ List.mem_cons_self)
  refine ⟨rfl, trivial, trivial, ?_⟩
  intro p e R s m args below meth c H locs cells slots Q ls hC hR w
  refine W.alen (n := nI (hp_N S a)) hC.1 hC.2.1 (hR.2.2 a t ht hsh) (gx_Karr hC.2.2.2.2.2.1 ht _ _) ?_ rfl rfl hd w
  unfold gx_cell
  rw [arrV_size]
  rfl
/-- a reference is stored: objects of the kind ci into arrays of the type t -/
theorem gx_Jrs {a q : gx_Nm} {i : Int32} {t t2 ci : Nat} {g : Unit → gx_M α} (ht : t < 10) (ht4 : 4 ≤ t) (ht2 : gx_et t = t2) (hci : ci < 19) (hc : t2 = ci + 1) (hC2 : gx_ety t = .object (gx_R ci)) (hd : decode μ.1 pc = .ok (.aastore, 1)) (K : gx_J Y μ O (pc + 1) lv st (g ()) k) : gx_J Y μ O pc lv (gx_r t2 (some q) :: gx_i i :: gx_r (100 + t) (some a) :: st) (gx_bd (gx_rs a i q) g) k := by
  refine gx_Jupd (fun v h => List.mem_cons_of_mem _ (gx_t2 v h)) ?_ K
  intro S S1 h hwf hok
  unfold gx_rs at h
  split at h
  case isFalse => cases h
  case isTrue hin =>
    cases h
    have hsh := gx_wt.arr (hok.2 _ (List.mem_cons_of_mem _ (List.mem_cons_of_mem _ List.mem_cons_self)))
    have hqs : hp_H S q = ci + 1 := by
      have := hok.2 _ List.mem_cons_self
      rw [hc] at this
      exact gx_wt.full this hci
    have hr : ∀ b j, b ≠ a → hp_R (hp_wr S a i.toNatClampNeg (some q)) b j = hp_R S b j := fun b j h => gx_u2_n _ _ _ _ (Or.inl h)
    refine ⟨⟨gx_Le.wr _ _ _ _, hwf.arr (S2 := hp_wr S a i.toNatClampNeg (some q)) hsh rfl rfl rfl rfl (fun _ _ _ => rfl) hr (fun j x _ _ hj hx => ?_) (fun h1 => absurd h1 (by omega)), rfl, rfl⟩, ?_⟩
    · by_cases hji : j = i.toNatClampNeg
      · rw [hji] at hx
        have hx : gx_u2 (hp_R S) a i.toNatClampNeg (some q) a i.toNatClampNeg = some x := hx
        rw [gx_u2_s] at hx
        cases hx
        rw [hqs, ht2, hc]
      · have hx : gx_u2 (hp_R S) a i.toNatClampNeg (some q) a j = some x := hx
        rw [gx_u2_n _ _ _ _ (Or.inr hji)] at hx
        exact hwf.2.2.2.2.1 a t j x ht ht4 hsh hj hx
    intro p e R s m args below meth c H locs cells slots Q ls hC hR hls w2
    obtain ⟨cellV, g1, g2, g3, -⟩ := hR.2.1 q ci ⟨hci, Or.inl hqs⟩
    have hcls := (hC.2.2.2.2.2.1.1.1 ci _ (gx_CL_at ci hci)).2
    have hRA := (hC.2.2.2.2.2.1.1.2 t _ (gx_TY_at _ t ht)).2
    rw [hC2] at hRA
    obtain ⟨kA, comp, k1, k2, k3, -⟩ := hRA
    have hcomp : comp = Y.2.2.1.1 ci := Option.some.inj (k3.symm.trans hcls.1)
    subst hcomp
    obtain ⟨kC, hkC, -⟩ := hcls.2
    have hin2 := gx_in_cell (z := Y.2.1) (dA := Y.2.2.2.1) (t := t) hin
    refine W.aast hC.1 hC.2.1 (hR.2.2 a t ht hsh) (fun q h => by cases h) (fun h => by cases h) k1 k2 rfl hkC ⟨fun h => hin2 (Or.inl h), Nat.not_le.mp fun h => hin2 (Or.inr h)⟩ g1 (fun q h => by rw [g3] at h; cases h) (by rw [g2]; exact hkC) (by rw [g2]; exact va_assign hcls) rfl rfl hd fun H' e1 e2 e3 => ?_
    refine w2 H' _ (hR.arr hwf ht hsh (S2 := hp_wr S a i.toNatClampNeg (some q)) ?_ e2 e3 rfl rfl rfl rfl (fun _ _ _ => rfl) hr (fun _ _ _ => rfl)) (fun q hq => by rw [List.mem_singleton.mp hq]; exact Nat.le_add_right _ _)
    rw [e1]
    unfold gx_cell
    rw [arrV_store]
    congr 2
    funext j
    unfold updV
    rw [gx_av_r ht4, gx_av_r ht4]
    by_cases hj : j = i.toNatClampNeg
    · rw [if_pos hj, hj]
      show _ = gx_rv _ _ (gx_u2 (hp_R S) a i.toNatClampNeg (some q) a i.toNatClampNeg)
      rw [gx_u2_s]
      rfl
    · rw [if_neg hj]
      show _ = gx_rv _ _ (gx_u2 (hp_R S) a i.toNatClampNeg (some q) a j)
      rw [gx_u2_n _ _ _ _ (Or.inr hj)]
      rfl
/-- new objects -/
theorem gx_Jnw {a : gx_Nm} {ci n ix c0 : Nat} {own : String} {g : Unit → gx_M α} (hci : ci < 19) (hn : gx_N ci = n) (hc0 : c0 = 30 + ci) (ho : μ.2.1 = own) (hcl : Cond.classLink own ix (gx_R ci) ∈ lw_all) (hin : Cond.instantiable (gx_R ci) n ∈ lw_all) (hini : Cond.initialized (gx_R ci) ∈ lw_all) (hd : decode μ.1 pc = .ok (.new ix, 3)) (K : gx_J Y μ O (pc + 3) lv (gx_r c0 (some a) :: st) (g ()) k) : gx_J Y μ O pc lv st (gx_bd (gx_nw c0 n a) g) k := by
  subst hc0
  subst hn
  subst ho
  refine gx_Jmake (n := gx_N ci) gx_t0 ?_ K
  intro S S1 h hwf hok
  unfold gx_nw at h
  split at h
  case isFalse => cases h
  case isTrue hfr =>
    cases h
    have hHa : hp_H (hp_mk S (30 + ci) (gx_N ci) a) a = 30 + ci := gx_u1_s _ _ _
    refine ⟨⟨gx_Le.mk hfr, hwf.new hfr (fun cj hcj => by omega), rfl, rfl, gx_wt.of hHa (by omega), gx_u1_s _ _ _⟩, ?_⟩
    intro p e R s m args below meth c H locs cells slots Q ls hC hR hcells hslots w
    have hKn := hC.2.2.2.2.2.1.1.1 ci _ (gx_CL_at ci hci)
    have hts := hC.2.2.2.2.1
    refine W.newcK hC.1 hC.2.1 hC.2.2.2.1 (hts _ hcl) (hts _ hin) (hts _ hini) rfl hd hcells hslots hKn.2.1 (show H.size = Y.2.1 + hp_C S from hR.1.1) fun H1 kC hkC e1 z1 o1 => ?_
    refine w H1 (hR.new hwf hfr (by rw [z1, hR.1.1]) (fun q hq => o1 q (by rw [← hR.1.1]; exact hq)) (fun cj hcj hor => ?_) (fun t ht ht2 => absurd ht2 (by omega)))
    have : cj = ci := by omega
    subst this
    exact (u_born (gx_ty cj) hts (gx_in_all cj hci) hKn hkC e1 (gx_ty_ok cj hci)).to (fun j hj => gx_kd_def cj hci j hj)
/-- an object's constructor has ended: what final fields hold is known -/
theorem gx_Jfu {a : gx_Nm} {ci c0 t2 : Nat} {cs : List (Nat × gx_Nm)} {g : Unit → gx_M α} (hci : ci < 19) (hc0 : c0 = 30 + ci) (ht2 : t2 = ci + 1) (hcs : ∀ k q, gx_sn ci k a = some q → (k, q) ∈ cs) (K : gx_J Y μ O pc lv (gx_r t2 (some a) :: st) (g ()) k) : gx_J Y μ O pc lv (gx_r c0 (some a) :: st) (gx_bd (gx_fu a cs) g) k := by
  subst hc0
  subst ht2
  intro S S' r hf hwf hok
  rw [gx_bd_as] at hf
  obtain ⟨x, S1, h1, h2⟩ := gx_bd_some hf
  unfold gx_fu at h1
  split at h1
  case isFalse => cases h1
  case isTrue hall =>
    cases h1
    have hraw : hp_H S a = 30 + ci := by
      have h3 := (gx_wt.ob (hok.2 _ List.mem_cons_self) hci (Or.inr rfl)).2
      have := hall.1
      omega
    have hall := hall.2
    have hsn : ∀ k q, gx_sn ci k a = some q → hp_R S a k = some q := fun k q h => by
      have := List.all_eq_true.mp hall _ (hcs k q h)
      exact of_decide_eq_true this
    have hwf1 := hwf.full hci hraw hsn
    have hLe := gx_Le.fu (S := S) hci hraw
    have hfull : hp_H (hp_fu S a) a = ci + 1 := (gx_fu_facts hraw).2
    have hok1 : gx_ok S lv st := ⟨hok.1, fun v hv => hok.2 v (List.mem_cons_of_mem _ hv)⟩
    have hok2 : gx_ok (hp_fu S a) lv (gx_r (ci + 1) (some a) :: st) := ⟨(hLe.ok hok1).1, gx_w1 (gx_wt.of hfull (by omega)) gx_t0 (hLe.ok hok1)⟩
    obtain ⟨hle, hV⟩ := K (hp_fu S a) S' r h2 hwf1 hok2
    exact ⟨⟨hLe.tr hle.1, hle.2⟩, fun p e R s m args below meth c c0 k0 hC H locs ls cells slots hR _ hl hL j1 j2 j3 j4 => hV p e R s m args below meth c c0 k0 hC H locs ls cells slots (gx_Hp.full hR hci hraw) hok2 hl hL j1 j2 j3 j4⟩
end
