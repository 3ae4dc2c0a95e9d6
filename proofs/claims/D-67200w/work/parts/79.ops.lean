/-! ===== WALK 4: rows of J that read and write the heap ===== -/
theorem gx_wt.ob {S : gx_St} {t ci : Nat} {a : gx_Nm} (h : gx_wt S (gx_r t (some a))) (hci : ci < 19) (ht : t = ci + 1 ∨ t = 30 + ci) : gx_ob S a ci := by
  obtain ⟨h1, h2⟩ := h
  exact ⟨hci, by omega⟩
theorem gx_wt.full {S : gx_St} {ci : Nat} {a : gx_Nm} (h : gx_wt S (gx_r (ci + 1) (some a))) (hci : ci < 19) : hp_H S a = ci + 1 := by
  obtain ⟨h1, h2⟩ := h
  omega
theorem gx_wt.arr {S : gx_St} {t : Nat} {a : gx_Nm} (h : gx_wt S (gx_r (100 + t) (some a))) : hp_H S a = 100 + t := by
  obtain ⟨h1, h2⟩ := h
  omega
theorem gx_wt.of {S : gx_St} {t : Nat} {a : gx_Nm} (h : hp_H S a = t) (h0 : t ≠ 0) : gx_wt S (gx_r t (some a)) := ⟨by rw [h]; exact h0, Or.inl h⟩
theorem gx_locs {z : Nat} {locs : List Loc} {q : Loc} (h : ∀ q ∈ locs, z ≤ q.base) (hq : z ≤ q.base) : ∀ x ∈ locs ++ [q], z ≤ x.base := by
  intro x hx
  rcases List.mem_append.mp hx with h1 | h1
  · exact h x h1
  · rw [List.mem_singleton.mp h1]; exact hq
theorem gx_Le.wi (S : gx_St) (a : gx_Nm) (k : Nat) (v : Int32) : gx_Le S (hp_wi S a k v) := ⟨Nat.le_refl _, Nat.le_refl _, fun _ _ => ⟨rfl, Or.inl rfl⟩⟩
theorem gx_Le.wr (S : gx_St) (a : gx_Nm) (k : Nat) (v : Option gx_Nm) : gx_Le S (hp_wr S a k v) := ⟨Nat.le_refl _, Nat.le_refl _, fun _ _ => ⟨rfl, Or.inl rfl⟩⟩
theorem gx_Le.wl (S : gx_St) (a : gx_Nm) (k : Nat) (v : Int64) : gx_Le S (hp_wl S a k v) := ⟨Nat.le_refl _, Nat.le_refl _, fun _ _ => ⟨rfl, Or.inl rfl⟩⟩
theorem gx_Le.cp (S : gx_St) (a b : gx_Nm) (n : Nat) : gx_Le S (hp_cp S a b n) := ⟨Nat.le_refl _, Nat.le_refl _, fun _ _ => ⟨rfl, Or.inl rfl⟩⟩
theorem gx_Le.ex (S : gx_St) (c n : Nat) : gx_Le S (hp_ex S c n) := ⟨Nat.le_add_right _ _, Nat.le_add_right _ _, fun _ _ => ⟨rfl, Or.inl rfl⟩⟩
theorem gx_Le.mk {S : gx_St} {c n : Nat} {a : gx_Nm} (h : hp_H S a = 0) : gx_Le S (hp_mk S c n a) := by
  refine ⟨Nat.le_add_right _ _, Nat.le_add_right _ _, fun p hp => ?_⟩
  have hpa : p ≠ a := fun e => hp (by rw [e]; exact h)
  exact ⟨gx_u1_n _ _ _ hpa, Or.inl (gx_u1_n _ _ _ hpa)⟩
theorem gx_Le.fu {S : gx_St} {a : gx_Nm} {ci : Nat} (hci : ci < 19) (h : hp_H S a = 30 + ci) : gx_Le S (hp_fu S a) := by
  refine ⟨Nat.le_refl _, Nat.le_refl _, fun p hp => ⟨rfl, ?_⟩⟩
  by_cases hpa : p = a
  · refine Or.inr ?_
    rw [hpa, h]
    have : hp_H (hp_fu S a) a = 30 + ci - 29 := by
      show gx_u1 (hp_H S) a (hp_H S a - 29) a = _
      rw [gx_u1_s, h]
    rw [this]
    omega
  · exact Or.inl (gx_u1_n _ _ _ hpa)
section
variable {Y : gx_Y} {μ : gx_U} {p : Program} {e : Env} {R : Room} {s : State} {m : MethodId} {args : Array Value} {below : List Frame} {meth : Method} {c : Code} {H : Heap} {locs : List Loc} {cells slots : Nat} {Q : State → Prop} {ls : Array Slot} {pc : Nat} {rest : List Value} {S : gx_St}
theorem gx_Wget (hC : gx_C Y μ p R s m args meth c) (hR : gx_Rq Y S H) {a : gx_Nm} {ci kk ix : Nat} (hob : gx_ob S a ci) (hk : kk < gx_N ci) (hq : Cond.fieldLink μ.2.1 ix (gx_T ci kk).1 (gx_T ci kk).2.1 (gx_T ci kk).2.2.1 ∈ lw_all) (hd : decode μ.1 pc = .ok (.getfield ix, 3))
    (w : W p Y.1 e R s m args below meth c H locs cells slots Q (F0 m (pc + 3) ls (gx_fv Y.2.1 S a ci kk :: rest))) : W p Y.1 e R s m args below meth c H locs cells slots Q (F0 m pc ls (.ref (Y.2.1 + hp_A S a) :: rest)) := by
  obtain ⟨hx, hb, hml, hown, hts, hK, -⟩ := hC
  have hci := hob.1
  obtain ⟨cell, q1, q2, q3, q4⟩ := hR.2.1 a ci hob
  obtain ⟨hS, hfc, kC, hkC, hkind⟩ := hK.1.1 ci _ (gx_CL_at ci hci)
  obtain ⟨cf, kf, fi, f, hi, hsl⟩ := hS kk hk
  refine W.getf hx hb hown (hts _ hq) hi (u_facts hfc hkC (u_lays hts (gx_in_all ci hci) hk) hi).1 q1 (by rw [q3]; exact fun h => by cases h) (v := gx_fv Y.2.1 S a ci kk) ?_ rfl rfl hd w
  rw [hsl]
  exact q4 kk hk
theorem gx_Wput (hC : gx_C Y μ p R s m args meth c) (hR : gx_Rq Y S H) {a : gx_Nm} {ci kk ix : Nat} {v : Value} (hob : gx_ob S a ci) (hk : kk < gx_N ci) (hq : Cond.fieldLink μ.2.1 ix (gx_T ci kk).1 (gx_T ci kk).2.1 (gx_T ci kk).2.2.1 ∈ lw_all)
    (hfin : (gx_T ci kk).2.2.2 = false ∨ ((gx_T ci kk).2.2.2 = true ∧ μ.2.2.2.1 = "<init>" ∧ (gx_T ci kk).1 = μ.2.1)) (hn : narrow (gx_ty ci kk) v = v) (hfit : fits (gx_ty ci kk) v = true) (hd : decode μ.1 pc = .ok (.putfield ix, 3))
    (w : ∀ (H' : Heap) (cell : Cell), H[Y.2.1 + hp_A S a]? = some cell → H'[Y.2.1 + hp_A S a]? = some (cell.setSlot (Y.2.2.1.2 ci kk) v) → H'.size = H.size → (∀ q, q ≠ Y.2.1 + hp_A S a → H'[q]? = H[q]?) → (∀ x y, x < gx_N ci → y < gx_N ci → x ≠ y → (Y.2.2.1.2 ci) x ≠ (Y.2.2.1.2 ci) y) → W p Y.1 e R s m args below meth c H' (locs ++ [⟨Y.2.1 + hp_A S a, Y.2.2.1.2 ci kk⟩]) cells slots Q (F0 m (pc + 3) ls rest)) : W p Y.1 e R s m args below meth c H locs cells slots Q (F0 m pc ls (v :: .ref (Y.2.1 + hp_A S a) :: rest)) := by
  obtain ⟨hx, hb, hml, hown, hts, hK, -, -, hnm, -⟩ := hC
  have hci := hob.1
  have hap := va_apart (own := μ.2.1) hts (gx_in_all ci hci) (gx_ty ci) (gx_ty_ok ci hci) (gx_nm_ok ci hci) hK.1 (gx_CL_at ci hci)
  obtain ⟨cell, q1, q2, q3, q4⟩ := hR.2.1 a ci hob
  obtain ⟨hS, hfc, kC, hkC, hkind⟩ := hK.1.1 ci _ (gx_CL_at ci hci)
  obtain ⟨cf, kf, fi, f, hi, hsl⟩ := hS kk hk
  have hlay := hts _ (gx_in_all ci hci _ (u_in_lay hk))
  unfold u_lay at hlay
  have hst := (u_facts hfc hkC (u_lays hts (gx_in_all ci hci) hk) hi).1
  have hd9 := gx_ty_ok ci hci kk hk
  rcases hfin with hfin | ⟨hfin, hin2, hdecl⟩
  · rw [if_neg (by rw [hfin]; decide)] at hlay
    have h6 := u_store hfc hkC hkind hlay hi hd9 hn hfit
    refine W.putK hx hb (f := f) ⟨hown, hts _ hq, ⟨_, _, _, hi⟩, hst⟩ (by rw [q2]; exact h6) q1 q3 (by rw [hsl]; exact k2_hasslot (q4 kk hk)) rfl rfl hd fun H' e1 e2 e3 => ?_
    rw [hsl] at e1 ⊢
    exact w H' cell q1 e1 e2 e3 hap
  · rw [if_pos hfin] at hlay
    have hcf : m.cls = cf := by
      obtain ⟨_, _, c', _, _, _, -, -, hf', -, -, -, hown2, -⟩ := Cond.laysFinal_spec hlay
      have e1 : c' = cf := by have := hi.symm.trans hf'; simp at this; exact this.1.symm
      rw [hdecl] at hown2
      rw [← e1]; exact Option.some.inj (hown.symm.trans hown2)
    have h6 := u_fits hfc hkC hkind (Or.inr hlay) hi hd9 hn hfit
    refine W.putFinK hx hb hown (hts _ hq) hi hst hcf (by rw [hnm]; exact hin2) (by rw [q2]; exact h6) q1 q3 (by rw [hsl]; exact k2_hasslot (q4 kk hk)) rfl rfl hd fun H' e1 e2 e3 => ?_
    rw [hsl] at e1 ⊢
    exact w H' cell q1 e1 e2 e3 hap
end
section
variable {Y : gx_Y} {μ : gx_U} {ρ α : Type} {O : gx_Ob ρ} {pc : Nat} {lv : List (Nat × gx_A)} {st : List gx_A} {k : α → gx_M ρ}
/-- a step that leaves the abstract state as it is and lays one value -/
theorem gx_Jval {β : Type} {op : gx_M β} {g : β → gx_M α} {pc' : Nat} {st0 : List gx_A} (res : β → gx_A) (F : β → Prop) (hst : ∀ v ∈ st, v ∈ st0)
    (h : ∀ (S S1 : gx_St) (x : β), op S = some (x, S1) → gx_Wf S → gx_ok S lv st0 → S1 = S ∧ F x ∧ gx_wt S (res x) ∧ ∀ (p : Program) (e : Env) (R : Room) (s : State) (m : MethodId) (args : Array Value) (below : List Frame) (meth : Method) (c : Code) (H : Heap) (locs : List Loc) (cells slots : Nat) (Q : State → Prop) (ls : Array Slot), gx_C Y μ p R s m args meth c → gx_Rq Y S H →
      W p Y.1 e R s m args below meth c H locs cells slots Q (F0 m pc' ls ((res x :: st).map (gx_cv Y.2.1 (hp_A S)))) → W p Y.1 e R s m args below meth c H locs cells slots Q (F0 m pc ls (st0.map (gx_cv Y.2.1 (hp_A S)))))
    (K : ∀ x, F x → gx_J Y μ O pc' lv (res x :: st) (g x) k) : gx_J Y μ O pc lv st0 (gx_bd op g) k := by
  intro S S' r hf hwf hok
  rw [gx_bd_as] at hf
  obtain ⟨x, S1, h1, h2⟩ := gx_bd_some hf
  obtain ⟨rfl, hF, hw, hW⟩ := h S S1 x h1 hwf hok
  have hok2 : gx_ok S1 lv (res x :: st) := ⟨hok.1, gx_w1 hw hst hok⟩
  obtain ⟨hle, hV⟩ := K x hF S1 S' r h2 hwf hok2
  exact ⟨hle, fun p e R s m args below meth c c0 k0 hC H locs ls cells slots hR _ hl hL j1 j2 j3 j4 => hW p e R s m args below meth c H locs cells slots _ ls hC hR (hV p e R s m args below meth c c0 k0 hC H locs ls cells slots hR hok2 hl hL j1 j2 j3 j4)⟩
/-- a step that writes one place -/
theorem gx_Jupd {op : gx_M Unit} {g : Unit → gx_M α} {pc' : Nat} {st0 : List gx_A} (hst : ∀ v ∈ st, v ∈ st0)
    (h : ∀ (S S1 : gx_St), op S = some ((), S1) → gx_Wf S → gx_ok S lv st0 → (gx_Le S S1 ∧ gx_Wf S1 ∧ hp_C S1 = hp_C S ∧ hp_Z S1 = hp_Z S) ∧ ∀ (p : Program) (e : Env) (R : Room) (s : State) (m : MethodId) (args : Array Value) (below : List Frame) (meth : Method) (c : Code) (H : Heap) (locs : List Loc) (cells slots : Nat) (Q : State → Prop) (ls : Array Slot), gx_C Y μ p R s m args meth c → gx_Rq Y S H → ls.size = μ.2.2.2.2.1 →
      (∀ (H' : Heap) (L : List Loc), gx_Rq Y S1 H' → (∀ q ∈ L, Y.2.1 ≤ q.base) → W p Y.1 e R s m args below meth c H' (locs ++ L) cells slots Q (F0 m pc' ls (st.map (gx_cv Y.2.1 (hp_A S))))) → W p Y.1 e R s m args below meth c H locs cells slots Q (F0 m pc ls (st0.map (gx_cv Y.2.1 (hp_A S)))))
    (K : gx_J Y μ O pc' lv st (g ()) k) : gx_J Y μ O pc lv st0 (gx_bd op g) k := by
  intro S S' r hf hwf hok
  rw [gx_bd_as] at hf
  obtain ⟨x, S1, h1, h2⟩ := gx_bd_some hf
  obtain ⟨⟨hLe, hwf1, hc, hz⟩, hW⟩ := h S S1 h1 hwf hok
  have hok1 : gx_ok S lv st := ⟨hok.1, fun v hv => hok.2 v (hst v hv)⟩
  have hok2 : gx_ok S1 lv st := hLe.ok hok1
  obtain ⟨hle, hV⟩ := K S1 S' r h2 hwf1 hok2
  refine ⟨hLe.tr hle.1 |> fun q => ⟨q, hle.2⟩, fun p e R s m args below meth c c0 k0 hC H locs ls cells slots hR _ hl hL j1 j2 j3 j4 => hW p e R s m args below meth c H locs cells slots _ ls hC hR hl.1 (fun H' L hR' hLL => ?_)⟩
  rw [← hLe.sts hok1.2]
  refine hV p e R s m args below meth c c0 k0 hC H' (locs ++ L) ls cells slots hR' hok2 (by rw [hLe.lvs hok.1]; exact hl) (fun q hq => ?_) (by rw [hc]; exact j1) (by rw [hz]; exact j2) j3 j4
  rcases List.mem_append.mp hq with h | h
  · exact hL q h
  · exact hLL q h
/-- a step that makes one cell of n slots, named a -/
theorem gx_Jmake {op : gx_M Unit} {g : Unit → gx_M α} {pc' n : Nat} {st0 : List gx_A} {t : Nat} {a : gx_Nm} (hst : ∀ v ∈ st, v ∈ st0)
    (h : ∀ (S S1 : gx_St), op S = some ((), S1) → gx_Wf S → gx_ok S lv st0 → (gx_Le S S1 ∧ gx_Wf S1 ∧ hp_C S1 = hp_C S + 1 ∧ hp_Z S1 = hp_Z S + n ∧ gx_wt S1 (gx_r t (some a)) ∧ hp_A S1 a = hp_C S) ∧ ∀ (p : Program) (e : Env) (R : Room) (s : State) (m : MethodId) (args : Array Value) (below : List Frame) (meth : Method) (c : Code) (H : Heap) (locs : List Loc) (cells slots : Nat) (Q : State → Prop) (ls : Array Slot), gx_C Y μ p R s m args meth c → gx_Rq Y S H → cells + 1 ≤ R.cells → slots + n ≤ R.slots →
      (∀ (H' : Heap), gx_Rq Y S1 H' → W p Y.1 e R s m args below meth c H' locs (cells + 1) (slots + n) Q (F0 m pc' ls (.ref (Y.2.1 + hp_C S) :: st.map (gx_cv Y.2.1 (hp_A S))))) → W p Y.1 e R s m args below meth c H locs cells slots Q (F0 m pc ls (st0.map (gx_cv Y.2.1 (hp_A S)))))
    (K : gx_J Y μ O pc' lv (gx_r t (some a) :: st) (g ()) k) : gx_J Y μ O pc lv st0 (gx_bd op g) k := by
  intro S S' r hf hwf hok
  rw [gx_bd_as] at hf
  obtain ⟨x, S1, h1, h2⟩ := gx_bd_some hf
  obtain ⟨⟨hLe, hwf1, hc, hz, hwt, had⟩, hW⟩ := h S S1 h1 hwf hok
  have hok1 : gx_ok S lv st := ⟨hok.1, fun v hv => hok.2 v (hst v hv)⟩
  have hok2 : gx_ok S1 lv (gx_r t (some a) :: st) := ⟨(hLe.ok hok1).1, gx_w1 hwt gx_t0 (hLe.ok hok1)⟩
  obtain ⟨hle, hV⟩ := K S1 S' r h2 hwf1 hok2
  refine ⟨⟨hLe.tr hle.1, hle.2⟩, fun p e R s m args below meth c c0 k0 hC H locs ls cells slots hR _ hl hL j1 j2 j3 j4 => hW p e R s m args below meth c H locs cells slots _ ls hC hR ?_ ?_ (fun H' hR' => ?_)⟩
  · have := hle.1.1
    omega
  · have := hle.1.2.1
    omega
  · have hV2 := hV p e R s m args below meth c c0 k0 hC H' locs ls (cells + 1) (slots + n) hR' hok2 (by rw [hLe.lvs hok.1]; exact hl) hL (by omega) (by omega) j3 j4
    have e1 : (gx_r t (some a) :: st).map (gx_cv Y.2.1 (hp_A S1)) = Value.ref (Y.2.1 + hp_C S) :: st.map (gx_cv Y.2.1 (hp_A S)) := by
      rw [← hLe.sts hok1.2]
      show Value.ref (Y.2.1 + hp_A S1 a) :: _ = _
      rw [had]
    rw [e1] at hV2
    exact hV2
theorem gx_Jgi {a : gx_Nm} {t ci kk ix : Nat} {g : Int32 → gx_M α} (hci : ci < 19) (ht : t = ci + 1 ∨ t = 30 + ci) (hk : kk < gx_N ci) (hf : gx_fk ci kk ≤ 1) (hq : Cond.fieldLink μ.2.1 ix (gx_T ci kk).1 (gx_T ci kk).2.1 (gx_T ci kk).2.2.1 ∈ lw_all) (hd : decode μ.1 pc = .ok (.getfield ix, 3))
    (K : ∀ x, (gx_fk ci kk = 1 → x &&& 1 = x) → gx_J Y μ O (pc + 3) lv (gx_i x :: st) (g x) k) : gx_J Y μ O pc lv (gx_r t (some a) :: st) (gx_bd (gx_gi a kk) g) k := by
  refine gx_Jval gx_i (fun x => gx_fk ci kk = 1 → x &&& 1 = x) gx_t1 ?_ K
  intro S S1 x h hwf hok
  cases h
  have hob := gx_wt.ob (hok.2 _ List.mem_cons_self) hci ht
  refine ⟨rfl, fun h => hwf.2.2.2.2.2.1 a ci kk hob h, trivial, ?_⟩
  intro p e R s m args below meth c H locs cells slots Q ls hC hR w
  refine gx_Wget hC hR hob hk hq hd ?_
  have e1 : gx_fv Y.2.1 S a ci kk = .int (hp_I S a kk) := by unfold gx_fv; rw [if_pos hf]
  rw [e1]
  exact w
theorem gx_Jgr {a : gx_Nm} {t t2 ci kk ix : Nat} {g : gx_Nm → gx_M α} (hci : ci < 19) (ht : t = ci + 1 ∨ t = 30 + ci) (hk : kk < gx_N ci) (hf : gx_fk ci kk = 2) (ht2 : gx_ft ci kk = t2) (hq : Cond.fieldLink μ.2.1 ix (gx_T ci kk).1 (gx_T ci kk).2.1 (gx_T ci kk).2.2.1 ∈ lw_all) (hd : decode μ.1 pc = .ok (.getfield ix, 3))
    (K : ∀ x, gx_J Y μ O (pc + 3) lv (gx_r t2 (some x) :: st) (g x) k) : gx_J Y μ O pc lv (gx_r t (some a) :: st) (gx_bd (gx_gr a kk) g) k := by
  refine gx_Jval (fun x => gx_r t2 (some x)) (fun _ => True) gx_t1 ?_ (fun x _ => K x)
  intro S S1 x h hwf hok
  have hob := gx_wt.ob (hok.2 _ List.mem_cons_self) hci ht
  unfold gx_gr at h
  cases hq2 : hp_R S a kk with
  | none => rw [hq2] at h; cases h
  | some q =>
    rw [hq2] at h
    cases h
    have hty := hwf.2.2.2.1 a ci kk x hob hk hf hq2
    refine ⟨rfl, trivial, gx_wt.of (hty.trans ht2) (by rw [← ht2]; exact gx_zft ci hci kk hk hf), ?_⟩
    intro p e R s m args below meth c H locs cells slots Q ls hC hR w
    refine gx_Wget hC hR hob hk hq hd ?_
    have e1 : gx_fv Y.2.1 S a ci kk = gx_rv Y.2.1 (hp_A S) (some x) := by unfold gx_fv; rw [if_neg (by omega), hq2]
    rw [e1]
    exact w
/-- a final reference field of an object whose constructor has ended -/
theorem gx_Jgs {a q : gx_Nm} {t2 ci kk ix : Nat} {f : gx_M α} (hci : ci < 19) (hk : kk < gx_N ci) (hf : gx_fk ci kk = 2) (ht2 : gx_ft ci kk = t2) (hs : gx_sn ci kk a = some q) (hq : Cond.fieldLink μ.2.1 ix (gx_T ci kk).1 (gx_T ci kk).2.1 (gx_T ci kk).2.2.1 ∈ lw_all) (hd : decode μ.1 pc = .ok (.getfield ix, 3))
    (K : gx_J Y μ O (pc + 3) lv (gx_r t2 (some q) :: st) f k) : gx_J Y μ O pc lv (gx_r (ci + 1) (some a) :: st) f k := by
  intro S S' r hr hwf hok
  have hfull := gx_wt.full (hok.2 _ List.mem_cons_self) hci
  have hob : gx_ob S a ci := ⟨hci, Or.inl hfull⟩
  have hq2 := hwf.2.2.1 a ci kk q hci hfull hs
  have hty := hwf.2.2.2.1 a ci kk q hob hk hf hq2
  have hok2 : gx_ok S lv (gx_r t2 (some q) :: st) := ⟨hok.1, gx_w1 (gx_wt.of (hty.trans ht2) (by rw [← ht2]; exact gx_zft ci hci kk hk hf)) gx_t1 hok⟩
  obtain ⟨hle, hV⟩ := K S S' r hr hwf hok2
  refine ⟨hle, fun p e R s m args below meth c c0 k0 hC H locs ls cells slots hR _ hl hL j1 j2 j3 j4 => ?_⟩
  refine gx_Wget hC hR hob hk hq hd ?_
  have e1 : gx_fv Y.2.1 S a ci kk = gx_rv Y.2.1 (hp_A S) (some q) := by unfold gx_fv; rw [if_neg (by omega), hq2]
  rw [e1]
  exact hV p e R s m args below meth c c0 k0 hC H locs ls cells slots hR hok2 hl hL j1 j2 j3 j4
theorem gx_Jpi0 {a : gx_Nm} {v w : Int32} {t ci kk ix : Nat} {g : Unit → gx_M α} (hci : ci < 19) (ht : t = ci + 1 ∨ t = 30 + ci) (hk : kk < gx_N ci) (hf : gx_fk ci kk ≤ 1) (hn : narrow (gx_ty ci kk) (.int v) = .int v) (hfit : fits (gx_ty ci kk) (.int v) = true) (hw : w = v) (hbo : gx_fk ci kk = 1 → v &&& 1 = v) (hq : Cond.fieldLink μ.2.1 ix (gx_T ci kk).1 (gx_T ci kk).2.1 (gx_T ci kk).2.2.1 ∈ lw_all) (hfin : (gx_T ci kk).2.2.2 = false ∨ ((gx_T ci kk).2.2.2 = true ∧ μ.2.2.2.1 = "<init>" ∧ (gx_T ci kk).1 = μ.2.1)) (hd : decode μ.1 pc = .ok (.putfield ix, 3))
    (K : gx_J Y μ O (pc + 3) lv st (g ()) k) : gx_J Y μ O pc lv (gx_i v :: gx_r t (some a) :: st) (gx_bd (gx_pi a kk w) g) k := by
  subst hw
  refine gx_Jupd gx_t2 ?_ K
  intro S S1 h hwf hok
  cases h
  have hob := gx_wt.ob (hok.2 _ (List.mem_cons_of_mem _ List.mem_cons_self)) hci ht
  have hI : ∀ b j, (b ≠ a ∨ j ≠ kk) → hp_I (hp_wi S a kk w) b j = hp_I S b j := fun b j h => gx_u2_n _ _ _ _ h
  have hIa : hp_I (hp_wi S a kk w) a kk = w := gx_u2_s _ _ _ _
  refine ⟨⟨gx_Le.wi _ _ _ _, hwf.put (S2 := hp_wi S a kk w) (kk := kk) hob rfl rfl rfl rfl hI (fun _ _ _ => rfl) (fun q h1 h2 => hwf.2.2.1 a ci kk q hci h1 h2) (fun q h0 h1 h2 => absurd h1 (by omega)) (fun h => by rw [hIa]; exact hbo h), rfl, rfl⟩, ?_⟩
  intro p e R s m args below meth c H locs cells slots Q ls hC hR hls w2
  refine gx_Wput hC hR hob hk hq hfin hn hfit hd fun H' cell q1 e1 e2 e3 hap => ?_
  refine w2 H' _ (hR.put hwf hob hk hap q1 e1 e2 e3 rfl rfl rfl rfl rfl hI (fun _ _ _ => rfl) ?_) (fun q hq => by rw [List.mem_singleton.mp hq]; exact Nat.le_add_right _ _)
  unfold gx_fv
  rw [if_pos hf, hIa]
  rfl
theorem gx_Jpi {a : gx_Nm} {v : Int32} {t ci kk ix : Nat} {g : Unit → gx_M α} (hci : ci < 19) (ht : t = ci + 1 ∨ t = 30 + ci) (hk : kk < gx_N ci) (hf : gx_fk ci kk = 0) (hty : gx_ty ci kk = .int) (hq : Cond.fieldLink μ.2.1 ix (gx_T ci kk).1 (gx_T ci kk).2.1 (gx_T ci kk).2.2.1 ∈ lw_all) (hfin : (gx_T ci kk).2.2.2 = false ∨ ((gx_T ci kk).2.2.2 = true ∧ μ.2.2.2.1 = "<init>" ∧ (gx_T ci kk).1 = μ.2.1)) (hd : decode μ.1 pc = .ok (.putfield ix, 3))
    (K : gx_J Y μ O (pc + 3) lv st (g ()) k) : gx_J Y μ O pc lv (gx_i v :: gx_r t (some a) :: st) (gx_bd (gx_pi a kk v) g) k :=
  gx_Jpi0 hci ht hk (by omega) (by rw [hty]; rfl) (by rw [hty]; rfl) rfl (fun h => absurd h (by omega)) hq hfin hd K
theorem gx_bool01 {v : Int32} (h : v &&& 1 = v) : v = 0 ∨ v = 1 := by
  have h2 : v.toBitVec &&& 1#32 = v.toBitVec := congrArg Int32.toBitVec h
  have h3 : v.toBitVec = 0#32 ∨ v.toBitVec = 1#32 := by
    rw [← h2]
    have := BitVec.and_one_eq_setWidth_ofBool_getLsbD (x := v.toBitVec)
    rw [this]
    cases v.toBitVec.getLsbD 0
    · exact Or.inl rfl
    · exact Or.inr rfl
  rcases h3 with h3 | h3
  · exact Or.inl (Int32.toBitVec_inj.mp h3)
  · exact Or.inr (Int32.toBitVec_inj.mp h3)
theorem gx_Jpz {a : gx_Nm} {v : Int32} {t ci kk ix : Nat} {g : Unit → gx_M α} (hci : ci < 19) (ht : t = ci + 1 ∨ t = 30 + ci) (hk : kk < gx_N ci) (hf : gx_fk ci kk = 1) (hty : gx_ty ci kk = .boolean) (hv : v &&& 1 = v) (hq : Cond.fieldLink μ.2.1 ix (gx_T ci kk).1 (gx_T ci kk).2.1 (gx_T ci kk).2.2.1 ∈ lw_all) (hfin : (gx_T ci kk).2.2.2 = false ∨ ((gx_T ci kk).2.2.2 = true ∧ μ.2.2.2.1 = "<init>" ∧ (gx_T ci kk).1 = μ.2.1)) (hd : decode μ.1 pc = .ok (.putfield ix, 3))
    (K : gx_J Y μ O (pc + 3) lv st (g ()) k) : gx_J Y μ O pc lv (gx_i v :: gx_r t (some a) :: st) (gx_bd (gx_pi a kk (v &&& 1)) g) k :=
  gx_Jpi0 hci ht hk (by omega) (by rw [hty]; show Value.int (v &&& 1) = _; rw [hv]) (by rw [hty]; rcases gx_bool01 hv with h | h <;> rw [h] <;> rfl) hv (fun _ => hv) hq hfin hd K
theorem gx_Jpr {a q : gx_Nm} {t t2 ci kk ix : Nat} {g : Unit → gx_M α} (hci : ci < 19) (ht : t = ci + 1 ∨ t = 30 + ci) (hk : kk < gx_N ci) (hf : gx_fk ci kk = 2) (ht2 : gx_ft ci kk = t2) (hlt : t2 < 30 ∨ 50 ≤ t2) (hs : ∀ x, gx_sn ci kk a = some x → x = q) (hty : (∃ n, gx_ty ci kk = .object n) ∨ ∃ t, gx_ty ci kk = .array t) (hq : Cond.fieldLink μ.2.1 ix (gx_T ci kk).1 (gx_T ci kk).2.1 (gx_T ci kk).2.2.1 ∈ lw_all) (hfin : (gx_T ci kk).2.2.2 = false ∨ ((gx_T ci kk).2.2.2 = true ∧ μ.2.2.2.1 = "<init>" ∧ (gx_T ci kk).1 = μ.2.1)) (hd : decode μ.1 pc = .ok (.putfield ix, 3))
    (K : gx_J Y μ O (pc + 3) lv st (g ()) k) : gx_J Y μ O pc lv (gx_r t2 (some q) :: gx_r t (some a) :: st) (gx_bd (gx_pr a kk q) g) k := by
  refine gx_Jupd gx_t2 ?_ K
  intro S S1 h hwf hok
  cases h
  have hob := gx_wt.ob (hok.2 _ (List.mem_cons_of_mem _ List.mem_cons_self)) hci ht
  have hwq := hok.2 _ List.mem_cons_self
  have hqs : hp_H S q = t2 := by
    obtain ⟨h1, h2⟩ := hwq
    omega
  have hr : ∀ b j, (b ≠ a ∨ j ≠ kk) → hp_R (hp_wr S a kk (some q)) b j = hp_R S b j := fun b j h => gx_u2_n _ _ _ _ h
  have hra : hp_R (hp_wr S a kk (some q)) a kk = some q := gx_u2_s _ _ _ _
  refine ⟨⟨gx_Le.wr _ _ _ _, hwf.put (S2 := hp_wr S a kk (some q)) (kk := kk) hob rfl rfl rfl rfl (fun _ _ _ => rfl) hr (fun x h1 h2 => by rw [hra, hs x h2]) (fun x h0 h1 h2 => by rw [hra] at h2; cases h2; rw [ht2]; exact hqs) (fun h => absurd h (by omega)), rfl, rfl⟩, ?_⟩
  intro p e R s m args below meth c H locs cells slots Q ls hC hR hls w2
  refine gx_Wput (v := gx_rv Y.2.1 (hp_A S) (some q)) hC hR hob hk hq hfin ?_ ?_ hd fun H' cell q1 e1 e2 e3 hap => ?_
  · rcases hty with ⟨n, hty⟩ | ⟨n, hty⟩ <;> rw [hty] <;> rfl
  · rcases hty with ⟨n, hty⟩ | ⟨n, hty⟩ <;> rw [hty] <;> rfl
  refine w2 H' _ (hR.put hwf hob hk hap q1 e1 e2 e3 rfl rfl rfl rfl rfl (fun _ _ _ => rfl) hr ?_) (fun q hq => by rw [List.mem_singleton.mp hq]; exact Nat.le_add_right _ _)
  unfold gx_fv
  rw [if_neg (by omega), hra]
  rfl
end
