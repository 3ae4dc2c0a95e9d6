/-! ===== WALK 12: arrays of arrays ===== -/
set_option maxRecDepth 100000
/-- the outer array with its first i places set -/
def gx_mo (cA : ClassId) (n z i : Nat) : Cell := arrV cA n (fun j => if j < i then .ref (z + 1 + j) else .null)
theorem gx_mo_step (cA : ClassId) (n z i : Nat) : (gx_mo cA n z i).setSlot i (.ref (z + 1 + i)) = gx_mo cA n z (i + 1) := by
  unfold gx_mo
  rw [arrV_store]
  congr 1
  funext j
  unfold updV
  by_cases h : j = i
  · rw [if_pos h, if_pos (by omega), h]
  · rw [if_neg h]
    show (if j < i then Value.ref (z + 1 + j) else .null) = _
    by_cases h2 : j < i
    · rw [if_pos h2, if_pos (by omega)]
    · rw [if_neg h2, if_neg (by omega)]
/-- the state behind i rows -/
def gx_mf (T : State) (cA cI : ClassId) (n k : Nat) (dv : Value) : Nat → State
  | 0 => T.pushCell (gx_mo cA n T.heap.size 0)
  | i + 1 => ((gx_mf T cA cI n k dv i).pushCell (arrV cI k (fun _ => dv))).setCell T.heap.size (gx_mo cA n T.heap.size (i + 1))
theorem gx_mf_facts (T : State) (cA cI : ClassId) (n k : Nat) (dv : Value) (i : Nat) : (gx_mf T cA cI n k dv i).heap.size = T.heap.size + 1 + i ∧ (gx_mf T cA cI n k dv i).heap[T.heap.size]? = some (gx_mo cA n T.heap.size i) ∧ (gx_mf T cA cI n k dv i).vm = T.vm ∧ (gx_mf T cA cI n k dv i).slotsUsed = T.slotsUsed + n + i * k := by
  induction i with
  | zero =>
    refine ⟨size_pushCell _ _, State.heap_pushCell_size _ _, rfl, ?_⟩
    show T.slotsUsed + (gx_mo cA n T.heap.size 0).slots.size = _
    unfold gx_mo
    rw [arrV_size, Nat.zero_mul]
    rfl
  | succ i ih =>
    obtain ⟨h1, h2, h3, h4⟩ := ih
    have hlt : T.heap.size < (gx_mf T cA cI n k dv i).heap.size := by omega
    refine ⟨?_, ?_, h3, ?_⟩
    · show (State.setCell _ _ _).heap.size = _
      rw [size_setCell, size_pushCell, h1]
      omega
    · refine State.heap_setCell_self (c := gx_mo cA n T.heap.size i) ?_
      rw [State.heap_pushCell_of_lt (h := hlt)]
      exact h2
    · show (gx_mf T cA cI n k dv i).slotsUsed + (arrV cI k (fun _ => dv)).slots.size = _
      rw [arrV_size, h4, Nat.succ_mul]
      omega
theorem gx_mf_top (T : State) (f : JFrame) (cA cI : ClassId) (n k : Nat) (dv : Value) (i : Nat) : gx_mf (T.setTop f) cA cI n k dv i = (gx_mf T cA cI n k dv i).setTop f := by
  induction i with
  | zero => rfl
  | succ i ih =>
    show ((gx_mf (T.setTop f) cA cI n k dv i).pushCell _).setCell (T.setTop f).heap.size _ = _
    rw [ih]
    rfl
section
variable {E : CtlPost} {e : Env} {d : Bool} {acts : List Action} {s : State}
/-- one array is made -/
theorem gx_wpna {c comp : ClassId} {k : Class} {ty : FieldType} {n : Nat} {v : Value} (hk : s.vm.classes[c]? = some k) (hkind : k.kind = .array comp ty) (hl : ¬ n > e.platform.arrayLengthLimit) (hh : ¬ n * componentBytes ty > e.platform.maxHeapBytes) (hf : fits ty v = true) (hd : v.isDefault = true) (h1 : s.heap.size < e.platform.maxCells) (h2 : s.slotsUsed + n ≤ e.platform.maxSlots) {Q : Addr → Pre}
    (hq : Q s.heap.size d acts (s.pushCell (arrV c n (fun _ => v)))) : wp (Jvm.newArray c n v) Q E e d acts s := by
  have ha : allocActs (Array.replicate n v) s.heap.size acts = acts := by
    unfold allocActs
    rw [if_pos]
    rw [Array.all_replicate]
    split
    · rfl
    · exact hd
  have hs : ∀ (i : Nat) (w : Value), (Array.replicate n v)[i]? = some w → s.fitsSlot c .none i w = true := by
    intro i w hw
    rw [Array.getElem?_replicate] at hw
    split at hw
    · cases hw
      simp [State.fitsSlot, State.slotType?, hk, hkind, hf]
    · cases hw
  simp only [Jvm.newArray, Jvm.arrayFits, wp_bind', W.ask, W.ite, hl, if_false, wp_pure', W.theClass, hk, hkind, hh, W.alloc, W.stop, Option.some.injEq, exists_eq_left', Array.size_replicate, ha]
  rw [if_neg (by omega)]
  refine ⟨h1, h2, hs, ?_⟩
  rw [arrV_new]
  exact hq
/-- an array of n arrays of k -/
theorem gx_wpmake {c comp cc : ClassId} {kA kC : Class} {t0 ty : FieldType} {n k : Int32} (hkA : s.vm.classes[c]? = some kA) (hkA2 : kA.kind = .array comp (.array t0)) (hkC : s.vm.classes[comp]? = some kC) (hkC2 : kC.kind = .array cc ty) (hn : ¬ n < 0) (hk : ¬ k < 0)
    (hl1 : ¬ n.toNatClampNeg > e.platform.arrayLengthLimit) (hh1 : ¬ n.toNatClampNeg * componentBytes (.array t0) > e.platform.maxHeapBytes) (hl2 : ¬ k.toNatClampNeg > e.platform.arrayLengthLimit) (hh2 : ¬ k.toNatClampNeg * componentBytes ty > e.platform.maxHeapBytes)
    (hdf : fits ty (defaultValue ty) = true) (hdd : (defaultValue ty).isDefault = true) (hc : s.heap.size + 1 + n.toNatClampNeg ≤ e.platform.maxCells) (hs : s.slotsUsed + n.toNatClampNeg + n.toNatClampNeg * k.toNatClampNeg ≤ e.platform.maxSlots) {Q : Addr → Pre}
    (hq : ∀ d' acts', Q s.heap.size d' acts' (gx_mf s c comp n.toNatClampNeg k.toNatClampNeg (defaultValue ty) n.toNatClampNeg)) : wp (Op.multianewarray.make c [n, k]) Q E e d acts s := by
  have hnone : List.find? (fun x : Int32 => decide (x < 0)) [k] = none := by simp [hk]
  rw [Op.multianewarray.make]
  simp only [wp_bind', W.ite, hn, if_false, wp_pure', W.theClass, hkA, hkA2, Option.some.injEq, exists_eq_left']
  refine gx_wpna hkA hkA2 hl1 hh1 rfl rfl (by omega) (by omega) ?_
  simp only [hnone]
  rw [ite_self, wp_bind', Std.Legacy.Range.forIn_eq_forIn_range']
  have hsz : ([:n.toNatClampNeg] : Std.Legacy.Range).size = n.toNatClampNeg := by simp [Std.Legacy.Range.size]
  rw [hsz]
  generalize hN : n.toNatClampNeg = N at *
  generalize hM : k.toNatClampNeg = Mk at *
  refine wp_forIn_inv (fun rest s' => ∃ i, i + rest.length = N ∧ rest = List.range' i rest.length ∧ s' = gx_mf s c comp N Mk (defaultValue ty) i) _ _ ⟨0, by simp, by simp, ?_⟩ ?_ ?_
  · show State.pushCell _ _ = State.pushCell _ (arrV _ _ _)
    congr 2
  · rintro x rest s' d' acts' Q' ⟨i, hi, hl, rfl⟩ hnext
    rw [List.length_cons, List.range'_succ] at hl
    obtain ⟨rfl, hrest⟩ := List.cons.inj hl
    rw [List.length_cons] at hi
    obtain ⟨f1, f2, f3, f4⟩ := gx_mf_facts s c comp N Mk (defaultValue ty) x
    have hmul : x * Mk + Mk ≤ N * Mk := by
      have := Nat.mul_le_mul_right Mk (show x + 1 ≤ N by omega)
      rw [Nat.succ_mul] at this
      exact this
    simp only [wp_bind']
    rw [Op.multianewarray.make]
    simp only [wp_bind', W.ite, hk, if_false, wp_pure', W.theClass, f3, hkC, hkC2, Option.some.injEq, exists_eq_left']
    rw [hM]
    refine gx_wpna (by rw [f3]; exact hkC) hkC2 hl2 hh2 hdf hdd (by rw [f1]; omega) (by rw [f4]; omega) ?_
    have hlt0 : s.heap.size < (gx_mf s c comp N Mk (defaultValue ty) x).heap.size := by rw [f1]; omega
    simp only [wp_bind', W.writeLoc, wp_pure']
    refine ⟨gx_mo c N s.heap.size x, by rw [State.heap_pushCell_of_lt (h := hlt0)]; exact f2, (fun h => by cases h), by show x < (arrV _ _ _).slots.size; rw [arrV_size]; omega, ?_, hnext _ _ _ ⟨x + 1, by omega, hrest, ?_⟩⟩
    · simp [State.fitsSlot, State.slotType?, f3, gx_mo, arrV, hkA, hkA2, fits]
    · rw [f1, gx_mo_step]
      rfl
  · rintro s' d' acts' ⟨i, hi, hl, rfl⟩
    have hi : i = N := hi
    subst hi
    simp only [wp_pure']
    exact hq _ _
end
theorem gx_mf_stand {p : Program} {l : Launch} {e : Env} {R : Room} {s : State} {m : MethodId} {args : Array Value} {below : List Frame} {meth : Method} {c : Code} {T : State} {locs : List Loc} {cells slots : Nat} (X : Stand p l e R s m args below meth c T locs cells slots) (cA cI : ClassId) (n k : Nat) (dv : Value) (i : Nat) :
    ∃ L : List Loc, (∀ q ∈ L, q.base = T.heap.size) ∧ Stand p l e R s m args below meth c (gx_mf T cA cI n k dv i) (locs ++ L) (cells + 1 + i) (slots + n + i * k) := by
  induction i with
  | zero =>
    have h := X.pushed (gx_mo cA n T.heap.size 0)
    rw [show (gx_mo cA n T.heap.size 0).slots.size = n from arrV_size _ _ _] at h
    exact ⟨[], fun q hq => (List.not_mem_nil hq).elim, by rw [List.append_nil, Nat.zero_mul]; exact h⟩
  | succ i ih =>
    obtain ⟨L, hL, Xi⟩ := ih
    obtain ⟨f1, f2, -, -⟩ := gx_mf_facts T cA cI n k dv i
    have hlt : T.heap.size < (gx_mf T cA cI n k dv i).heap.size := by omega
    have h := (Xi.pushed (arrV cI k (fun _ => dv))).stored (a := T.heap.size) (cell := gx_mo cA n T.heap.size i) (by rw [State.heap_pushCell_of_lt (h := hlt)]; exact f2) i (.ref (T.heap.size + 1 + i))
    rw [arrV_size, gx_mo_step, List.append_assoc] at h
    refine ⟨L ++ [⟨T.heap.size, i⟩], fun q hq => ?_, ?_⟩
    · rcases List.mem_append.mp hq with h | h
      · exact hL q h
      · rw [List.mem_singleton.mp h]
    · rw [Nat.succ_mul, ← Nat.add_assoc, ← Nat.add_assoc]
      exact h
theorem gx_Wmulti {p : Program} {l : Launch} {e : Env} {R : Room} {s : State} {m : MethodId} {args : Array Value} {below : List Frame} {meth : Method} {c : Code} {H : Heap} {locs : List Loc} {cells slots : Nat} {Q : State → Prop} {cc : ByteArray} (hexec : p.tables.exec = Jvm.exec) (hb : c.code = cc) {own C : String} {index : Nat} {ty : FieldType} (hown : s.vm.findClass own = some m.cls) (hC : "[" ++ (FieldType.array ty).toString = C) (hclink : (Cond.classLink own index C).before args s = true) (hover : (Cond.arrayOver (.array ty)).before args s = true) (harr : (Cond.arrayClass ty).before args s = true)
    {g : JFrame} (hg : g.method = m) (hdg : decode cc g.pc = .ok (.multianewarray index 2, 4)) {n k : Int32} {rest : List Value} (hstack : g.stack = .int k :: .int n :: rest) (hn : ¬ n < 0) (hk : ¬ k < 0) (hn2 : n.toNatClampNeg ≤ 1000000) (hk2 : k.toNatClampNeg ≤ 1000000) (hdf : fits ty (defaultValue ty) = true) (hdd : (defaultValue ty).isDefault = true)
    (hcells : cells + (1 + n.toNatClampNeg) ≤ R.cells) (hslots : slots + (n.toNatClampNeg + n.toNatClampNeg * k.toNatClampNeg) ≤ R.slots)
    (kk : ∀ (cA comp : ClassId), s.vm.findClass C = some cA → s.vm.findClass (FieldType.array ty).toString = some comp → ∀ (T : State) (L : List Loc), T.heap = H → (∀ q ∈ L, q.base = H.size) → W p l e R s m args below meth c (gx_mf T cA comp n.toNatClampNeg k.toNatClampNeg (defaultValue ty) n.toNatClampNeg).heap (locs ++ L) (cells + 1 + n.toNatClampNeg) (slots + n.toNatClampNeg + n.toNatClampNeg * k.toNatClampNeg) Q { g with pc := g.pc + 4, stack := .ref H.size :: rest }) : W p l e R s m args below meth c H locs cells slots Q g := by
  subst hC
  intro T hT X
  subst hT; subst hb; subst hg
  have hpl : e.platform.magicAccessors = ({} : Platform).magicAccessors := by rw [X.admits.platform]
  obtain ⟨comp, cA, kA, hcomp, -, hkA, hkindA, hnameA⟩ := arrayOverA_spec hover
  obtain ⟨comp', kC, cc', hcomp', hkC, hkindC⟩ := Cond.arrayClass_spec harr
  have ecomp : comp' = comp := Option.some.inj (hcomp'.symm.trans hcomp)
  subst ecomp
  obtain ⟨c0, hfc, hcl⟩ := Cond.classLink_spec hown hclink e.platform hpl
  cases hnameA.symm.trans hfc
  obtain ⟨hg₁, hwarm₁, hready₁⟩ := State.classEntry (e := e) X.warmed hcl
  generalize T.vm.noted g.method.cls index (.cls cA) = vm₁ at hg₁ hwarm₁ hready₁
  have hal : s.vm.Alike vm₁ := hwarm₁.alike
  obtain ⟨kA₁, hkA₁, heA⟩ := hal.2.2 _ _ hkA
  obtain ⟨kC₁, hkC₁, heC⟩ := hal.2.2 _ _ hkC
  have hkindA₁ : kA₁.kind = .array comp' (.array ty) := by rw [heA]; exact hkindA
  have hkindC₁ : kC₁.kind = .array cc' ty := by rw [heC]; exact hkindC
  have X₁ := X.noted hwarm₁
  obtain ⟨hr1, hr2⟩ := X.roomAbove hcells hslots
  obtain ⟨L, hL, XF⟩ := gx_mf_stand X₁ cA comp' n.toNatClampNeg k.toNatClampNeg (defaultValue ty) n.toNatClampNeg
  obtain ⟨t', a1, b1⟩ := kk cA comp' hnameA hcomp (T.setVm vm₁) L rfl hL _ rfl XF
  refine ⟨t', ?_, b1⟩
  have hcb : componentBytes ty ≤ 8 := gx_cb
  have hmul := Nat.mul_le_mul hk2 hcb
  have hl1 : ¬ n.toNatClampNeg > e.platform.arrayLengthLimit := by rw [Launch.admits_arrayLengthLimit X.admits]; omega
  have hh1 : ¬ n.toNatClampNeg * componentBytes (.array ty) > e.platform.maxHeapBytes := by
    rw [Launch.admits_maxHeapBytes X.admits]; show ¬ n.toNatClampNeg * 4 > 536870912; omega
  have hl2 : ¬ k.toNatClampNeg > e.platform.arrayLengthLimit := by rw [Launch.admits_arrayLengthLimit X.admits]; omega
  have hh2 : ¬ k.toNatClampNeg * componentBytes ty > e.platform.maxHeapBytes := by rw [Launch.admits_maxHeapBytes X.admits]; omega
  jvm_step X.here [hexec, hdg]
  simp only [Op.multianewarray.sem, wp_bind', W.resolveClassAt_links (State.method?_setTop g X.here.top) hg₁]
  rw [W.popN, if_neg (by decide)]
  refine ⟨g, State.topJava?_setTop' (s := T.setVm vm₁) g X.here.top, [.int n, .int k], rest, rfl, hstack, ?_⟩
  simp only [List.mapM_cons, List.mapM_nil, wp_bind', wp_pure']
  refine gx_wpmake (kA := kA₁) (kC := kC₁) (comp := comp') (cc := cc') hkA₁ hkindA₁ hkC₁ hkindC₁ hn hk hl1 hh1 hl2 hh2 hdf hdd (by show T.heap.size + 1 + _ ≤ _; omega) (by show T.slotsUsed + _ + _ ≤ _; omega) (fun d' acts' => ?_)
  have eS : ((T.setTop g).setVm vm₁).setTop { g with stack := rest } = (T.setVm vm₁).setTop { g with stack := rest } := by
    show ((T.setVm vm₁).setTop g).setTop _ = _
    rw [State.setTop_setTop]
  rw [eS, gx_mf_top]
  simp only [wp_bind', W.mark, W.pushRef, State.topJava?_setTop' _ XF.here.top, Option.some.injEq, exists_eq_left', State.setTop_setTop, State.heap_setTop]
  intro acts
  simp [jvm, XF.here.top]
  exact a1
/-- what the rows' state has -/
theorem gx_rows_facts {S : gx_St} {a : gx_Nm} {t t2 m n : Nat} (ht : t < 10) (ht4 : 4 ≤ t) (het : gx_et t = 100 + t2) (hwf : gx_Wf S) (hfr : hp_H S a = 0) (hfi : ∀ i, i < m → hp_H S (i :: a) = 0) (i : Nat) (hi : i ≤ m) :
    (hp_H (gx_rows (hp_mk S (100 + t) m a) (100 + t2) n a i) a = 100 + t ∧ hp_A (gx_rows (hp_mk S (100 + t) m a) (100 + t2) n a i) a = hp_C S ∧ hp_N (gx_rows (hp_mk S (100 + t) m a) (100 + t2) n a i) a = m ∧ hp_C (gx_rows (hp_mk S (100 + t) m a) (100 + t2) n a i) = hp_C S + 1 + i ∧ hp_Z (gx_rows (hp_mk S (100 + t) m a) (100 + t2) n a i) = hp_Z S + m + i * n) ∧ (∀ j, i ≤ j → j < m → hp_H (gx_rows (hp_mk S (100 + t) m a) (100 + t2) n a i) (j :: a) = 0) ∧ gx_Le S (gx_rows (hp_mk S (100 + t) m a) (100 + t2) n a i) ∧ gx_Wf (gx_rows (hp_mk S (100 + t) m a) (100 + t2) n a i) := by
  have hna : ∀ j : Nat, j :: a ≠ a := fun j h => by
    have := congrArg List.length h
    simp at this
  induction i with
  | zero =>
    refine ⟨⟨gx_u1_s _ _ _, gx_u1_s _ _ _, gx_u1_s _ _ _, rfl, ?_⟩, fun j _ hj => ?_, gx_Le.mk hfr, hwf.new hfr (fun cj hcj => by omega)⟩
    · show hp_Z S + m = _
      omega
    · show gx_u1 (hp_H S) a _ (j :: a) = 0
      rw [gx_u1_n _ _ _ (hna j)]
      exact hfi j hj
  | succ i ih =>
    obtain ⟨⟨f1, f2, f3, f4, f5⟩, fz, fl, fw⟩ := ih (by omega)
    generalize hSi : gx_rows (hp_mk S (100 + t) m a) (100 + t2) n a i = Si at *
    have hgo : gx_rows (hp_mk S (100 + t) m a) (100 + t2) n a (i + 1) = hp_wr (hp_mk Si (100 + t2) n (i :: a)) a i (some (i :: a)) := by rw [← hSi]; rfl
    rw [hgo]
    have hfr2 := fz i (Nat.le_refl _) (by omega)
    have w1 : gx_Wf (hp_mk Si (100 + t2) n (i :: a)) := fw.new hfr2 (fun cj hcj => by omega)
    have h1 : hp_H (hp_mk Si (100 + t2) n (i :: a)) a = 100 + t := (gx_u1_n _ _ _ (hna i).symm).trans f1
    have h1i : hp_H (hp_mk Si (100 + t2) n (i :: a)) (i :: a) = 100 + t2 := gx_u1_s _ _ _
    refine ⟨⟨h1, (gx_u1_n _ _ _ (hna i).symm).trans f2, (gx_u1_n _ _ _ (hna i).symm).trans f3, ?_, ?_⟩, fun j hj hjm => ?_, fl.tr ((gx_Le.mk hfr2).tr (gx_Le.wr _ _ _ _)), ?_⟩
    · show hp_C Si + 1 = _
      omega
    · show hp_Z Si + n = _
      rw [f5, Nat.succ_mul]
      omega
    · show gx_u1 (hp_H Si) (i :: a) _ (j :: a) = 0
      rw [gx_u1_n _ _ _ (fun h => by have := (List.cons.inj h).1; omega)]
      exact fz j (by omega) hjm
    · refine w1.arr (S2 := hp_wr (hp_mk Si (100 + t2) n (i :: a)) a i (some (i :: a))) h1 rfl rfl rfl rfl (fun _ _ _ => rfl) (fun b j h => gx_u2_n _ _ _ _ (Or.inl h)) (fun j x _ _ hj hx => ?_) (fun h => absurd h (by omega))
      by_cases hji : j = i
      · have hx : gx_u2 (hp_R (hp_mk Si (100 + t2) n (i :: a))) a i (some (i :: a)) a j = some x := hx
        rw [hji, gx_u2_s] at hx
        cases hx
        rw [h1i, het]
      · have hx : gx_u2 (hp_R (hp_mk Si (100 + t2) n (i :: a))) a i (some (i :: a)) a j = some x := hx
        rw [gx_u2_n _ _ _ _ (Or.inr hji)] at hx
        exact w1.2.2.2.2.1 a t j x ht ht4 h1 hj hx
theorem gx_rows_heap {Y : gx_Y} {S : gx_St} {T : State} {a : gx_Nm} {t t2 m n : Nat} (ht : t < 10) (ht4 : 4 ≤ t) (ht2 : t2 < 10) (het : gx_et t = 100 + t2) (hwf : gx_Wf S) (hfr : hp_H S a = 0) (hfi : ∀ i, i < m → hp_H S (i :: a) = 0) (hR : gx_Rq Y S T.heap) (i : Nat) (hi : i ≤ m) :
    gx_Rq Y (gx_rows (hp_mk S (100 + t) m a) (100 + t2) n a i) (gx_mf T (Y.2.2.2.1 t) (Y.2.2.2.1 t2) m n (defaultValue (gx_ety t2)) i).heap := by
  have hna : ∀ j : Nat, j :: a ≠ a := fun j h => by
    have := congrArg List.length h
    simp at this
  have hsz : T.heap.size = Y.2.1 + hp_C S := hR.1.1
  induction i with
  | zero =>
    refine gx_Hp.new hR hwf hfr (size_pushCell _ _) (fun q hq => State.heap_pushCell_of_lt _ _ hq) (fun cj hcj h => absurd h (by omega)) (fun u hu h => ?_)
    have : u = t := by omega
    subst this
    rw [← hsz]
    show (T.pushCell (gx_mo _ _ _ 0)).heap[T.heap.size]? = _
    rw [State.heap_pushCell_size]
    unfold gx_mo
    rw [if_neg (by omega), if_neg (by omega)]
    rfl
  | succ i ih =>
    have ih := ih (by omega)
    obtain ⟨⟨f1, f2, f3, f4, f5⟩, fz, fl, fw⟩ := gx_rows_facts (n := n) ht ht4 het hwf hfr hfi i (by omega)
    obtain ⟨k1, k2, -, -⟩ := gx_mf_facts T (Y.2.2.2.1 t) (Y.2.2.2.1 t2) m n (defaultValue (gx_ety t2)) i
    have hlt : T.heap.size < (gx_mf T (Y.2.2.2.1 t) (Y.2.2.2.1 t2) m n (defaultValue (gx_ety t2)) i).heap.size := by omega
    generalize hSi : gx_rows (hp_mk S (100 + t) m a) (100 + t2) n a i = Si at *
    have hgo : gx_rows (hp_mk S (100 + t) m a) (100 + t2) n a (i + 1) = hp_wr (hp_mk Si (100 + t2) n (i :: a)) a i (some (i :: a)) := by rw [← hSi]; rfl
    rw [hgo]
    have hfr2 := fz i (Nat.le_refl _) (by omega)
    have w1 : gx_Wf (hp_mk Si (100 + t2) n (i :: a)) := fw.new hfr2 (fun cj hcj => by omega)
    have h1 : hp_H (hp_mk Si (100 + t2) n (i :: a)) a = 100 + t := (gx_u1_n _ _ _ (hna i).symm).trans f1
    have h2 : hp_A (hp_mk Si (100 + t2) n (i :: a)) a = hp_C S := (gx_u1_n _ _ _ (hna i).symm).trans f2
    have h3 : hp_A (hp_mk Si (100 + t2) n (i :: a)) (i :: a) = hp_C Si := gx_u1_s _ _ _
    have hRn : gx_Rq Y (hp_mk Si (100 + t2) n (i :: a)) ((gx_mf T (Y.2.2.2.1 t) (Y.2.2.2.1 t2) m n (defaultValue (gx_ety t2)) i).pushCell (arrV (Y.2.2.2.1 t2) n (fun _ => defaultValue (gx_ety t2)))).heap := by
      refine gx_Hp.new ih fw hfr2 (size_pushCell _ _) (fun q hq => State.heap_pushCell_of_lt _ _ hq) (fun cj hcj h => absurd h (by omega)) (fun u hu h => ?_)
      have : u = t2 := by omega
      subst this
      have e : Y.2.1 + hp_C Si = (gx_mf T (Y.2.2.2.1 t) (Y.2.2.2.1 u) m n (defaultValue (gx_ety u)) i).heap.size := by omega
      rw [e, State.heap_pushCell_size, gx_av0 u hu]
    have hat := hRn.2.2 a t ht h1
    rw [h2, ← hsz, State.heap_pushCell_of_lt (h := hlt), k2] at hat
    have hcell := Option.some.inj hat
    refine gx_Hp.arr hRn w1 ht h1 (S2 := hp_wr (hp_mk Si (100 + t2) n (i :: a)) a i (some (i :: a))) ?_ (size_setCell _ _ _) (fun q hq => ?_) rfl rfl rfl rfl (fun _ _ _ => rfl) (fun b j h => gx_u2_n _ _ _ _ (Or.inl h)) (fun _ _ _ => rfl)
    · rw [h2, ← hsz]
      show (State.setCell _ T.heap.size (gx_mo _ _ _ (i + 1))).heap[T.heap.size]? = _
      rw [State.heap_setCell_self (c := gx_mo (Y.2.2.2.1 t) m T.heap.size i) (by rw [State.heap_pushCell_of_lt (h := hlt)]; exact k2), ← gx_mo_step, hcell]
      unfold gx_cell
      rw [arrV_store]
      congr 2
      funext j
      unfold updV
      rw [gx_av_r ht4, gx_av_r ht4]
      by_cases hj : j = i
      · rw [if_pos hj, hj]
        show _ = gx_rv _ _ (gx_u2 (hp_R (hp_mk Si (100 + t2) n (i :: a))) a i (some (i :: a)) a i)
        rw [gx_u2_s]
        show _ = Value.ref (Y.2.1 + hp_A (hp_mk Si (100 + t2) n (i :: a)) (i :: a))
        rw [h3, f4, hsz]
        exact congrArg Value.ref (show (Y.2.1 + hp_C S + 1 + i : Nat) = Y.2.1 + (hp_C S + 1 + i) by omega)
      · rw [if_neg hj]
        show _ = gx_rv _ _ (gx_u2 (hp_R (hp_mk Si (100 + t2) n (i :: a))) a i (some (i :: a)) a j)
        rw [gx_u2_n _ _ _ _ (Or.inr hj)]
        rfl
    · have hq : T.heap.size ≠ q := by rw [hsz, ← h2]; exact Ne.symm hq
      exact State.heap_setCell_other hq
section
variable {Y : gx_Y} {μ : gx_U} {ρ α : Type} {O : gx_Ob ρ} {pc : Nat} {lv : List (Nat × gx_A)} {st : List gx_A} {k : α → gx_M ρ}
/-- multianewarray of two dimensions -/
theorem gx_Jn2 {a : gx_Nm} {n1 n2 : Int32} {m n t t2 c0 c2 ix : Nat} {own C : String} {ty : FieldType} {g : Unit → gx_M α} (ht : t < 10) (ht4 : 4 ≤ t) (ht2 : t2 < 3) (hc0 : c0 = 100 + t) (hc2 : c2 = 100 + t2) (het : gx_et t = 100 + t2) (h1 : n1.toNatClampNeg = m ∧ ¬ n1 < 0 ∧ m ≤ 1000000) (h2 : n2.toNatClampNeg = n ∧ ¬ n2 < 0 ∧ n ≤ 1000000) (hty : gx_ety t2 = ty) (hty2 : gx_ety t = .array ty) (hC : "[" ++ (FieldType.array ty).toString = C) (hC3 : fits ty (defaultValue ty) = true ∧ (defaultValue ty).isDefault = true) (ho : μ.2.1 = own) (hcl : Cond.classLink own ix C ∈ lw_all) (hov : Cond.arrayOver (.array ty) ∈ lw_tbl) (har : Cond.arrayClass ty ∈ lw_all) (hd : decode μ.1 pc = .ok (.multianewarray ix 2, 4))
    (K : gx_J Y μ O (pc + 4) lv (gx_r c0 (some a) :: st) (g ()) k) : gx_J Y μ O pc lv (gx_i n2 :: gx_i n1 :: st) (gx_bd (gx_n2 c0 c2 m n a) g) k := by
  subst ho
  subst hc0
  subst hc2
  subst hty
  obtain ⟨rfl, hn1, hm⟩ := h1
  obtain ⟨rfl, hn2, hn⟩ := h2
  intro S S' r hf hwf hok
  rw [gx_bd_as] at hf
  obtain ⟨x, S1, q1, q2⟩ := gx_bd_some hf
  unfold gx_n2 at q1
  split at q1
  case isFalse => cases q1
  case isTrue hh =>
    obtain ⟨hfr, hfi⟩ := hh
    have hfi : ∀ i, i < n1.toNatClampNeg → hp_H S (i :: a) = 0 := fun i hi => of_decide_eq_true (List.all_eq_true.mp hfi i (List.mem_range.mpr hi))
    obtain ⟨⟨f1, f2, f3, f4, f5⟩, -, fl, fw⟩ := gx_rows_facts (n := n2.toNatClampNeg) ht ht4 het hwf hfr hfi n1.toNatClampNeg (Nat.le_refl _)
    have hS1 := (Prod.mk.inj (Option.some.inj q1)).2
    rw [hS1] at f1 f2 f3 f4 f5 fl fw
    have hok1 : gx_ok S lv st := ⟨hok.1, fun v hv => hok.2 v (List.mem_cons_of_mem _ (List.mem_cons_of_mem _ hv))⟩
    have hok2 : gx_ok S1 lv (gx_r (100 + t) (some a) :: st) := ⟨(fl.ok hok1).1, gx_w1 (gx_wt.of f1 (by omega)) gx_t0 (fl.ok hok1)⟩
    obtain ⟨hle, hV⟩ := K S1 S' r q2 fw hok2
    have v1 := hle.1.1
    have v2 := hle.1.2.1
    refine ⟨⟨fl.tr hle.1, hle.2⟩, fun p e R s m args below meth c c0 k0 hCC H locs ls cells slots hR _ hl hL j1 j2 j3 j4 => ?_⟩
    have hsz : H.size = Y.2.1 + hp_C S := hR.1.1
    refine gx_Wmulti (ty := gx_ety t2) hCC.1 hCC.2.1 hCC.2.2.2.1 hC (hCC.2.2.2.2.1 _ hcl) ?_ (hCC.2.2.2.2.1 _ har) rfl hd rfl hn1 hn2 hm hn hC3.1 hC3.2 (by omega) (by omega) (fun cA comp g1 g2 T L hT hLL => ?_)
    · have hb := hCC.2.2.2.2.2.1.2.2.1 _ hov
      exact hb
    · have ra1 := (hCC.2.2.2.2.2.1.1.2 t _ (gx_TY_at _ t ht)).2
      have ra2 := (hCC.2.2.2.2.2.1.1.2 t2 _ (gx_TY_at _ t2 (by omega))).2
      have e1 : cA = Y.2.2.2.1 t := by
        rw [hty2] at ra1
        rw [← hC] at g1
        exact Option.some.inj (g1.symm.trans ra1)
      have e2 : comp = Y.2.2.2.1 t2 := by
        have ra2' : s.vm.findClass (FieldType.array (gx_ety t2)).toString = some (Y.2.2.2.1 t2) := by
          match t2, ht2 with
          | 0, _ => exact ra2
          | 1, _ => exact ra2
          | 2, _ => exact ra2
        exact Option.some.inj (g2.symm.trans ra2')
      subst e1
      subst e2
      have hR2 := gx_rows_heap (T := T) (n := n2.toNatClampNeg) ht ht4 (by omega) het hwf hfr hfi (by rw [hT]; exact hR) n1.toNatClampNeg (Nat.le_refl _)
      rw [hS1] at hR2
      have hV2 := hV p e R s m args below meth c c0 k0 hCC _ (locs ++ L) ls (cells + 1 + n1.toNatClampNeg) (slots + n1.toNatClampNeg + n1.toNatClampNeg * n2.toNatClampNeg) hR2 hok2 (by rw [fl.lvs hok.1]; exact hl) (fun q hq => by
        rcases List.mem_append.mp hq with h | h
        · exact hL q h
        · rw [hLL q h, hsz]; exact Nat.le_add_right _ _) (by omega) (by omega) j3 j4
      have e3 : (gx_r (100 + t) (some a) :: st).map (gx_cv Y.2.1 (hp_A S1)) = Value.ref H.size :: st.map (gx_cv Y.2.1 (hp_A S)) := by
        rw [← fl.sts hok1.2]
        show Value.ref (Y.2.1 + hp_A S1 a) :: _ = _
        rw [f2, hsz]
      rw [e3] at hV2
      exact hV2
end
