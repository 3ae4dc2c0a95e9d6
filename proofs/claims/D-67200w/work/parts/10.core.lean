/-! ===== CORE: the abstract heap (names for references), the monad, the operations ===== -/
/-- a name of an object or array: where it hangs -/
abbrev gx_Nm : Type := List Nat
/-- abstract state: shape, address, length; ints and references of fields and elements; longs; cells, slots -/
abbrev gx_St : Type := (gx_Nm → Nat) × (gx_Nm → Nat) × (gx_Nm → Nat) × (gx_Nm → Nat → Int32) × (gx_Nm → Nat → Option gx_Nm) × (gx_Nm → Nat → Int64) × Nat × Nat
def hp_H (S : gx_St) : gx_Nm → Nat := S.1
def hp_A (S : gx_St) : gx_Nm → Nat := S.2.1
def hp_N (S : gx_St) : gx_Nm → Nat := S.2.2.1
def hp_I (S : gx_St) : gx_Nm → Nat → Int32 := S.2.2.2.1
def hp_R (S : gx_St) : gx_Nm → Nat → Option gx_Nm := S.2.2.2.2.1
def hp_L (S : gx_St) : gx_Nm → Nat → Int64 := S.2.2.2.2.2.1
def hp_C (S : gx_St) : Nat := S.2.2.2.2.2.2.1
def hp_Z (S : gx_St) : Nat := S.2.2.2.2.2.2.2
def gx_u1 {α : Type} (f : gx_Nm → α) (a : gx_Nm) (v : α) : gx_Nm → α := fun b => if b = a then v else f b
def gx_u2 {α : Type} (f : gx_Nm → Nat → α) (a : gx_Nm) (k : Nat) (v : α) : gx_Nm → Nat → α := fun b j => if b = a ∧ j = k then v else f b j
/-- an int, a reference, a long is written -/
def hp_wi (S : gx_St) (a : gx_Nm) (k : Nat) (v : Int32) : gx_St := (hp_H S, hp_A S, hp_N S, gx_u2 (hp_I S) a k v, hp_R S, hp_L S, hp_C S, hp_Z S)
def hp_wr (S : gx_St) (a : gx_Nm) (k : Nat) (v : Option gx_Nm) : gx_St := (hp_H S, hp_A S, hp_N S, hp_I S, gx_u2 (hp_R S) a k v, hp_L S, hp_C S, hp_Z S)
def hp_wl (S : gx_St) (a : gx_Nm) (k : Nat) (v : Int64) : gx_St := (hp_H S, hp_A S, hp_N S, hp_I S, hp_R S, gx_u2 (hp_L S) a k v, hp_C S, hp_Z S)
/-- a new cell of shape c with n places, named a -/
def hp_mk (S : gx_St) (c n : Nat) (a : gx_Nm) : gx_St := (gx_u1 (hp_H S) a c, gx_u1 (hp_A S) a (hp_C S), gx_u1 (hp_N S) a n, gx_u1 (hp_I S) a (fun _ => 0), gx_u1 (hp_R S) a (fun _ => none), gx_u1 (hp_L S) a (fun _ => 0), hp_C S + 1, hp_Z S + n)
/-- an object whose constructor has ended -/
def hp_fu (S : gx_St) (a : gx_Nm) : gx_St := (gx_u1 (hp_H S) a (hp_H S a - 29), hp_A S, hp_N S, hp_I S, hp_R S, hp_L S, hp_C S, hp_Z S)
/-- the first n places of a go to b -/
def hp_cp (S : gx_St) (a b : gx_Nm) (n : Nat) : gx_St := (hp_H S, hp_A S, hp_N S, gx_u1 (hp_I S) b (fun j => if j < n then hp_I S a j else hp_I S b j), hp_R S, hp_L S, hp_C S, hp_Z S)
/-- so many cells of so many slots that no name leads to -/
def hp_ex (S : gx_St) (c z : Nat) : gx_St := (hp_H S, hp_A S, hp_N S, hp_I S, hp_R S, hp_L S, hp_C S + c, hp_Z S + z)
abbrev gx_M (α : Type) : Type := gx_St → Option (α × gx_St)
def gx_bd {α β : Type} (f : gx_M α) (k : α → gx_M β) : gx_M β := fun S => match f S with
  | none => none
  | some (a, S1) => k a S1
def gx_rt {α : Type} (a : α) : gx_M α := fun S => some (a, S)
def gx_no {α : Type} : gx_M α := fun _ => none
/-- a call that may throw -/
def gx_bx {α β : Type} (f : gx_M (α ⊕ Nat)) (k : α → gx_M (β ⊕ Nat)) : gx_M (β ⊕ Nat) := gx_bd f (fun o => match o with
  | .inl a => k a
  | .inr e => gx_rt (.inr e))
theorem gx_bd_some {α β : Type} {f : gx_M α} {k : α → gx_M β} {S S2 : gx_St} {b : β} (h : gx_bd f k S = some (b, S2)) : ∃ a S1, f S = some (a, S1) ∧ k a S1 = some (b, S2) := by
  unfold gx_bd at h
  cases hf : f S with
  | none => rw [hf] at h; cases h
  | some q =>
    obtain ⟨a, S1⟩ := q
    rw [hf] at h
    exact ⟨a, S1, rfl, h⟩
theorem gx_bd_of {α β : Type} {f : gx_M α} {k : α → gx_M β} {S S1 : gx_St} {a : α} (h : f S = some (a, S1)) : gx_bd f k S = k a S1 := by
  unfold gx_bd
  rw [h]
theorem gx_bx_of {α β : Type} {f : gx_M (α ⊕ Nat)} {k : α → gx_M (β ⊕ Nat)} {S S1 : gx_St} {a : α} (h : f S = some (.inl a, S1)) : gx_bx f k S = k a S1 := gx_bd_of h
theorem gx_bx_ex {α β : Type} {f : gx_M (α ⊕ Nat)} {k : α → gx_M (β ⊕ Nat)} {S S1 : gx_St} {e : Nat} (h : f S = some (.inr e, S1)) : gx_bx f k S = some (.inr e, S1) := gx_bd_of h
theorem gx_bd_rt {α β : Type} (a : α) (k : α → gx_M β) : gx_bd (gx_rt a) k = k a := rfl
theorem gx_bd_as {α β γ : Type} (f : gx_M α) (g : α → gx_M β) (k : β → gx_M γ) : gx_bd (gx_bd f g) k = gx_bd f (fun a => gx_bd (g a) k) := by
  funext S
  unfold gx_bd
  cases f S with
  | none => rfl
  | some q => rfl
theorem gx_bd_ite {α β : Type} (c : Prop) [Decidable c] (f g : gx_M α) (k : α → gx_M β) : gx_bd (if c then f else g) k = if c then gx_bd f k else gx_bd g k := by
  split <;> rfl
theorem gx_rt_ite {α : Type} (c : Prop) [Decidable c] (a b : α) : (if c then gx_rt a else gx_rt b) = gx_rt (if c then a else b) := by
  split <;> rfl
def gx_in (i : Int32) (n : Nat) : Bool := decide (¬ (i < 0 ∨ n ≤ i.toNatClampNeg))
theorem gx_in_vp {i : Int32} {n : Nat} (h : gx_in i n = true) : vp_in i n := show ¬ (i < 0 ∨ n ≤ i.toNatClampNeg) from of_decide_eq_true h
/-- a reference that must not be null -/
def gx_nn (r : Option gx_Nm) : gx_M gx_Nm := fun S => match r with
  | none => none
  | some a => some (a, S)
/-- a divisor that must not be 0 -/
def gx_nz (y : Int32) : gx_M Unit := fun S => if y = 0 then none else some ((), S)
/-- fields: ints, references -/
def gx_gi (a : gx_Nm) (k : Nat) : gx_M Int32 := fun S => some (hp_I S a k, S)
def gx_pi (a : gx_Nm) (k : Nat) (v : Int32) : gx_M Unit := fun S => some ((), hp_wi S a k v)
def gx_gr (a : gx_Nm) (k : Nat) : gx_M gx_Nm := fun S => match hp_R S a k with
  | none => none
  | some q => some (q, S)
def gx_pr (a : gx_Nm) (k : Nat) (q : gx_Nm) : gx_M Unit := fun S => some ((), hp_wr S a k (some q))
/-- a final field that must hold q0 -/
def gx_prs (a : gx_Nm) (k : Nat) (q q0 : gx_Nm) : gx_M Unit := fun S => if q = q0 then some ((), hp_wr S a k (some q)) else none
/-- arrays -/
def gx_ia (a : gx_Nm) (i : Int32) : gx_M Int32 := fun S => if gx_in i (hp_N S a) = true then some (hp_I S a i.toNatClampNeg, S) else none
def gx_is (a : gx_Nm) (i v : Int32) : gx_M Unit := fun S => if gx_in i (hp_N S a) = true then some ((), hp_wi S a i.toNatClampNeg v) else none
def gx_la (a : gx_Nm) (i : Int32) : gx_M Int64 := fun S => if gx_in i (hp_N S a) = true then some (hp_L S a i.toNatClampNeg, S) else none
def gx_ls (a : gx_Nm) (i : Int32) (v : Int64) : gx_M Unit := fun S => if gx_in i (hp_N S a) = true then some ((), hp_wl S a i.toNatClampNeg v) else none
def gx_ro (a : gx_Nm) (i : Int32) : gx_M (Option gx_Nm) := fun S => if gx_in i (hp_N S a) = true then some (hp_R S a i.toNatClampNeg, S) else none
def gx_ra (a : gx_Nm) (i : Int32) : gx_M gx_Nm := fun S => if gx_in i (hp_N S a) = true then (match hp_R S a i.toNatClampNeg with
  | none => none
  | some q => some (q, S)) else none
def gx_rs (a : gx_Nm) (i : Int32) (q : gx_Nm) : gx_M Unit := fun S => if gx_in i (hp_N S a) = true then some ((), hp_wr S a i.toNatClampNeg (some q)) else none
def gx_al (a : gx_Nm) : gx_M Int32 := fun S => some (nI (hp_N S a), S)
/-- how many cells there are -/
def gx_cs : gx_M Nat := fun S => some (hp_C S, S)
/-- new objects (shape 30 + kind: its constructor hasn't ended), arrays (shape 100 + type), arrays of arrays -/
def gx_nw (c n : Nat) (a : gx_Nm) : gx_M Unit := fun S => if hp_H S a = 0 then some ((), hp_mk S c n a) else none
def gx_na (c : Nat) (n : Int32) (a : gx_Nm) : gx_M Unit := fun S => if ¬ n < 0 ∧ n.toNatClampNeg ≤ 1000000 ∧ hp_H S a = 0 then some ((), hp_mk S c n.toNatClampNeg a) else none
def gx_fu (a : gx_Nm) (cs : List (Nat × gx_Nm)) : gx_M Unit := fun S => if 30 ≤ hp_H S a ∧ cs.all (fun q => decide (hp_R S a q.1 = some q.2)) = true then some ((), hp_fu S a) else none
def gx_rows (S : gx_St) (c n : Nat) (a : gx_Nm) : Nat → gx_St
  | 0 => S
  | i + 1 => hp_wr (hp_mk (gx_rows S c n a i) c n (i :: a)) a i (some (i :: a))
def gx_n2 (c c2 m n : Nat) (a : gx_Nm) : gx_M Unit := fun S => if hp_H S a = 0 ∧ (List.range m).all (fun i => decide (hp_H S (i :: a) = 0)) = true then some ((), gx_rows (hp_mk S c m a) c2 n a m) else none
/-- System.arraycopy between two arrays, both from the first place on -/
def gx_ac (a b : gx_Nm) (n : Int32) : gx_M Unit := fun S => if a ≠ b ∧ ¬ n < 0 ∧ n.toNatClampNeg ≤ hp_N S a ∧ n.toNatClampNeg ≤ hp_N S b then some ((), hp_cp S a b n.toNatClampNeg) else none
/-- an exception object -/
def gx_ex (c z : Nat) : gx_M Unit := fun S => some ((), hp_ex S c z)
def gx_ushr (x y : Int32) : Int32 := (x.toUInt32 >>> (y.toUInt32 &&& Int32.toUInt32 31)).toInt32
def gx_irem (x y : Int32) : Int32 := x - x / y * y
def gx_max (x y : Int32) : Int32 := if x < y then y else x
def gx_min (x y : Int32) : Int32 := if y < x then y else x
/-- a loop: as often as it takes -/
def gx_it {σ β : Type} (b : σ → gx_M (σ ⊕ β)) : Nat → σ → gx_M β
  | 0, _ => fun _ => none
  | n + 1, x => gx_bd (b x) (fun o => match o with
    | .inl y => gx_it b n y
    | .inr r => gx_rt r)
theorem gx_it_succ {σ β : Type} {b : σ → gx_M (σ ⊕ β)} : ∀ {n : Nat} {x : σ} {S : gx_St} {q : β × gx_St}, gx_it b n x S = some q → gx_it b (n + 1) x S = some q := by
  intro n
  induction n with
  | zero => intro x S q h; cases h
  | succ n ih =>
    intro x S q h
    obtain ⟨r, S2⟩ := q
    obtain ⟨o, S1, h1, h2⟩ := gx_bd_some (show gx_bd (b x) _ S = some (r, S2) from h)
    show gx_bd (b x) _ S = some (r, S2)
    rw [gx_bd_of h1]
    cases o with
    | inl y => exact ih h2
    | inr r => exact h2
theorem gx_it_le {σ β : Type} {b : σ → gx_M (σ ⊕ β)} {n k : Nat} {x : σ} {S : gx_St} {q : β × gx_St} (h : gx_it b n x S = some q) : gx_it b (n + k) x S = some q := by
  induction k with
  | zero => exact h
  | succ k ih => exact gx_it_succ ih
theorem gx_it_one {σ β : Type} {b : σ → gx_M (σ ⊕ β)} {n k : Nat} {x : σ} {S : gx_St} {q r : β × gx_St} (h : gx_it b n x S = some q) (h2 : gx_it b k x S = some r) : q = r := by
  have e1 := gx_it_le (k := k) h
  have e2 := gx_it_le (k := n) h2
  rw [Nat.add_comm] at e2
  exact Option.some.inj (e1.symm.trans e2)
noncomputable def gx_lp {σ β : Type} (b : σ → gx_M (σ ⊕ β)) (x : σ) : gx_M β := fun S => @dite (Option (β × gx_St)) (∃ n q, gx_it b n x S = some q) (Classical.propDecidable _) (fun h => some (Classical.choose (Classical.choose_spec h))) (fun _ => none)
theorem gx_lp_of {σ β : Type} {b : σ → gx_M (σ ⊕ β)} {x : σ} {S : gx_St} {n : Nat} {q : β × gx_St} (h : gx_it b n x S = some q) : gx_lp b x S = some q := by
  have hx : ∃ n q, gx_it b n x S = some q := ⟨n, q, h⟩
  unfold gx_lp
  rw [dif_pos hx]
  exact congrArg some (gx_it_one (Classical.choose_spec (Classical.choose_spec hx)) h)
theorem gx_lp_it {σ β : Type} {b : σ → gx_M (σ ⊕ β)} {x : σ} {S : gx_St} {q : β × gx_St} (h : gx_lp b x S = some q) : ∃ n, gx_it b n x S = some q := by
  unfold gx_lp at h
  by_cases hx : ∃ n q, gx_it b n x S = some q
  · rw [dif_pos hx] at h
    have e := Option.some.inj h
    exact ⟨Classical.choose hx, e ▸ Classical.choose_spec (Classical.choose_spec hx)⟩
  · rw [dif_neg hx] at h
    cases h
/-- a loop is its body and then the loop -/
theorem gx_lp_un {σ β : Type} (b : σ → gx_M (σ ⊕ β)) (x : σ) : gx_lp b x = gx_bd (b x) (fun o => match o with
    | .inl y => gx_lp b y
    | .inr r => gx_rt r) := by
  funext S
  cases h : gx_lp b x S with
  | some q =>
    obtain ⟨r, S2⟩ := q
    obtain ⟨n, hn⟩ := gx_lp_it h
    cases n with
    | zero => cases hn
    | succ n =>
      obtain ⟨o, S1, h1, h2⟩ := gx_bd_some (show gx_bd (b x) _ S = some (r, S2) from hn)
      rw [gx_bd_of h1]
      cases o with
      | inl y => exact (gx_lp_of h2).symm
      | inr r => exact h2.symm
  | none =>
    cases h3 : gx_bd (b x) (fun o => match o with
    | .inl y => gx_lp b y
    | .inr r => gx_rt r) S with
    | none => rfl
    | some q =>
      obtain ⟨r, S2⟩ := q
      obtain ⟨o, S1, h1, h2⟩ := gx_bd_some h3
      exfalso
      cases o with
      | inl y =>
        obtain ⟨n, hn⟩ := gx_lp_it h2
        have : gx_it b (n + 1) x S = some (r, S2) := by
          show gx_bd (b x) _ S = some (r, S2)
          rw [gx_bd_of h1]
          exact hn
        rw [gx_lp_of this] at h
        cases h
      | inr r' =>
        have : gx_it b 1 x S = some (r, S2) := by
          show gx_bd (b x) _ S = some (r, S2)
          rw [gx_bd_of h1]
          exact h2
        rw [gx_lp_of this] at h
        cases h
/-- one turn of a loop -/
theorem gx_lp_go {σ β : Type} {b : σ → gx_M (σ ⊕ β)} {x y : σ} {S S1 : gx_St} (h : b x S = some (.inl y, S1)) : gx_lp b x S = gx_lp b y S1 := by
  rw [gx_lp_un, gx_bd_of h]
theorem gx_lp_end {σ β : Type} {b : σ → gx_M (σ ⊕ β)} {x : σ} {r : β} {S S1 : gx_St} (h : b x S = some (.inr r, S1)) : gx_lp b x S = some (r, S1) := by
  rw [gx_lp_un, gx_bd_of h]
  rfl
