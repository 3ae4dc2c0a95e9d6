/-! ===== WALK 15: the script ===== -/
set_option maxRecDepth 100000
/-- the script: n ints u, in a cell below all that the run makes -/
def gx_Scr (Y : gx_Y) (a n : Nat) (u : Nat → Int32) : Prop := a < Y.2.1 ∧ ∃ cell : Cell, Y.2.2.2.2[a]? = some cell ∧ cell.cls = Y.2.2.1.1 19 ∧ (∀ x, cell.vm ≠ .statics x) ∧ cell.vm ≠ .unknown ∧ cell.slots.size = n ∧ ∀ j, j < n → cell.slots[j]? = some (.int (u j))
theorem gx_scrArr {Y : gx_Y} {s : State} {cell : Cell} (hK : gx_K Y s) (h1 : cell.cls = Y.2.2.1.1 19) (h2 : ∀ x, cell.vm ≠ .statics x) : s.isArrayOf cell .int := by
  have h := hK.2.2.2.2.2.2.2 0 (fun _ => .null)
  obtain ⟨-, k, hk, hc⟩ := h
  exact ⟨h2, k, by rw [h1]; exact hk, hc⟩
def gx_sc (n : Nat) (u : Nat → Int32) (i : Int32) : gx_M Int32 := fun S => if gx_in i n = true then some (u i.toNatClampNeg, S) else none
section
variable {Y : gx_Y} {μ : gx_U} {ρ α : Type} {O : gx_Ob ρ} {pc : Nat} {lv : List (Nat × gx_A)} {st : List gx_A} {k : α → gx_M ρ}
theorem gx_Jsc {a n : Nat} {u : Nat → Int32} {i : Int32} {g : Int32 → gx_M α} (hs : gx_Scr Y a n u) (hd : decode μ.1 pc = .ok (.iaload, 1)) (K : ∀ x, gx_J Y μ O (pc + 1) lv (gx_i x :: st) (g x) k) : gx_J Y μ O pc lv (gx_i i :: gx_x a :: st) (gx_bd (gx_sc n u i) g) k := by
  refine gx_Jval gx_i (fun _ => True) gx_t2 ?_ (fun x _ => K x)
  intro S S1 x h hwf hok
  unfold gx_sc at h
  split at h
  case isFalse => cases h
  case isTrue hin =>
    cases h
    obtain ⟨hlt, cell, h1, h2, h3, h4, h5, h6⟩ := hs
    refine ⟨rfl, trivial, trivial, ?_⟩
    intro p e R s m args below meth c H locs cells slots Q ls hC hR w
    exact W.iald hC.1 hC.2.1 (by rw [hR.1.2 a hlt]; exact h1) (gx_scrArr hC.2.2.2.2.2.1 h2 h3) h4 (by rw [h5]; exact gx_in_vp hin) (h6 _ (gx_in_lt hin)) rfl rfl hd w
theorem gx_Jsl {a n : Nat} {u : Nat → Int32} {f : gx_M α} (hs : gx_Scr Y a n u) (hd : decode μ.1 pc = .ok (.arraylength, 1)) (K : gx_J Y μ O (pc + 1) lv (gx_i (nI n) :: st) f k) : gx_J Y μ O pc lv (gx_x a :: st) f k := by
  intro S S' r hf hwf hok
  have hok2 : gx_ok S lv (gx_i (nI n) :: st) := ⟨hok.1, gx_w1 (x := gx_i (nI n)) trivial gx_t1 hok⟩
  obtain ⟨hle, hV⟩ := K S S' r hf hwf hok2
  obtain ⟨hlt, cell, h1, h2, h3, h4, h5, h6⟩ := hs
  refine ⟨hle, fun p e R s m args below meth c c0 k0 hC H locs ls cells slots hR _ hl hL j1 j2 j3 j4 => ?_⟩
  exact W.alen (n := nI n) hC.1 hC.2.1 (by rw [hR.1.2 a hlt]; exact h1) (gx_scrArr hC.2.2.2.2.2.1 h2 h3) (by rw [h5]; rfl) rfl rfl hd (hV p e R s m args below meth c c0 k0 hC H locs ls cells slots hR hok2 hl hL j1 j2 j3 j4)
end
