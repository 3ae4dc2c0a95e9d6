/-! ===== WALK 9: joins, loops, checked puts ===== -/
section
variable {Y : gx_Y} {μ : gx_U} {ρ α : Type} {O : gx_Ob ρ} {pc : Nat} {lv : List (Nat × gx_A)} {st : List gx_A} {k : α → gx_M ρ}
/-- where ways meet -/
theorem gx_Jjoin {β : Type} {g : β → gx_M α} {f0 : gx_M β} {pcJ : Nat} {lvJ : β → List (Nat × gx_A)} {stJ : β → List gx_A} (P : β → Prop) (hj : ∀ x, P x → gx_J Y μ O pcJ (lvJ x) (stJ x) (g x) k) (K : ∀ kk : β → gx_M ρ, (∀ x, P x → gx_J Y μ O pcJ (lvJ x) (stJ x) (gx_rt x) kk) → gx_J Y μ O pc lv st f0 kk) : gx_J Y μ O pc lv st (gx_bd f0 g) k :=
  gx_Jas (K _ (fun x hx => gx_Jrt (f' := g x) (k' := k) rfl (hj x hx)))
/-- where the ways of a condition meet -/
theorem gx_Jcond {fT fE : gx_M α} {f0 : gx_M Bool} {pcT pcE : Nat} {lv2 : List (Nat × gx_A)} {st2 : List gx_A} (hT : gx_J Y μ O pcT lv2 st2 fT k) (hE : gx_J Y μ O pcE lv2 st2 fE k) (K : ∀ kk : Bool → gx_M ρ, gx_J Y μ O pcT lv2 st2 (gx_rt true) kk → gx_J Y μ O pcE lv2 st2 (gx_rt false) kk → gx_J Y μ O pc lv st f0 kk) : gx_J Y μ O pc lv st (gx_bd f0 (fun b => if b = true then fT else fE)) k :=
  gx_Jas (K _ (gx_Jrt (f' := fT) (k' := k) rfl hT) (gx_Jrt (f' := fE) (k' := k) rfl hE))
/-- the end of a loop with ways out of the method -/
theorem gx_JjoinE {β δ : Type} {g : β → gx_M α} {gr : δ → gx_M α} {f0 : gx_M (β ⊕ δ)} {pcJ : Nat} {lvJ : β → List (Nat × gx_A)} {stJ : β → List gx_A} {G : β ⊕ δ → gx_M α} (hG1 : ∀ x, G (.inl x) = g x) (hG2 : ∀ r, G (.inr r) = gr r) (hj : ∀ x, gx_J Y μ O pcJ (lvJ x) (stJ x) (g x) k) (K : ∀ kk : β ⊕ δ → gx_M ρ, (∀ x, gx_J Y μ O pcJ (lvJ x) (stJ x) (gx_rt (.inl x)) kk) → (∀ r, kk (.inr r) = gx_bd (gr r) k) → gx_J Y μ O pc lv st f0 kk) : gx_J Y μ O pc lv st (gx_bd f0 G) k :=
  gx_Jas (K _ (fun x => gx_Jrt (f' := g x) (k' := k) (by rw [← hG1]) (hj x)) (fun r => by rw [← hG2]))
theorem gx_Jout {σ β : Type} {kk2 : σ ⊕ β → gx_M ρ} {kk : β → gx_M ρ} {v : β} (hb : ∀ r, kk2 (.inr r) = kk r) (hj : gx_J Y μ O pc lv st (gx_rt v) kk) : gx_J Y μ O pc lv st (gx_rt (.inr v)) kk2 := fun S S' r hf => hj S S' r (by
  have h : kk2 (.inr v) S = some (r, S') := hf
  rw [hb] at h
  exact h)
/-- a way out of the method: what comes behind only hands the answer on -/
theorem gx_Jret {β : Type} {kk : β → gx_M ρ} {x : β} {r : ρ} (h : kk x = gx_rt r) (hj : gx_J Y μ O pc lv st (gx_rt r) gx_rt) : gx_J Y μ O pc lv st (gx_rt x) kk := fun S S' r' hf => hj S S' r' (by
  have h2 : kk x S = some (r', S') := hf
  rw [h] at h2
  exact h2)
theorem gx_Jnz {y : Int32} {g : Unit → gx_M α} (K : ¬ y = 0 → gx_J Y μ O pc lv st (g ()) k) : gx_J Y μ O pc lv st (gx_bd (gx_nz y) g) k := by
  by_cases h : y = 0
  · intro S S' r hf
    rw [gx_bd_as] at hf
    unfold gx_bd gx_nz at hf
    rw [if_pos h] at hf
    cases hf
  · intro S S' r hf
    rw [gx_bd_as] at hf
    unfold gx_bd gx_nz at hf
    rw [if_neg h] at hf
    exact K h S S' r hf
theorem gx_iv {x c : Int32} {n : Int} (h : Int32.ofInt n = c) : x + Int32.ofInt n = x + c := by rw [h]
theorem gx_Jnul {f : gx_M α} (t : Nat) (K : gx_J Y μ O pc lv (gx_r t none :: st) f k) : gx_J Y μ O pc lv (gx_r 0 none :: st) f k := by
  intro S S' r hf hwf hok
  have hok2 : gx_ok S lv (gx_r t none :: st) := ⟨hok.1, gx_w1 (x := gx_r t none) trivial gx_t1 hok⟩
  obtain ⟨hle, hV⟩ := K S S' r hf hwf hok2
  exact ⟨hle, fun p e R s m args below meth c c0 k0 hC H locs ls cells slots hR _ hl hL h1 h2 h3 h4 => hV p e R s m args below meth c c0 k0 hC H locs ls cells slots hR hok2 hl hL h1 h2 h3 h4⟩
theorem gx_Jprs {a q q0 : gx_Nm} {t t2 ci kk ix : Nat} {g : Unit → gx_M α} (hci : ci < 19) (ht : t = ci + 1 ∨ t = 30 + ci) (hk : kk < gx_N ci) (hf : gx_fk ci kk = 2) (ht2 : gx_ft ci kk = t2) (hlt : t2 < 30 ∨ 50 ≤ t2) (hs : ∀ x, gx_sn ci kk a = some x → x = q0) (hty : (∃ n, gx_ty ci kk = .object n) ∨ ∃ t, gx_ty ci kk = .array t) (hq : Cond.fieldLink μ.2.1 ix (gx_T ci kk).1 (gx_T ci kk).2.1 (gx_T ci kk).2.2.1 ∈ lw_all) (hfin : (gx_T ci kk).2.2.2 = false ∨ ((gx_T ci kk).2.2.2 = true ∧ μ.2.2.2.1 = "<init>" ∧ (gx_T ci kk).1 = μ.2.1)) (hd : decode μ.1 pc = .ok (.putfield ix, 3))
    (K : gx_J Y μ O (pc + 3) lv st (g ()) k) : gx_J Y μ O pc lv (gx_r t2 (some q) :: gx_r t (some a) :: st) (gx_bd (gx_prs a kk q q0) g) k := by
  by_cases h : q = q0
  · have e : gx_prs a kk q q0 = gx_pr a kk q := by
      funext S
      unfold gx_prs gx_pr
      rw [if_pos h]
    rw [e]
    exact gx_Jpr hci ht hk hf ht2 hlt (fun x hx => by rw [h]; exact hs x hx) hty hq hfin hd K
  · intro S S' r hf2
    have e : gx_prs a kk q q0 S = none := by
      unfold gx_prs
      rw [if_neg h]
    rw [gx_bd_as] at hf2
    unfold gx_bd at hf2
    rw [e] at hf2
    cases hf2
theorem gx_ldcw {f : gx_M α} {own : String} {ix : Nat} {v : Int32} (ho : μ.2.1 = own) (hq : Cond.constant own ix v ∈ lw_all) (hd : decode μ.1 pc = .ok (.ldc_w ix, 3)) (K : gx_J Y μ O (pc + 3) lv (gx_i v :: st) f k) : gx_J Y μ O pc lv (st) f k := gx_Jp (fun S h => gx_w1 (gx_wi S _) gx_t0 h) (fun hC hx hb hl w => lv_ldcw hx hb (by rw [← ho]; exact hC.2.2.2.1) (hC.2.2.2.2.1 _ hq) hd w) K
end
theorem gx_tI {x c : Int32} {pc tgt : Nat} {lo : Int} {offs : Array Int} (h : x = c) (hd : ∀ j : Nat, j < offs.size → c.toInt = lo + (j : Int) → (pc : Int) + offs.getD j 0 = (tgt : Int)) : ∀ (j : Nat) (o : Int), offs[j]? = some o → x.toInt = lo + (j : Int) → (pc : Int) + o = (tgt : Int) := by
  intro j o ho hx
  have hlt := (Array.getElem?_eq_some_iff.mp ho).1
  have h2 := hd j hlt (by rw [← h]; exact hx)
  rw [Array.getD_eq_getD_getElem?, ho] at h2
  exact h2
theorem gx_tD {x c : Int32} {pc tgt : Nat} {lo hi dflt : Int} (h : x = c) (hd : c.toInt < lo ∨ hi < c.toInt → (pc : Int) + dflt = (tgt : Int)) : x.toInt < lo ∨ hi < x.toInt → (pc : Int) + dflt = (tgt : Int) := by
  rw [h]; exact hd
theorem gx_tN {x : Int32} {pc tgt : Nat} {lo : Int} {offs : Array Int} {ks : List Int32} (hne : x ∉ ks) (hd : ∀ j : Nat, j < offs.size → (∃ k ∈ ks, k.toInt = lo + (j : Int)) ∨ (pc : Int) + offs.getD j 0 = (tgt : Int)) : ∀ (j : Nat) (o : Int), offs[j]? = some o → x.toInt = lo + (j : Int) → (pc : Int) + o = (tgt : Int) := by
  intro j o ho hx
  have hlt := (Array.getElem?_eq_some_iff.mp ho).1
  rcases hd j hlt with ⟨k, hk, h2⟩ | h2
  · exact absurd (by rw [Int32.toInt_inj.mp (hx.trans h2.symm)]; exact hk) hne
  · rw [Array.getD_eq_getD_getElem?, ho] at h2
    exact h2
