/-! ===== WALK 3: the abstract heap changes: well-formedness, and the machine's heap ===== -/
theorem gx_u2_s {α : Type} (f : gx_Nm → Nat → α) (a : gx_Nm) (k : Nat) (v : α) : gx_u2 f a k v a k = v := by simp [gx_u2]
theorem gx_u2_n {α : Type} (f : gx_Nm → Nat → α) (a : gx_Nm) (k : Nat) (v : α) {b : gx_Nm} {j : Nat} (h : b ≠ a ∨ j ≠ k) : gx_u2 f a k v b j = f b j := by
  unfold gx_u2
  rw [if_neg]
  rintro ⟨h1, h2⟩
  rcases h with h | h
  · exact h h1
  · exact h h2
theorem gx_u1_s {α : Type} (f : gx_Nm → α) (a : gx_Nm) (v : α) : gx_u1 f a v a = v := by simp [gx_u1]
theorem gx_u1_n {α : Type} (f : gx_Nm → α) (a : gx_Nm) (v : α) {b : gx_Nm} (h : b ≠ a) : gx_u1 f a v b = f b := by simp [gx_u1, h]
theorem gx_or {b a : gx_Nm} {j k : Nat} (h : ¬ (b = a ∧ j = k)) : b ≠ a ∨ j ≠ k := by
  by_cases h1 : b = a
  · exact Or.inr (fun h2 => h ⟨h1, h2⟩)
  · exact Or.inl h1
theorem gx_zft : ∀ ci, ci < 19 → ∀ k, k < gx_N ci → gx_fk ci k = 2 → gx_ft ci k ≠ 0 := by decide +kernel
theorem gx_zft30 : ∀ ci, ci < 19 → ∀ k, k < gx_N ci → gx_fk ci k = 2 → ∀ cj, cj < 19 → gx_ft ci k ≠ 30 + cj := by decide +kernel
theorem gx_zfk : ∀ ci, ci < 19 → ∀ k, k < gx_N ci → gx_fk ci k ≤ 2 := by decide +kernel
theorem gx_zet : ∀ t, t < 10 → gx_et t ≠ 0 := by decide
theorem gx_zet30 : ∀ t, t < 10 → ∀ cj, cj < 19 → gx_et t ≠ 30 + cj := by decide
section
variable {z : Nat} {D : va_G} {dA : Nat → ClassId} {H0 H H' : Heap} {S S2 : gx_St}
theorem gx_fv_cg {a : gx_Nm} {ci k : Nat} (hA : hp_A S2 = hp_A S) (h1 : hp_I S2 a k = hp_I S a k) (h2 : hp_R S2 a k = hp_R S a k) : gx_fv z S2 a ci k = gx_fv z S a ci k := by
  unfold gx_fv
  rw [hA, h1, h2]
theorem gx_av_cg {a : gx_Nm} {t k : Nat} (hA : hp_A S2 = hp_A S) (h1 : hp_I S2 a k = hp_I S a k) (h2 : hp_R S2 a k = hp_R S a k) (h3 : hp_L S2 a k = hp_L S a k) : gx_av z S2 a t k = gx_av z S a t k := by
  unfold gx_av
  rw [hA, h1, h2, h3]
theorem gx_Wf.ft (hW : gx_Wf S) {p : gx_Nm} {ci k : Nat} {q : gx_Nm} (h1 : gx_ob S p ci) (h2 : k < gx_N ci) (h3 : gx_fk ci k = 2) (h4 : hp_R S p k = some q) : hp_H S q ≠ 0 := by
  rw [hW.2.2.2.1 p ci k q h1 h2 h3 h4]
  exact gx_zft ci h1.1 k h2 h3
theorem gx_Wf.et (hW : gx_Wf S) {p : gx_Nm} {t i : Nat} {q : gx_Nm} (h1 : t < 10) (h2 : 4 ≤ t) (h3 : hp_H S p = 100 + t) (h4 : i < hp_N S p) (h5 : hp_R S p i = some q) : hp_H S q ≠ 0 := by
  rw [hW.2.2.2.2.1 p t i q h1 h2 h3 h4 h5]
  exact gx_zet t h1
/-- a field of an object is written -/
theorem gx_Wf.put (hW : gx_Wf S) {a : gx_Nm} {ci kk : Nat} (hob : gx_ob S a ci)
    (w1 : hp_H S2 = hp_H S) (w2 : hp_A S2 = hp_A S) (w3 : hp_N S2 = hp_N S) (w5 : hp_C S2 = hp_C S)
    (hI : ∀ b j, (b ≠ a ∨ j ≠ kk) → hp_I S2 b j = hp_I S b j) (hr : ∀ b j, (b ≠ a ∨ j ≠ kk) → hp_R S2 b j = hp_R S b j)
    (hst : ∀ q, hp_H S a = ci + 1 → gx_sn ci kk a = some q → hp_R S2 a kk = some q) (hty : ∀ q, kk < gx_N ci → gx_fk ci kk = 2 → hp_R S2 a kk = some q → hp_H S q = gx_ft ci kk) (hbo : gx_fk ci kk = 1 → hp_I S2 a kk &&& 1 = hp_I S2 a kk) : gx_Wf S2 := by
  obtain ⟨hC, hi, hs, hf, he, hz, hy⟩ := hW
  have hobc : ∀ b cj, gx_ob S2 b cj → gx_ob S b cj := fun b cj h => by unfold gx_ob at h ⊢; rw [w1] at h; exact h
  refine ⟨fun b hb => ?_, fun b d hb hd => ?_, fun b cj j q hcj hb hsn => ?_, fun b cj j q hb hj hfk hq => ?_, fun b t i q ht ht4 hb hlt hq => ?_, fun b cj j hb hfk => ?_, fun b j hb => ?_⟩
  · rw [w1] at hb
    rw [w2, w5]
    exact hC b hb
  · rw [w1] at hb hd
    rw [w2]
    exact hi b d hb hd
  · rw [w1] at hb
    by_cases hba : b = a ∧ j = kk
    · obtain ⟨rfl, rfl⟩ := hba
      have hcc : cj = ci := gx_ob.one ⟨hcj, Or.inl hb⟩ hob
      subst hcc
      exact hst q hb hsn
    · rw [hr b j (gx_or hba)]
      exact hs b cj j q hcj hb hsn
  · have hb := hobc b cj hb
    rw [w1]
    by_cases hba : b = a ∧ j = kk
    · obtain ⟨rfl, rfl⟩ := hba
      have hcc := hb.one hob
      subst hcc
      exact hty q hj hfk hq
    · rw [hr b j (gx_or hba)] at hq
      exact hf b cj j q hb hj hfk hq
  · rw [w1] at hb ⊢
    rw [w3] at hlt
    have hba : b ≠ a := by
      intro e
      rw [e] at hb
      have := hob.2
      have := hob.1
      omega
    rw [hr b i (Or.inl hba)] at hq
    exact he b t i q ht ht4 hb hlt hq
  · have hb := hobc b cj hb
    by_cases hba : b = a ∧ j = kk
    · obtain ⟨rfl, rfl⟩ := hba
      have hcc := hb.one hob
      subst hcc
      exact hbo hfk
    · rw [hI b j (gx_or hba)]
      exact hz b cj j hb hfk
  · rw [w1] at hb
    have hba : b ≠ a := by
      intro e
      rw [e] at hb
      have := hob.2
      have := hob.1
      omega
    rw [hI b j (Or.inl hba)]
    exact hy b j hb
theorem gx_Hp.put (hR : gx_Hp z D dA H0 S H) (hW : gx_Wf S) {a : gx_Nm} {ci kk : Nat} {v : Value} (hob : gx_ob S a ci) (hk : kk < gx_N ci) (hap : ∀ x y, x < gx_N ci → y < gx_N ci → x ≠ y → (D.2 ci) x ≠ (D.2 ci) y) {cell : Cell} (hcell : H[z + hp_A S a]? = some cell)
    (e1 : H'[z + hp_A S a]? = some (cell.setSlot (D.2 ci kk) v)) (e2 : H'.size = H.size) (e3 : ∀ q, q ≠ z + hp_A S a → H'[q]? = H[q]?)
    (w1 : hp_H S2 = hp_H S) (w2 : hp_A S2 = hp_A S) (w3 : hp_N S2 = hp_N S) (w4 : hp_L S2 = hp_L S) (w5 : hp_C S2 = hp_C S)
    (hI : ∀ b j, (b ≠ a ∨ j ≠ kk) → hp_I S2 b j = hp_I S b j) (hr : ∀ b j, (b ≠ a ∨ j ≠ kk) → hp_R S2 b j = hp_R S b j)
    (hv : gx_fv z S2 a ci kk = v) : gx_Hp z D dA H0 S2 H' := by
  obtain ⟨⟨h1, h0⟩, hO, hA⟩ := hR
  obtain ⟨hC, hi, -⟩ := hW
  have hobc : ∀ b cj, gx_ob S2 b cj → gx_ob S b cj := fun b cj h => by unfold gx_ob at h ⊢; rw [w1] at h; exact h
  refine ⟨⟨by rw [e2, w5]; exact h1, fun q hq => by rw [e3 q (by omega)]; exact h0 q hq⟩, fun b cj hb => ?_, fun b t ht hb => ?_⟩
  · have hb := hobc b cj hb
    have q2 := hO b cj hb
    by_cases hba : b = a
    · subst hba
      have hcc := hb.one hob
      subst hcc
      obtain ⟨cell', r1, r2, r3, r4⟩ := q2
      have : cell' = cell := Option.some.inj (r1.symm.trans hcell)
      subst this
      rw [w2]
      refine t_OB.to (V := updV (gx_fv z S b cj) kk v) ⟨_, e1, r2, r3, t_set r4 hap hk v⟩ (fun j _ => ?_)
      unfold updV
      by_cases hj : j = kk
      · rw [if_pos hj, hj]; exact hv.symm
      · rw [if_neg hj]; exact (gx_fv_cg w2 (hI b j (Or.inr hj)) (hr b j (Or.inr hj))).symm
    · have hne : z + hp_A S b ≠ z + hp_A S a := fun h => hba (hi b a hb.live hob.live (by omega))
      rw [w2]
      exact (q2.kept (e3 _ hne)).to (fun j _ => (gx_fv_cg w2 (hI b j (Or.inl hba)) (hr b j (Or.inl hba))).symm)
  · rw [w1] at hb
    have hba : b ≠ a := by
      intro e
      rw [e] at hb
      have := hob.2
      have := hob.1
      omega
    have hne : z + hp_A S b ≠ z + hp_A S a := fun h => hba (hi b a (by omega) hob.live (by omega))
    rw [w2, e3 _ hne, hA b t ht hb]
    unfold gx_cell
    rw [w3]
    congr 2
    funext j
    exact (gx_av_cg w2 (hI b j (Or.inl hba)) (hr b j (Or.inl hba)) (by rw [w4])).symm
/-- an array's contents change -/
theorem gx_Wf.arr (hW : gx_Wf S) {a : gx_Nm} {t : Nat} (hsh : hp_H S a = 100 + t)
    (w1 : hp_H S2 = hp_H S) (w2 : hp_A S2 = hp_A S) (w3 : hp_N S2 = hp_N S) (w5 : hp_C S2 = hp_C S)
    (hI : ∀ b j, b ≠ a → hp_I S2 b j = hp_I S b j) (hr : ∀ b j, b ≠ a → hp_R S2 b j = hp_R S b j)
    (hty : ∀ i q, 4 ≤ t → t < 10 → i < hp_N S a → hp_R S2 a i = some q → hp_H S q = gx_et t) (hby : t = 1 → ∀ j, fits .byte (.int (hp_I S2 a j)) = true) : gx_Wf S2 := by
  obtain ⟨hC, hi, hs, hf, he, hz, hy⟩ := hW
  have hobc : ∀ b cj, gx_ob S2 b cj → gx_ob S b cj := fun b cj h => by unfold gx_ob at h ⊢; rw [w1] at h; exact h
  have hnob : ∀ b cj, gx_ob S b cj → b ≠ a := fun b cj h e => by
    have h1 := h.1
    have h2 := h.2
    rw [e] at h2
    omega
  refine ⟨fun b hb => ?_, fun b d hb hd => ?_, fun b cj j q hcj hb hsn => ?_, fun b cj j q hb hj hfk hq => ?_, fun b u i q hu hu4 hb hlt hq => ?_, fun b cj j hb hfk => ?_, fun b j hb => ?_⟩
  · rw [w1] at hb
    rw [w2, w5]
    exact hC b hb
  · rw [w1] at hb hd
    rw [w2]
    exact hi b d hb hd
  · rw [w1] at hb
    rw [hr b j (hnob b cj ⟨hcj, Or.inl hb⟩)]
    exact hs b cj j q hcj hb hsn
  · have hb := hobc b cj hb
    rw [hr b j (hnob b cj hb)] at hq
    rw [w1]
    exact hf b cj j q hb hj hfk hq
  · rw [w1] at hb ⊢
    rw [w3] at hlt
    by_cases hba : b = a
    · subst hba
      have : u = t := by omega
      subst this
      exact hty i q hu4 hu hlt hq
    · rw [hr b i hba] at hq
      exact he b u i q hu hu4 hb hlt hq
  · have hb := hobc b cj hb
    rw [hI b j (hnob b cj hb)]
    exact hz b cj j hb hfk
  · rw [w1] at hb
    by_cases hba : b = a
    · subst hba
      exact hby (by omega) j
    · rw [hI b j hba]
      exact hy b j hb
theorem gx_Hp.arr (hR : gx_Hp z D dA H0 S H) (hW : gx_Wf S) {a : gx_Nm} {t : Nat} (ht : t < 10) (hsh : hp_H S a = 100 + t)
    (e1 : H'[z + hp_A S a]? = some (gx_cell z dA S2 a t)) (e2 : H'.size = H.size) (e3 : ∀ q, q ≠ z + hp_A S a → H'[q]? = H[q]?)
    (w1 : hp_H S2 = hp_H S) (w2 : hp_A S2 = hp_A S) (w3 : hp_N S2 = hp_N S) (w5 : hp_C S2 = hp_C S)
    (hI : ∀ b j, b ≠ a → hp_I S2 b j = hp_I S b j) (hr : ∀ b j, b ≠ a → hp_R S2 b j = hp_R S b j) (hl : ∀ b j, b ≠ a → hp_L S2 b j = hp_L S b j) : gx_Hp z D dA H0 S2 H' := by
  obtain ⟨⟨h1, h0⟩, hO, hA⟩ := hR
  obtain ⟨hC, hi, -⟩ := hW
  have hobc : ∀ b cj, gx_ob S2 b cj → gx_ob S b cj := fun b cj h => by unfold gx_ob at h ⊢; rw [w1] at h; exact h
  have hnob : ∀ b cj, gx_ob S b cj → b ≠ a := fun b cj h e => by
    have h1 := h.1
    have h2 := h.2
    rw [e] at h2
    omega
  refine ⟨⟨by rw [e2, w5]; exact h1, fun q hq => by rw [e3 q (by omega)]; exact h0 q hq⟩, fun b cj hb => ?_, fun b u hu hb => ?_⟩
  · have hb := hobc b cj hb
    have hba := hnob b cj hb
    have hne : z + hp_A S b ≠ z + hp_A S a := fun h => hba (hi b a hb.live (by omega) (by omega))
    rw [w2]
    exact ((hO b cj hb).kept (e3 _ hne)).to (fun j _ => (gx_fv_cg w2 (hI b j hba) (hr b j hba)).symm)
  · rw [w1] at hb
    by_cases hba : b = a
    · subst hba
      have : u = t := by omega
      subst this
      rw [w2]
      exact e1
    · have hne : z + hp_A S b ≠ z + hp_A S a := fun h => hba (hi b a (by omega) (by omega) (by omega))
      rw [w2, e3 _ hne, hA b u hu hb]
      unfold gx_cell
      rw [w3]
      congr 2
      funext j
      exact (gx_av_cg w2 (hI b j hba) (hr b j hba) (hl b j hba)).symm
/-- a new cell -/
theorem gx_Wf.new (hW : gx_Wf S) {a : gx_Nm} {c n : Nat} (hfr : hp_H S a = 0) (hc : ∀ ci, ci < 19 → c ≠ ci + 1) : gx_Wf (hp_mk S c n a) := by
  have hW0 := hW
  obtain ⟨hC, hi, hs, hf, he, hz, hy⟩ := hW
  have hH : ∀ b, b ≠ a → hp_H (hp_mk S c n a) b = hp_H S b := fun b h => gx_u1_n _ _ _ h
  have hHa : hp_H (hp_mk S c n a) a = c := gx_u1_s _ _ _
  have hAd : ∀ b, b ≠ a → hp_A (hp_mk S c n a) b = hp_A S b := fun b h => gx_u1_n _ _ _ h
  have hAa : hp_A (hp_mk S c n a) a = hp_C S := gx_u1_s _ _ _
  have hN : ∀ b, b ≠ a → hp_N (hp_mk S c n a) b = hp_N S b := fun b h => gx_u1_n _ _ _ h
  have hI : ∀ b j, b ≠ a → hp_I (hp_mk S c n a) b j = hp_I S b j := fun b j h => congrFun (gx_u1_n _ _ _ h) j
  have hIa : ∀ j, hp_I (hp_mk S c n a) a j = 0 := fun j => congrFun (gx_u1_s _ _ _) j
  have hRr : ∀ b j, b ≠ a → hp_R (hp_mk S c n a) b j = hp_R S b j := fun b j h => congrFun (gx_u1_n _ _ _ h) j
  have hRa : ∀ j, hp_R (hp_mk S c n a) a j = none := fun j => congrFun (gx_u1_s _ _ _) j
  have hcl : hp_C (hp_mk S c n a) = hp_C S + 1 := rfl
  have hold : ∀ b, hp_H S b ≠ 0 → b ≠ a := fun b h e => h (by rw [e]; exact hfr)
  refine ⟨fun b hb => ?_, fun b d hb hd => ?_, fun b cj j q hcj hb hsn => ?_, fun b cj j q hb hj hfk hq => ?_, fun b u i q hu hu4 hb hlt hq => ?_, fun b cj j hb hfk => ?_, fun b j hb => ?_⟩
  · by_cases hba : b = a
    · subst hba
      rw [hAa, hcl]; omega
    · rw [hH b hba] at hb
      rw [hAd b hba, hcl]
      have := hC b hb
      omega
  · intro e
    by_cases hba : b = a
    · by_cases hda : d = a
      · rw [hba, hda]
      · subst hba
        rw [hH d hda] at hd
        rw [hAa, hAd d hda] at e
        have := hC d hd
        omega
    · rw [hH b hba] at hb
      rw [hAd b hba] at e
      by_cases hda : d = a
      · subst hda
        rw [hAa] at e
        have := hC b hb
        omega
      · rw [hH d hda] at hd
        rw [hAd d hda] at e
        exact hi b d hb hd e
  · by_cases hba : b = a
    · subst hba
      rw [hHa] at hb
      exact absurd hb (hc cj hcj)
    · rw [hH b hba] at hb
      rw [hRr b j hba]
      exact hs b cj j q hcj hb hsn
  · by_cases hba : b = a
    · subst hba
      rw [hRa] at hq
      cases hq
    · have hb2 : gx_ob S b cj := by unfold gx_ob at hb ⊢; rw [hH b hba] at hb; exact hb
      rw [hRr b j hba] at hq
      rw [hH q (hold q (hW0.ft hb2 hj hfk hq))]
      exact hf b cj j q hb2 hj hfk hq
  · by_cases hba : b = a
    · subst hba
      rw [hRa] at hq
      cases hq
    · rw [hH b hba] at hb
      rw [hRr b i hba] at hq
      rw [hN b hba] at hlt
      rw [hH q (hold q (hW0.et hu hu4 hb hlt hq))]
      exact he b u i q hu hu4 hb hlt hq
  · by_cases hba : b = a
    · subst hba
      rw [hIa]
      rfl
    · have hb2 : gx_ob S b cj := by unfold gx_ob at hb ⊢; rw [hH b hba] at hb; exact hb
      rw [hI b j hba]
      exact hz b cj j hb2 hfk
  · by_cases hba : b = a
    · subst hba
      rw [hIa]
      rfl
    · rw [hH b hba] at hb
      rw [hI b j hba]
      exact hy b j hb
theorem gx_Hp.new (hR : gx_Hp z D dA H0 S H) (hW : gx_Wf S) {a : gx_Nm} {c n : Nat} (hfr : hp_H S a = 0) (e2 : H'.size = H.size + 1) (e3 : ∀ q, q < H.size → H'[q]? = H[q]?)
    (hO' : ∀ ci, ci < 19 → (c = ci + 1 ∨ c = 30 + ci) → t_OB (z + hp_C S) (D.1 ci) (gx_N ci) (D.2 ci) H' (fun k => if gx_fk ci k ≤ 1 then .int 0 else .null))
    (hA' : ∀ t, t < 10 → c = 100 + t → H'[z + hp_C S]? = some (arrV (dA t) n (fun _ => if t ≤ 2 then .int 0 else if t = 3 then .long 0 else .null))) : gx_Hp z D dA H0 (hp_mk S c n a) H' := by
  have hW0 := hW
  obtain ⟨⟨h1, h0⟩, hO, hA⟩ := hR
  obtain ⟨hC, hi, hs, hf, he, hz, hy⟩ := hW
  have hH : ∀ b, b ≠ a → hp_H (hp_mk S c n a) b = hp_H S b := fun b h => gx_u1_n _ _ _ h
  have hHa : hp_H (hp_mk S c n a) a = c := gx_u1_s _ _ _
  have hAd : ∀ b, b ≠ a → hp_A (hp_mk S c n a) b = hp_A S b := fun b h => gx_u1_n _ _ _ h
  have hAa : hp_A (hp_mk S c n a) a = hp_C S := gx_u1_s _ _ _
  have hN : ∀ b, b ≠ a → hp_N (hp_mk S c n a) b = hp_N S b := fun b h => gx_u1_n _ _ _ h
  have hNa : hp_N (hp_mk S c n a) a = n := gx_u1_s _ _ _
  have hI : ∀ b j, b ≠ a → hp_I (hp_mk S c n a) b j = hp_I S b j := fun b j h => congrFun (gx_u1_n _ _ _ h) j
  have hIa : ∀ j, hp_I (hp_mk S c n a) a j = 0 := fun j => congrFun (gx_u1_s _ _ _) j
  have hRr : ∀ b j, b ≠ a → hp_R (hp_mk S c n a) b j = hp_R S b j := fun b j h => congrFun (gx_u1_n _ _ _ h) j
  have hRa : ∀ j, hp_R (hp_mk S c n a) a j = none := fun j => congrFun (gx_u1_s _ _ _) j
  have hL : ∀ b j, b ≠ a → hp_L (hp_mk S c n a) b j = hp_L S b j := fun b j h => congrFun (gx_u1_n _ _ _ h) j
  have hLa : ∀ j, hp_L (hp_mk S c n a) a j = 0 := fun j => congrFun (gx_u1_s _ _ _) j
  have hcl : hp_C (hp_mk S c n a) = hp_C S + 1 := rfl
  have hold : ∀ b, hp_H S b ≠ 0 → b ≠ a := fun b h e => h (by rw [e]; exact hfr)
  have hrv : ∀ r : Option gx_Nm, (∀ q, r = some q → hp_H S q ≠ 0) → gx_rv z (hp_A (hp_mk S c n a)) r = gx_rv z (hp_A S) r := by
    intro r hr
    cases r with
    | none => rfl
    | some q =>
      show Value.ref (z + _) = Value.ref (z + _)
      rw [hAd q (hold q (hr q rfl))]
  refine ⟨⟨by rw [e2, hcl]; omega, fun q hq => by rw [e3 q (by omega)]; exact h0 q hq⟩, fun b cj hb => ?_, fun b u hu hb => ?_⟩
  · by_cases hba : b = a
    · subst hba
      obtain ⟨q1, q2⟩ := hb
      rw [hHa] at q2
      have q3 := hO' cj q1 q2
      rw [hAa]
      refine q3.to (fun j _ => ?_)
      unfold gx_fv
      rw [hIa, hRa]
      rfl
    · have hb2 : gx_ob S b cj := by unfold gx_ob at hb ⊢; rw [hH b hba] at hb; exact hb
      have hlt := hC b hb2.live
      rw [hAd b hba]
      refine ((hO b cj hb2).kept (e3 _ (by omega))).to (fun j hj => ?_)
      unfold gx_fv
      rw [hI b j hba, hRr b j hba]
      by_cases hk : gx_fk cj j ≤ 1
      · rw [if_pos hk, if_pos hk]
      · rw [if_neg hk, if_neg hk]
        refine (hrv _ (fun q hq => hW0.ft hb2 hj ?_ hq)).symm
        have := gx_zfk cj hb2.1 j hj
        omega
  · by_cases hba : b = a
    · subst hba
      rw [hHa] at hb
      rw [hAa, hA' u hu hb]
      unfold gx_cell
      rw [hNa]
      congr 2
      funext j
      unfold gx_av
      rw [hIa, hRa, hLa]
      rfl
    · rw [hH b hba] at hb
      have hlt := hC b (by omega)
      rw [hAd b hba, e3 _ (by omega), hA b u hu hb]
      unfold gx_cell
      rw [hN b hba]
      have hag : ∀ j, j < hp_N S b → gx_av z S b u j = gx_av z (hp_mk S c n a) b u j := by
        intro j hj
        unfold gx_av
        rw [hI b j hba, hRr b j hba, hL b j hba]
        by_cases h1 : u ≤ 2
        · rw [if_pos h1, if_pos h1]
        · rw [if_neg h1, if_neg h1]
          by_cases h2 : u = 3
          · rw [if_pos h2, if_pos h2]
          · rw [if_neg h2, if_neg h2]
            exact (hrv _ (fun q hq => hW0.et hu (by omega) hb hj hq)).symm
      unfold arrV
      congr 3
      funext j
      exact hag j.val j.isLt
/-- an object's constructor has ended -/
theorem gx_fu_facts {a : gx_Nm} {ci : Nat} (hraw : hp_H S a = 30 + ci) : (∀ b, b ≠ a → hp_H (hp_fu S a) b = hp_H S b) ∧ hp_H (hp_fu S a) a = ci + 1 := by
  refine ⟨fun b h => gx_u1_n _ _ _ h, ?_⟩
  show gx_u1 (hp_H S) a (hp_H S a - 29) a = _
  rw [gx_u1_s]; omega
theorem gx_fu_ob {a : gx_Nm} {ci : Nat} (hci : ci < 19) (hraw : hp_H S a = 30 + ci) {b : gx_Nm} {cj : Nat} (h : gx_ob (hp_fu S a) b cj) : gx_ob S b cj := by
  obtain ⟨hHn, hHa⟩ := gx_fu_facts hraw
  by_cases hba : b = a
  · rw [hba] at h ⊢
    have h2 := h.2
    rw [hHa] at h2
    have : cj = ci := by have := h.1; omega
    rw [this]
    exact ⟨hci, Or.inr hraw⟩
  · unfold gx_ob at h ⊢; rw [hHn b hba] at h; exact h
theorem gx_Wf.full (hW : gx_Wf S) {a : gx_Nm} {ci : Nat} (hci : ci < 19) (hraw : hp_H S a = 30 + ci) (hsn : ∀ k q, gx_sn ci k a = some q → hp_R S a k = some q) : gx_Wf (hp_fu S a) := by
  obtain ⟨hC, hi, hs, hf, he, hz, hy⟩ := hW
  obtain ⟨hHn, hHa⟩ := gx_fu_facts hraw
  have hlive : ∀ b, hp_H (hp_fu S a) b ≠ 0 → hp_H S b ≠ 0 := fun b h => by
    by_cases hba : b = a
    · rw [hba]; omega
    · rw [hHn b hba] at h; exact h
  have hte : ∀ q c, hp_H S q = c → (∀ cj, cj < 19 → c ≠ 30 + cj) → hp_H (hp_fu S a) q = c := fun q c h h2 => by
    by_cases hqa : q = a
    · exact absurd (by rw [← h, hqa]; exact hraw) (h2 ci hci)
    · rw [hHn q hqa]; exact h
  refine ⟨fun b hb => hC b (hlive b hb), fun b d hb hd => hi b d (hlive b hb) (hlive d hd), fun b cj j q hcj hb hsn2 => ?_, fun b cj j q hb hj hfk hq => ?_, fun b u i q hu hu4 hb hlt hq => ?_, fun b cj j hb hfk => hz b cj j (gx_fu_ob hci hraw hb) hfk, fun b j hb => ?_⟩
  · by_cases hba : b = a
    · rw [hba, hHa] at hb
      have : cj = ci := by omega
      subst this
      rw [hba] at hsn2 ⊢
      exact hsn j q hsn2
    · rw [hHn b hba] at hb
      exact hs b cj j q hcj hb hsn2
  · exact hte q _ (hf b cj j q (gx_fu_ob hci hraw hb) hj hfk hq) (gx_zft30 cj hb.1 j hj hfk)
  · have hba : b ≠ a := by
      intro e
      rw [e, hHa] at hb
      omega
    rw [hHn b hba] at hb
    exact hte q _ (he b u i q hu hu4 hb hlt hq) (gx_zet30 u hu)
  · by_cases hba : b = a
    · rw [hba, hHa] at hb; omega
    · rw [hHn b hba] at hb
      exact hy b j hb
theorem gx_Hp.full (hR : gx_Hp z D dA H0 S H) {a : gx_Nm} {ci : Nat} (hci : ci < 19) (hraw : hp_H S a = 30 + ci) : gx_Hp z D dA H0 (hp_fu S a) H := by
  obtain ⟨⟨h1, h0⟩, hO, hA⟩ := hR
  obtain ⟨hHn, hHa⟩ := gx_fu_facts hraw
  refine ⟨⟨h1, h0⟩, fun b cj hb => hO b cj (gx_fu_ob hci hraw hb), fun b u hu hb => ?_⟩
  by_cases hba : b = a
  · rw [hba, hHa] at hb; omega
  · rw [hHn b hba] at hb
    exact hA b u hu hb
/-- cells that no name leads to -/
theorem gx_Wf.more (hW : gx_Wf S) (n m : Nat) : gx_Wf (hp_ex S n m) := by
  obtain ⟨hC, hi, hs, hf, he, hz, hy⟩ := hW
  refine ⟨fun b hb => ?_, hi, hs, hf, he, hz, hy⟩
  have := hC b hb
  show hp_A S b < hp_C S + n
  omega
theorem gx_Hp.more (hR : gx_Hp z D dA H0 S H) (hW : gx_Wf S) {n m : Nat} (e2 : H'.size = H.size + n) (e3 : ∀ q, q < H.size → H'[q]? = H[q]?) : gx_Hp z D dA H0 (hp_ex S n m) H' := by
  obtain ⟨⟨h1, h0⟩, hO, hA⟩ := hR
  obtain ⟨hC, -⟩ := hW
  refine ⟨⟨?_, fun q hq => by rw [e3 q (by omega)]; exact h0 q hq⟩, fun b cj hb => ?_, fun b u hu hb => ?_⟩
  · show H'.size = z + (hp_C S + n)
    omega
  · have hb2 : gx_ob S b cj := hb
    have := hC b hb2.live
    exact (hO b cj hb2).kept (e3 _ (show z + hp_A S b < H.size by omega))
  · have hb2 : hp_H S b = 100 + u := hb
    have := hC b (by omega)
    show H'[z + hp_A S b]? = _
    rw [e3 _ (by omega)]
    exact hA b u hu hb2
end
