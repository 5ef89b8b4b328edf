def B1 (σ : qS) : Prop := ((σ 26 0 = 0 ∨ σ 26 0 = 1) ∧ (σ 26 0 = 0 → σ 27 0 = 0)) ∧ σ 119 0 = σ 26 0
def B2 (σ : qS) : Prop := fsok σ ∧ ∀ f, 0 ≤ f → f < 16 → 0 ≤ σ 102 f ∧ σ 102 f ≤ 300
def B3 (σ : qS) : Prop := (0 ≤ σ 5 0 ∧ σ 5 0 ≤ 40) ∧ σ 115 0 = σ 5 0 ∧ ∀ i, 0 ≤ i → i < σ 5 0 → σ 105 i = σ 3 i ∧ σ 107 i = σ 4 i ∧ codok (σ 3 i) (σ 4 i)
def B4 (σ : qS) : Prop := ∀ p, 0 ≤ p → p < 24 → progok σ p ∧ σ 104 p = σ 8 p ∧ ∀ i, 0 ≤ i → i < σ 8 p → σ 103 (40 * p + i) = σ 6 (p * 40 + i) ∧ σ 106 (40 * p + i) = σ 7 (p * 40 + i)
def B5 (σ : qS) : Prop := ∀ j, 0 ≤ j → j < 8 → (σ 9 j = 0 ∨ σ 9 j = 1) ∧ σ 113 j = σ 9 j ∧ (σ 108 j = σ 10 j ∧ σ 109 j = σ 11 j ∧ σ 110 j = σ 12 j ∧ σ 111 j = σ 13 j) ∧ (σ 9 j = 1 → jbarg (σ 10 j) (σ 11 j) (σ 12 j) (σ 13 j) ∧ 0 < σ 8 (j * 3) ∧ 0 < σ 8 (j * 3 + 2))
def B7 (σ : qS) : Prop := (∀ w, 0 ≤ w → w < 6 → σ 54 w ≤ σ 31 0 ∧ σ 76 (w * 39) = 0) ∧ ∀ p, 0 ≤ p → p < 6 → σ 40 p ≤ σ 31 0
def B6 (σ : qS) : Prop := σ 116 0 = σ 14 0 ∧ B7 σ
def BR (σ : qS) : Prop := B1 σ ∧ B2 σ ∧ B3 σ ∧ B4 σ ∧ B5 σ ∧ B6 σ
def IDL (σ : qS) : Prop := ∀ f, 0 ≤ f → f < 16 → σ 102 f = σ 2 f ∧ ∀ i, 0 ≤ i → i < σ 2 f → σ 100 (300 * f + i) = σ 0 (f * 300 + i) ∧ σ 101 (300 * f + i) = σ 1 (f * 300 + i)
def s1 : List Nat := [26, 119, 27]
def s2 : List Nat := [2, 102]
def s3 : List Nat := [5, 115, 105, 3, 107, 4]
def s4 : List Nat := [8, 6, 7, 104, 103, 106]
def s5 : List Nat := [9, 113, 108, 10, 109, 11, 110, 12, 111, 13, 8]
def s6 : List Nat := [14, 116, 54, 76, 40, 31]
def sI : List Nat := [2, 102, 100, 0, 101, 1]
theorem B1_k {σ σ' : qS} (h : B1 σ) (hk : ∀ k ∈ s1, σ' k = σ k) : B1 σ' := by
  unfold B1 at *; rw [hk 26 (by decide), hk 119 (by decide), hk 27 (by decide)]; exact h
theorem B2_k {σ σ' : qS} (h : B2 σ) (hk : ∀ k ∈ s2, σ' k = σ k) : B2 σ' := by
  unfold B2 fsok at *; rw [hk 2 (by decide), hk 102 (by decide)]; exact h
theorem B3_k {σ σ' : qS} (h : B3 σ) (hk : ∀ k ∈ s3, σ' k = σ k) : B3 σ' := by
  unfold B3 at *; rw [hk 5 (by decide), hk 115 (by decide), hk 105 (by decide), hk 3 (by decide), hk 107 (by decide), hk 4 (by decide)]; exact h
theorem B4_k {σ σ' : qS} (h : B4 σ) (hk : ∀ k ∈ s4, σ' k = σ k) : B4 σ' := by
  unfold B4 progok at *; rw [hk 8 (by decide), hk 6 (by decide), hk 7 (by decide), hk 104 (by decide), hk 103 (by decide), hk 106 (by decide)]; exact h
theorem B5_k {σ σ' : qS} (h : B5 σ) (hk : ∀ k ∈ s5, σ' k = σ k) : B5 σ' := by
  unfold B5 at *; rw [hk 9 (by decide), hk 113 (by decide), hk 108 (by decide), hk 10 (by decide), hk 109 (by decide), hk 11 (by decide), hk 110 (by decide), hk 12 (by decide), hk 111 (by decide), hk 13 (by decide), hk 8 (by decide)]; exact h
theorem B6_k {σ σ' : qS} (h : B6 σ) (hk : ∀ k ∈ s6, σ' k = σ k) : B6 σ' := by
  unfold B6 B7 at *; rw [hk 14 (by decide), hk 116 (by decide), hk 54 (by decide), hk 76 (by decide), hk 40 (by decide), hk 31 (by decide)]; exact h
theorem IDL_k {σ σ' : qS} (h : IDL σ) (hk : ∀ k ∈ sI, σ' k = σ k) : IDL σ' := by
  unfold IDL at *; rw [hk 2 (by decide), hk 102 (by decide), hk 100 (by decide), hk 0 (by decide), hk 101 (by decide), hk 1 (by decide)]; exact h
def INVo (RI : Nat → qS → Prop) (N : Nat) (σ : qS) : Prop := BR σ ∧ (0 ≤ σ 31 0 ∧ σ 31 0 ≤ 8 * N) ∧ (σ 26 0 = 0 → IDL σ) ∧ (σ 26 0 = 1 → RI N σ)
def RIf (RI : Nat → qS → Prop) : Prop := ∀ N σ σ', RI N σ → (∀ k, k ≠ 118 → k ≠ 140 → σ' k = σ k) → RI (N + 1) σ'
theorem BR_k {σ σ' : qS} (h : BR σ) (hk : ∀ k ∈ s1 ++ s2 ++ s3 ++ s4 ++ s5 ++ s6, σ' k = σ k) : BR σ' := by
  obtain ⟨h1, h2, h3, h4, h5, h6⟩ := h
  refine ⟨B1_k h1 (fun k m => hk k ?_), B2_k h2 (fun k m => hk k ?_), B3_k h3 (fun k m => hk k ?_), B4_k h4 (fun k m => hk k ?_), B5_k h5 (fun k m => hk k ?_), B6_k h6 (fun k m => hk k ?_)⟩ <;> simp only [List.mem_append] <;> simp [m]
theorem INV_f {RI : Nat → qS → Prop} (hR : RIf RI) {N : Nat} {σ σ' : qS} (h : INVo RI N σ) (hk : ∀ k, k ≠ 118 → k ≠ 140 → σ' k = σ k) : INVo RI (N + 1) σ' := by
  obtain ⟨h1, h2, h3, h4⟩ := h
  have hk' : ∀ k ∈ s1 ++ s2 ++ s3 ++ s4 ++ s5 ++ s6 ++ sI ++ [31], σ' k = σ k := fun k m => by
    have key : ∀ k ∈ s1 ++ s2 ++ s3 ++ s4 ++ s5 ++ s6 ++ sI ++ [31], k ≠ 118 ∧ k ≠ 140 := by decide
    exact hk k (key k m).1 (key k m).2
  have eb : σ' 26 = σ 26 := hk _ (by decide) (by decide)
  have ee : σ' 31 = σ 31 := hk _ (by decide) (by decide)
  refine ⟨BR_k h1 (fun k m => hk' k (by simp only [List.mem_append] at m ⊢; exact Or.inl (Or.inl m))), by rw [ee]; omega, fun hb => IDL_k (h3 (by rw [← eb]; exact hb)) (fun k m => hk' k (by simp only [List.mem_append]; exact Or.inl (Or.inr m))), fun hb => hR N σ σ' (h4 (by rw [← eb]; exact hb)) hk⟩
theorem th_f (σ : qS) (a b : Int) : ∀ k, k ≠ 118 → k ≠ 140 → su (su σ 140 0 a) 118 0 b k = σ k := fun k h1 h2 => by rw [su_k h1, su_k h2]
theorem th_f1 (σ : qS) (b : Int) : ∀ k, k ≠ 118 → k ≠ 140 → su σ 118 0 b k = σ k := fun k h1 _ => by rw [su_k h1]
theorem l_size {RI : Nat → qS → Prop} (hR : RIf RI) {N : Nat} {σ : qS} (h : INVo RI N σ) (f : Int) : stp (INVo RI (N + 1)) (P_L_size 900 f 140 σ) (Q_L_size 900 f 140 σ) (P_D_size f) (Q_D_size f) := by
  refine ⟨⟨rfl, rfl, trivial⟩, fun r σ1 h1 => ⟨trivial, fun q σ2 h2 => ?_⟩⟩
  have hB := h.1.1
  rcases h1 with ⟨q1, τ, ⟨a1, a2, a3, rfl⟩, rfl, rfl⟩ | ⟨t, ⟨rfl, a1⟩, a2⟩
  · obtain ⟨rfl, rfl⟩ := h2
    have e1 : su τ 140 0 q1 119 0 = 0 := by rw [su_k (by decide), hB.2, a2]
    have e2 : tsz (su τ 140 0 q1) f = 0 := by unfold tsz; rw [if_neg (by omega), if_neg (by rw [e1]; decide)]
    rw [e2]
    refine ⟨su_s, fun _ => ?_, INV_f hR h (th_f _ _ _)⟩
    rw [su_k (by decide), su_s, if_neg (by decide), su_k (by decide), a3, ((h.2.2.1 a2) f (by omega) (by omega)).1]
  · obtain ⟨rfl, rfl⟩ := h2
    have e2 : tsz σ1 f = r := by
      unfold tsz
      rcases a1 with ⟨b1, rfl⟩ | ⟨b1, b2, rfl⟩
      · rw [if_pos b1]; exact Option.some.inj a2
      · rw [if_neg (fun h => h b1), if_pos (by rw [hB.2]; exact b2)]; exact Option.some.inj a2
    rw [e2]
    refine ⟨su_s, fun hr => ?_, INV_f hR h (th_f1 _ _)⟩
    rcases a1 with ⟨b1, rfl⟩ | ⟨b1, b2, rfl⟩ <;> (have := Option.some.inj a2; omega)

