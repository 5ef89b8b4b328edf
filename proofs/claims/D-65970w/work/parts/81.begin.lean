theorem ch_det {σ : qS} (h5 : B5 σ) : ∀ (n m : Nat) (C C1 C2 : List Int), ChR σ n C C1 → dChR σ m C C2 → C1 = C2
  | 0, 0, C, C1, C2, h1, h2 => h1.1.trans h2.1.symm
  | 0, m + 1, C, C1, C2, h1, h2 => by
    obtain ⟨j, hj, hf, -, -⟩ := h2
    exact absurd ((fre_iff h5 C hj.1 hj.2).mpr hf) (h1.2 j hj.1 hj.2)
  | n + 1, 0, C, C1, C2, h1, h2 => by
    obtain ⟨j, hj, hf, -, -⟩ := h1
    exact absurd ((fre_iff h5 C hj.1 hj.2).mp hf) (h2.2 j hj.1 hj.2)
  | n + 1, m + 1, C, C1, C2, h1, h2 => by
    obtain ⟨j, hj, hf, hl, hr⟩ := h1
    obtain ⟨j', hj', hf', hl', hr'⟩ := h2
    have e : j = j' := by
      by_cases c : j < j'
      · exact absurd ((fre_iff h5 C hj.1 hj.2).mp hf) (hl' j hj.1 c)
      · by_cases c2 : j' < j
        · exact absurd ((fre_iff h5 C hj'.1 hj'.2).mpr hf') (hl j' hj'.1 c2)
        · omega
    subst e
    exact ch_det h5 n m _ _ _ hr hr'
def slf (σ : qS) (j : Int) : Prop := σ 12 j = σ 10 j ∨ σ 12 j = σ 11 j
theorem ChR_m {σ : qS} : ∀ (n : Nat) (C C' : List Int), ChR σ n C C' → (∀ x ∈ C, σ 9 x ≠ 0 ∧ ¬ slf σ x) → ∀ x ∈ C', σ 9 x ≠ 0 ∧ ¬ slf σ x
  | 0, C, C', h, hC => by rw [h.1]; exact hC
  | n + 1, C, C', h, hC => by
    obtain ⟨j, hj, hf, -, hr⟩ := h
    refine ChR_m n _ _ hr (fun x hx => ?_)
    rcases List.mem_append.mp hx with hx | hx
    · exact hC x hx
    · rw [List.mem_singleton] at hx
      subst hx
      exact ⟨hf.1, fun hs => hf.2.2 ⟨x, hj, hf.1, hs, hf.2.1⟩⟩
theorem nmd_ge {σ : qS} : ∀ (n : Nat) (D : List Int), D.Nodup → (∀ x ∈ D, (0 ≤ x ∧ x < n) ∧ σ 9 x ≠ 0) → (D.length : Int) ≤ nmd σ n
  | 0, D, _, h => by
    cases D with
    | nil => simp [nmd]
    | cons x t => have := (h x List.mem_cons_self).1; omega
  | n + 1, D, hn, h => by
    rw [nmd]
    by_cases hm : (n : Int) ∈ D
    · have h1 := (h _ hm).2
      rw [if_neg h1]
      have := nmd_ge (σ := σ) n (D.erase (n : Int)) (hn.erase _) (fun x hx => by
        have hx' := (hn.mem_erase_iff).mp hx
        have := h x hx'.2
        exact ⟨⟨this.1.1, by have := this.1.2; have := hx'.1; omega⟩, this.2⟩)
      rw [List.length_erase_of_mem hm] at this
      have : 0 < D.length := List.length_pos_of_mem hm
      omega
    · have := nmd_ge (σ := σ) n D hn (fun x hx => ⟨⟨(h x hx).1.1, by have := (h x hx).1.2; have : x ≠ n := fun e => hm (e ▸ hx); omega⟩, (h x hx).2⟩)
      split <;> omega
theorem nmd_le {σ : qS} : ∀ (n : Nat) (D : List Int), D.Nodup → (∀ x : Int, 0 ≤ x → x < n → σ 9 x ≠ 0 → x ∈ D) → nmd σ n ≤ D.length
  | 0, D, _, h => by simp [nmd]
  | n + 1, D, hn, h => by
    rw [nmd]
    by_cases h1 : σ 9 n = 0
    · rw [if_pos h1]
      have := nmd_le (σ := σ) n D hn (fun x x0 x1 xm => h x x0 (by omega) xm)
      omega
    · rw [if_neg h1]
      have hm : (n : Int) ∈ D := h n (by omega) (by omega) h1
      have := nmd_le (σ := σ) n (D.erase (n : Int)) (hn.erase _) (fun x x0 x1 xm => (hn.mem_erase_iff).mpr ⟨by omega, h x x0 (by omega) xm⟩)
      rw [List.length_erase_of_mem hm] at this
      have : 0 < D.length := List.length_pos_of_mem hm
      omega
theorem ChR_k {σ σ' : qS} (hk : ∀ k ∈ [9, 10, 11, 12], σ' k = σ k) : ∀ (n : Nat) (C C' : List Int), ChR σ n C C' → ChR σ' n C C' := by
  have e : fre σ' = fre σ := by
    funext C j; unfold fre; rw [hk 9 (by decide), hk 10 (by decide), hk 11 (by decide), hk 12 (by decide)]
  intro n
  induction n with
  | zero => intro C C' h; exact ⟨h.1, by rw [e]; exact h.2⟩
  | succ n ih => intro C C' h; obtain ⟨j, a, b, c, d⟩ := h; exact ⟨j, a, by rw [e]; exact b, by rw [e]; exact c, ih _ _ d⟩
def CH (σ : qS) : Prop := (0 ≤ σ 30 0 ∧ σ 30 0 ≤ 8) ∧ σ 117 0 = σ 30 0 ∧ ∀ k, 0 ≤ k → k < σ 30 0 → σ 112 k = σ 29 k ∧ (0 ≤ σ 29 k ∧ σ 29 k < 8) ∧ σ 9 (σ 29 k) ≠ 0
def ST (σ : qS) : Prop := CH σ ∧ (σ 32 0 = 0 ∧ σ 48 0 = 0 ∧ σ 49 0 = 0 ∧ σ 50 0 = 0 ∧ σ 39 0 = 0 ∧ σ 28 0 = -1) ∧ (∀ w, 0 ≤ w → w < 6 → σ 61 w = 0) ∧ ((σ 30 0 = 0 ∧ σ 27 0 = 0) ∨ (0 < σ 30 0 ∧ σ 27 0 = 1 ∧ (∀ k, 0 ≤ k → k < 38 → σ 33 k = -1) ∧ (∀ k, 0 ≤ k → k < 6 → σ 35 k = 0) ∧ σ 36 0 = 0 ∧ (∀ w, 0 ≤ w → w < 6 → σ 54 w < σ 31 0) ∧ ∀ p, 0 ≤ p → p < 6 → σ 40 p < σ 31 0))
def RIb (RI : Nat → qS → Prop) : Prop := ∀ (N : Nat) (σ : qS), BR σ → σ 26 0 = 1 → IDL σ → (0 ≤ σ 31 0 ∧ σ 31 0 + σ 30 0 ≤ 8 * N + 1) → ST σ → RI N σ
def bgL : List Nat := [14, 26, 27, 28, 32, 48, 49, 50, 39, 61, 31, 33, 35, 36, 29, 30]
theorem bgn_nx (τ : qS) : (∀ k, k ∉ bgL → nxj (bgn τ) k = τ k) ∧ nxj (bgn τ) 14 0 = w32 (τ 14 0 + 1) ∧ nxj (bgn τ) 26 0 = 1 ∧ nxj (bgn τ) 29 = τ 29 ∧ nxj (bgn τ) 30 = τ 30 ∧ (nxj (bgn τ) 32 0 = 0 ∧ nxj (bgn τ) 48 0 = 0 ∧ nxj (bgn τ) 49 0 = 0 ∧ nxj (bgn τ) 50 0 = 0 ∧ nxj (bgn τ) 39 0 = 0 ∧ nxj (bgn τ) 28 0 = -1) ∧ (∀ w, 0 ≤ w → w < 6 → nxj (bgn τ) 61 w = 0) ∧ ((τ 30 0 = 0 ∧ nxj (bgn τ) 27 0 = 0 ∧ nxj (bgn τ) 31 0 = τ 31 0) ∨ (τ 30 0 ≠ 0 ∧ nxj (bgn τ) 27 0 = 1 ∧ nxj (bgn τ) 31 0 = τ 31 0 + 1 ∧ (∀ k, 0 ≤ k → k < 38 → nxj (bgn τ) 33 k = -1) ∧ (∀ k, 0 ≤ k → k < 6 → nxj (bgn τ) 35 k = 0) ∧ nxj (bgn τ) 36 0 = 0)) := by
  have hb : ∀ k, k ∉ bgL → bgn τ k = τ k := fun k m => by
    simp only [bgL, List.mem_cons, List.not_mem_nil, or_false, not_or] at m
    unfold bgn
    rw [ra_k (by omega), su_k (by omega), su_k (by omega), su_k (by omega), su_k (by omega), su_k (by omega), su_k (by omega), su_k (by omega), su_k (by omega), su_k (by omega)]
  have e1 : bgn τ 32 0 = 0 := by unfold bgn; rw [ra_k (by decide), su_k (by decide), su_k (by decide), su_k (by decide), su_k (by decide), su_s]
  have e2 : bgn τ 30 = τ 30 := by unfold bgn; rw [ra_k (by decide), su_k (by decide), su_k (by decide), su_k (by decide), su_k (by decide), su_k (by decide), su_k (by decide), su_k (by decide), su_k (by decide), su_k (by decide)]
  have e3 : bgn τ 29 = τ 29 := by unfold bgn; rw [ra_k (by decide), su_k (by decide), su_k (by decide), su_k (by decide), su_k (by decide), su_k (by decide), su_k (by decide), su_k (by decide), su_k (by decide), su_k (by decide)]
  have e4 : bgn τ 31 = τ 31 := by unfold bgn; rw [ra_k (by decide), su_k (by decide), su_k (by decide), su_k (by decide), su_k (by decide), su_k (by decide), su_k (by decide), su_k (by decide), su_k (by decide), su_k (by decide)]
  have f : bgn τ 14 0 = w32 (τ 14 0 + 1) ∧ bgn τ 26 0 = 1 ∧ bgn τ 27 0 = 1 ∧ bgn τ 48 0 = 0 ∧ bgn τ 49 0 = 0 ∧ bgn τ 50 0 = 0 ∧ bgn τ 39 0 = 0 ∧ bgn τ 28 0 = -1 ∧ ∀ w, 0 ≤ w → w < 6 → bgn τ 61 w = 0 := by
    unfold bgn
    refine ⟨?_, ?_, ?_, ?_, ?_, ?_, ?_, ?_, fun w w0 w1 => by rw [ra_e, if_pos ⟨w0, w1⟩]⟩ <;> (rw [ra_k (by decide)]; simp (disch := decide) only [su_k, su_s])
  obtain ⟨f1, f2, f3, f4, f5, f6, f7, f8, f9⟩ := f
  unfold nxj
  rw [e1, e2]
  by_cases hc : (0 : Int) = τ 30 0
  · rw [if_pos hc]
    refine ⟨fun k m => ?_, ?_, ?_, ?_, ?_, ⟨?_, ?_, ?_, ?_, ?_, ?_⟩, fun w w0 w1 => ?_, Or.inl ⟨hc.symm, su_s, ?_⟩⟩
    · rw [su_k (by intro e; subst e; exact m (by decide))]; exact hb k m
    all_goals rw [su_k (by decide)]
    all_goals first | exact f1 | exact f2 | exact e3 | exact e2 | exact e1 | exact f4 | exact f5 | exact f6 | exact f7 | exact f8 | exact f9 w w0 w1 | rw [e4]
  · rw [if_neg hc]
    refine ⟨fun k m => ?_, ?_, ?_, ?_, ?_, ⟨?_, ?_, ?_, ?_, ?_, ?_⟩, fun w w0 w1 => ?_, Or.inr ⟨fun e => hc e.symm, ?_, ?_, fun k k0 k1 => ?_, fun k k0 k1 => ?_, su_s⟩⟩
    · have m' := m
      simp only [bgL, List.mem_cons, List.not_mem_nil, or_false, not_or] at m'
      rw [su_k (by omega), ra_k (by omega), ra_k (by omega), su_k (by omega)]; exact hb k m
    all_goals rw [su_k (by decide)]
    · rw [ra_k (by decide), ra_k (by decide), su_k (by decide)]; exact f1
    · rw [ra_k (by decide), ra_k (by decide), su_k (by decide)]; exact f2
    · rw [ra_k (by decide), ra_k (by decide), su_k (by decide)]; exact e3
    · rw [ra_k (by decide), ra_k (by decide), su_k (by decide)]; exact e2
    · rw [ra_k (by decide), ra_k (by decide), su_k (by decide)]; exact e1
    · rw [ra_k (by decide), ra_k (by decide), su_k (by decide)]; exact f4
    · rw [ra_k (by decide), ra_k (by decide), su_k (by decide)]; exact f5
    · rw [ra_k (by decide), ra_k (by decide), su_k (by decide)]; exact f6
    · rw [ra_k (by decide), ra_k (by decide), su_k (by decide)]; exact f7
    · rw [ra_k (by decide), ra_k (by decide), su_k (by decide)]; exact f8
    · rw [ra_k (by decide), ra_k (by decide), su_k (by decide)]; exact f9 w w0 w1
    · rw [ra_k (by decide), ra_k (by decide), su_k (by decide)]; exact f3
    · rw [ra_k (by decide), ra_k (by decide), su_s, e4]
    · rw [ra_k (by decide), ra_e, if_pos ⟨k0, k1⟩]
    · rw [ra_e, if_pos ⟨k0, k1⟩]
theorem dup_bad {σ : qS} (h5 : B5 σ) (h : dup2 σ) : dbad σ := by
  obtain ⟨j, k, hk, hj, m1, m2, e⟩ := h
  obtain ⟨-, x2, ⟨-, -, x5, -⟩, -⟩ := h5 j (by omega) hj
  obtain ⟨-, y2, ⟨-, -, y5, -⟩, -⟩ := h5 k hk.1 (by omega)
  exact ⟨j, k, ⟨by omega, hj⟩, ⟨hk.1, by omega⟩, by rw [y2]; exact m2, by rw [x2]; exact m1, Or.inl ⟨hk.2, by rw [y5, x5]; exact e⟩⟩
theorem bad_dup {σ : qS} (h5 : B5 σ) (h : dbad σ) : dup2 σ ∨ ∃ j, (0 ≤ j ∧ j < 8) ∧ σ 9 j ≠ 0 ∧ slf σ j := by
  obtain ⟨j, i, hj, hi, m1, m2, e⟩ := h
  obtain ⟨-, x2, ⟨x3, x4, x5, -⟩, -⟩ := h5 j hj.1 hj.2
  obtain ⟨-, y2, ⟨-, -, y5, -⟩, -⟩ := h5 i hi.1 hi.2
  rw [y2] at m1
  rw [x2] at m2
  rcases e with ⟨e1, e2⟩ | ⟨rfl, e2⟩
  · exact Or.inl ⟨j, i, ⟨hi.1, e1⟩, hj.2, m2, m1, by rw [y5, x5] at e2; exact e2⟩
  · refine Or.inr ⟨i, hj, m2, ?_⟩
    rw [x3, x4, x5] at e2
    exact e2.imp Eq.symm Eq.symm
theorem l_begin {RI : Nat → qS → Prop} (hR : RIf RI) (hG : RIb RI) {N : Nat} {σ : qS} (hN : N < 4096) (h : INVo RI N σ) : stp (INVo RI (N + 1)) (P_L_begin 900 140 σ) (Q_L_begin 900 140 σ) P_D_begin Q_D_begin := by
  obtain ⟨b1, b2, b3, b4, b5, b6⟩ := h.1
  have hE := h.2.1
  refine ⟨⟨rfl, rfl, ⟨hE.1, by omega⟩⟩, fun r σ1 h1 => ⟨trivial, fun q σ2 h2 => ?_⟩⟩
  rcases h1 with ⟨q1, ρ, ⟨a1, a2, C, τ, hBI, ⟨n, hC⟩, a3, a4, rfl⟩, rfl, rfl⟩ | ⟨t, a1, a2⟩
  · obtain ⟨i1, i2, i3, i4, i5⟩ := hBI
    obtain ⟨g1, g2, g3, g4, g5, g6, g7, g8⟩ := bgn_nx τ
    generalize nxj (bgn τ) = ν at *
    have kν : ∀ k, k ∉ bgL → ν k = σ k := fun k m => (g1 k m).trans (i1 k (fun e => m (by simp only [bgL, List.mem_cons, List.not_mem_nil, or_false] at e ⊢; omega)))
    have hm : ∀ x ∈ C, σ 9 x ≠ 0 ∧ ¬ slf σ x := ChR_m n [] C hC (fun x hx => by cases hx)
    have all : ∀ j, 0 ≤ j → j < 8 → σ 9 j ≠ 0 → j ∈ C := fun j j0 j1 jm => by
      by_cases hj : j ∈ C
      · exact hj
      · exfalso
        have := nmd_ge (σ := σ) 8 (j :: C) (List.nodup_cons.mpr ⟨hj, i4⟩) (fun x hx => by
          rcases List.mem_cons.mp hx with rfl | hx
          · exact ⟨⟨j0, by omega⟩, jm⟩
          · exact ⟨⟨(i5 x hx).1, by have := (i5 x hx).2; omega⟩, (hm x hx).1⟩)
        simp only [List.length_cons] at this
        omega
    have hnb : ¬ dbad σ := fun hb => by
      rcases bad_dup b5 hb with hd | ⟨j, hj, jm, js⟩
      · exact a2 hd
      · exact (hm j (all j hj.1 hj.2 jm)).2 js
    have kω : ∀ k, k ∉ bgL → k ≠ 140 → su ν 140 0 q1 k = σ k := fun k m m2 => by rw [su_k m2]; exact kν k m
    have eOn : su ν 140 0 q1 119 0 = 0 := by rw [kω _ (by decide) (by decide), b1.2, a1]
    rcases h2 with ⟨g, -, -⟩ | ⟨-, b, ρ, hch, h2⟩
    · exact absurd eOn g
    have b5' : B5 (su ν 140 0 q1) := B5_k b5 (fun k m => kω k ((by decide : ∀ k ∈ s5, k ∉ bgL) k m) ((by decide : ∀ k ∈ s5, k ≠ 140) k m))
    have hnb' : ¬ dbad (su ν 140 0 q1) := by
      unfold dbad dbd at hnb ⊢
      rw [kω 113 (by decide) (by decide), kω 110 (by decide) (by decide), kω 108 (by decide) (by decide), kω 109 (by decide) (by decide)]
      exact hnb
    rcases hch with ⟨g, -, -⟩ | ⟨-, C', hDI, ⟨n', hC'⟩, hb⟩
    · exact absurd g hnb'
    have hCC : C = C' := ch_det b5' n n' [] C C' (ChR_k (fun k m => kω k ((by decide : ∀ k ∈ [9, 10, 11, 12], k ∉ bgL) k m) ((by decide : ∀ k ∈ [9, 10, 11, 12], k ≠ 140) k m)) n [] C hC) hC'
    subst hCC
    obtain ⟨d1, d2, d3, d4, d5, d6⟩ := hDI
    have hb1 : b ≠ 0 := by
      rcases hb with ⟨rfl, -⟩ | ⟨-, j, j0, j1, jm, jn⟩
      · decide
      · rw [kω 113 (by decide) (by decide), (b5 j j0 j1).2.1] at jm
        exact absurd (all j j0 j1 jm) jn
    rcases h2 with ⟨g, -, -⟩ | ⟨-, rfl, rfl⟩
    · exact absurd g hb1
    have kρ : ∀ k, k ∉ [114, 112, 117] → k ∉ [118, 119, 116] → su (su (su ρ 118 0 0) 119 0 1) 116 0 (w32 (ρ 116 0 + 1)) k = su ν 140 0 q1 k := fun k m1 m2 => by
      simp only [List.mem_cons, List.not_mem_nil, or_false, not_or] at m2
      rw [su_k (by omega), su_k (by omega), su_k (by omega)]; exact d1 k m1
    have kall : ∀ k, k ∉ bgL ++ [140, 114, 112, 117, 118, 119, 116] → su (su (su ρ 118 0 0) 119 0 1) 116 0 (w32 (ρ 116 0 + 1)) k = σ k := fun k m => by
      simp only [List.mem_append, List.mem_cons, List.not_mem_nil, or_false, not_or] at m
      rw [kρ k (by simp only [List.mem_cons, List.not_mem_nil, or_false, not_or]; omega) (by simp only [List.mem_cons, List.not_mem_nil, or_false, not_or]; omega)]
      exact kω k m.1 (by omega)
    have kmill : ∀ k ∈ bgL, su (su (su ρ 118 0 0) 119 0 1) 116 0 (w32 (ρ 116 0 + 1)) k = ν k := fun k m => by
      rw [kρ k ((by decide : ∀ k ∈ bgL, k ∉ [114, 112, 117]) k m) ((by decide : ∀ k ∈ bgL, k ∉ [118, 119, 116]) k m), su_k ((by decide : ∀ k ∈ bgL, k ≠ 140) k m)]
    have eTh : su (su (su ρ 118 0 0) 119 0 1) 116 0 (w32 (ρ 116 0 + 1)) 118 0 = 0 := by rw [su_k (by decide), su_k (by decide), su_s]
    have eIs : su (su (su ρ 118 0 0) 119 0 1) 116 0 (w32 (ρ 116 0 + 1)) 119 0 = 1 := by rw [su_k (by decide), su_s]
    have eRu : su (su (su ρ 118 0 0) 119 0 1) 116 0 (w32 (ρ 116 0 + 1)) 116 0 = w32 (σ 14 0 + 1) := by rw [su_s, d1 116 (by decide), kω 116 (by decide) (by decide), b6.1]
    have e140 : su (su (su ρ 118 0 0) 119 0 1) 116 0 (w32 (ρ 116 0 + 1)) 140 0 = q1 := by rw [kρ 140 (by decide) (by decide), su_s]
    have eCh : su (su (su ρ 118 0 0) 119 0 1) 116 0 (w32 (ρ 116 0 + 1)) 117 0 = C.length := by rw [su_k (by decide), su_k (by decide), su_k (by decide)]; exact d2
    have eOr : su (su (su ρ 118 0 0) 119 0 1) 116 0 (w32 (ρ 116 0 + 1)) 112 = ρ 112 := by rw [su_k (by decide), su_k (by decide), su_k (by decide)]
    generalize su (su (su ρ 118 0 0) 119 0 1) 116 0 (w32 (ρ 116 0 + 1)) = μ at *
    have l8 : (C.length : Int) ≤ 8 := by
      have := nmd_ge (σ := σ) 8 C i4 (fun x hx => ⟨⟨(i5 x hx).1, by have := (i5 x hx).2; omega⟩, (hm x hx).1⟩)
      have hub : ∀ n : Nat, nmd σ n ≤ n := fun n => by
        induction n with
        | zero => simp [nmd]
        | succ n ih => rw [nmd]; split <;> omega
      have := hub 8
      omega
    have eCd : μ 30 0 = C.length := by rw [kmill 30 (by decide), g5]; exact i2
    have hBR : BR μ := by
      refine ⟨⟨⟨Or.inr (by rw [kmill 26 (by decide)]; exact g3), fun hx => by rw [kmill 26 (by decide), g3] at hx; omega⟩, by rw [eIs, kmill 26 (by decide), g3]⟩, B2_k b2 (kp kall (by decide)), B3_k b3 (kp kall (by decide)), B4_k b4 (kp kall (by decide)), B5_k b5 (kp kall (by decide)), ?_⟩
      have hEr : σ 31 0 ≤ μ 31 0 := by
        rw [kmill 31 (by decide)]
        rcases g8 with ⟨x1, -, x3⟩ | ⟨x1, -, x3, -⟩
        · rw [x3, i1 31 (by decide)]; omega
        · rw [x3, i1 31 (by decide)]; omega
      refine ⟨by rw [eRu, kmill 14 (by decide), g2, i1 14 (by decide)], fun w w0 w1 => ?_, fun p p0 p1 => ?_⟩
      · rw [kall 54 (by decide), kall 76 (by decide)]
        have := b6.2.1 w w0 w1
        exact ⟨by omega, this.2⟩
      · rw [kall 40 (by decide)]
        have := b6.2.2 p p0 p1
        omega
    have hID : IDL μ := IDL_k (h.2.2.1 a1) (kp kall (by decide))
    have hbg : μ 26 0 = 1 := by rw [kmill 26 (by decide)]; exact g3
    have hEr : 0 ≤ μ 31 0 ∧ μ 31 0 ≤ σ 31 0 + 1 ∧ (C.length = 0 → μ 31 0 = σ 31 0) := by
      rw [kmill 31 (by decide)]
      rcases g8 with ⟨x1, -, x3⟩ | ⟨x1, -, x3, -⟩
      · rw [x3, i1 31 (by decide)]; omega
      · rw [x3, i1 31 (by decide)]; omega
    have hST : ST μ := by
      refine ⟨⟨by rw [eCd]; omega, by rw [eCh, eCd], fun k k0 k1 => ?_⟩, ?_, fun w w0 w1 => by rw [kmill 61 (by decide)]; exact g7 w w0 w1, ?_⟩
      · rw [eCd] at k1
        have t1 := d3 k.toNat (by omega)
        have t2 := i3 k.toNat (by omega)
        rw [t1] at t2
        have t3 := Option.some.inj t2
        rw [show ((k.toNat : Nat) : Int) = k by omega] at t3
        have t4 : μ 29 k = τ 29 k := by rw [kmill 29 (by decide), g4]
        have t5 : τ 29 k ∈ C := by
          have := i3 k.toNat (by omega)
          rw [show ((k.toNat : Nat) : Int) = k by omega] at this
          exact List.mem_of_getElem? this
        rw [eOr, t4, t3]
        exact ⟨rfl, i5 _ t5, by rw [kall 9 (by decide)]; exact (hm _ t5).1⟩
      · rw [kmill 32 (by decide), kmill 48 (by decide), kmill 49 (by decide), kmill 50 (by decide), kmill 39 (by decide), kmill 28 (by decide)]; exact g6
      · rw [eCd, kmill 27 (by decide), kmill 33 (by decide), kmill 35 (by decide), kmill 36 (by decide)]
        rcases g8 with ⟨x1, x2, -⟩ | ⟨x1, x2, x3, x4, x5, x6⟩
        · exact Or.inl ⟨by rw [← i2]; exact x1, x2⟩
        · refine Or.inr ⟨by rw [i2] at x1; omega, x2, x4, x5, x6, fun w w0 w1 => ?_, fun p p0 p1 => ?_⟩
          · rw [kall 54 (by decide), kmill 31 (by decide), x3, i1 31 (by decide)]
            have := b6.2.1 w w0 w1
            omega
          · rw [kall 40 (by decide), kmill 31 (by decide), x3, i1 31 (by decide)]
            have := b6.2.2 p p0 p1
            omega
    refine ⟨eTh, fun _ => by rw [e140, a4]; have := d2; omega, hBR, ?_, fun hb0 => by omega, fun _ => hG (N + 1) μ hBR hbg hID ?_ hST⟩
    · have := hEr; omega
    · rw [eCd]; have := hEr
      refine ⟨by omega, ?_⟩
      by_cases hz : C.length = 0
      · omega
      · omega
  · rcases a1 with ⟨c1, rfl, rfl⟩ | ⟨c1, rfl, C, hBI, hcs⟩
    · have eb := b1.2
      have hr : (1 : Int) = r := Option.some.inj a2
      rcases h2 with ⟨-, rfl, rfl⟩ | ⟨g, -⟩
      · exact ⟨by rw [su_s]; exact hr, fun h0 => by omega, INV_f hR h (th_f1 _ _)⟩
      · exact absurd (by rw [← eb]; exact g) c1
    · have hr : (2 : Int) = r := Option.some.inj a2
      obtain ⟨i1, i2, i3, i4, i5⟩ := hBI
      have eOn : σ1 119 0 = 0 := by rw [i1 _ (by decide), b1.2, c1]
      rcases h2 with ⟨g, -, -⟩ | ⟨-, b, ρ, hch, h2⟩
      · exact absurd eOn g
      have b5' : B5 σ1 := B5_k b5 (fun k m => i1 k ((by decide : ∀ k ∈ s5, k ∉ [29, 30]) k m))
      have hb0 : b = 0 ∧ DF σ1 ρ := by
        rcases hch with ⟨-, rfl, hd⟩ | ⟨hnb, C', hDI, ⟨n', hC'⟩, hb⟩
        · exact ⟨rfl, hd⟩
        · refine ⟨?_, hDI.1⟩
          rcases hcs with hd | ⟨-, ⟨n, hC⟩, hlt⟩
          · have hd' : dup2 σ1 := by unfold dup2 at hd ⊢; rw [i1 9 (by decide), i1 12 (by decide)]; exact hd
            exact absurd (dup_bad b5' hd') hnb
          · have hCC : C = C' := ch_det b5' n n' [] C C' (ChR_k (fun k m => i1 k ((by decide : ∀ k ∈ [9, 10, 11, 12], k ∉ [29, 30]) k m)) n [] C hC) hC'
            subst hCC
            rcases hb with ⟨rfl, hall⟩ | ⟨rfl, -⟩
            · exfalso
              have := nmd_le (σ := σ) 8 C i4 (fun x x0 x1 xm => hall x x0 (by omega) (by rw [i1 113 (by decide), (b5 x x0 (by omega)).2.1]; exact xm))
              omega
            · rfl
      obtain ⟨rfl, hd⟩ := hb0
      rcases h2 with ⟨-, rfl, rfl⟩ | ⟨g, -⟩
      · have kall : ∀ k, k ∉ [29, 30, 114, 112, 117, 118] → su ρ 118 0 2 k = σ k := fun k m => by
          simp only [List.mem_cons, List.not_mem_nil, or_false, not_or] at m
          rw [su_k (by omega), hd k (by simp only [List.mem_cons, List.not_mem_nil, or_false, not_or]; omega), i1 k (by simp only [List.mem_cons, List.not_mem_nil, or_false, not_or]; omega)]
        refine ⟨by rw [su_s]; exact hr, fun h0 => by omega, INV_0 h (by rw [kall 26 (by decide)]; exact c1) (kall _ (by decide)) (BR_k h.1 (kp kall (by decide))) (IDL_k (h.2.2.1 c1) (kp kall (by decide)))⟩
      · exact absurd rfl g

