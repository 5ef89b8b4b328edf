def itm (σ : qS) (b : Int) (x : Ms) : Bool := decide (xw x 1 = σ 31 0 ∧ ((xw x 0 = 3 ∧ xw x 3 = b) ∨ (xw x 0 = 2 ∧ xw x 2 = b)))
theorem wt_cl {σ σ' : qS} {b : Int} (he : σ' 31 = σ 31) (hm : ∀ t, isdn σ' t ≠ 0 → isdn σ t ≠ 0 ∨ t = b) (x : Ms) : wt σ' x ≤ wt σ x + (if itm σ b x = true then 2 else 0) := by
  unfold wt
  rw [he]
  split
  · omega
  · rename_i h1
    split
    · omega
    · by_cases c : (xw x 0 = 3 ∧ isdn σ' (xw x 3) ≠ 0) ∨ (xw x 0 = 2 ∧ isdn σ' (xw x 2) ≠ 0)
      · rw [if_pos c]
        by_cases c' : (xw x 0 = 3 ∧ isdn σ (xw x 3) ≠ 0) ∨ (xw x 0 = 2 ∧ isdn σ (xw x 2) ≠ 0)
        · rw [if_pos c']; omega
        · have hb : itm σ b x = true := by
            unfold itm
            refine decide_eq_true ⟨by omega, ?_⟩
            rcases c with ⟨a1, a2⟩ | ⟨a1, a2⟩
            · rcases hm _ a2 with e | e
              · exact absurd (Or.inl ⟨a1, e⟩) c'
              · exact Or.inl ⟨a1, e⟩
            · rcases hm _ a2 with e | e
              · exact absurd (Or.inr ⟨a1, e⟩) c'
              · exact Or.inr ⟨a1, e⟩
          rw [if_pos hb]; omega
      · rw [if_neg c]; omega
theorem wl_cl {σ σ' : qS} {b : Int} (he : σ' 31 = σ 31) (hm : ∀ t, isdn σ' t ≠ 0 → isdn σ t ≠ 0 ∨ t = b) : ∀ L : List Ms, wl σ' L ≤ wl σ L + 2 * L.countP (itm σ b)
  | [] => by simp [wl]
  | x :: L => by
    have h1 := wt_cl he hm x
    have h2 := wl_cl he hm L
    rw [List.countP_cons]
    simp only [wl]
    by_cases c : itm σ b x = true
    · rw [if_pos c] at h1 ⊢; omega
    · rw [if_neg c] at h1 ⊢; omega
theorem ww_cl {σ σ' : qS} (hk : ∀ k ∈ [62, 65, 66], σ' k = σ k) (v : Int) : ww σ' v ≤ ww σ v + 2 := by
  unfold ww
  rw [hk _ (by decide), hk _ (by decide), hk _ (by decide)]
  have h1 : (if 0 ≤ σ 62 v ∧ isdn σ' (σ 62 v) ≠ 0 then 2 else 0) ≤ 2 := by split <;> omega
  omega
theorem HR_cl {σ σ' : qS} (h : HR σ σ') {x : Ms} (hx : hd6 σ x) (he' : xw x 1 = σ 31 0) (hc : clos σ x) : Wp σ' ≤ Wp σ + 2 * (ln σ').countP (itm σ (xw x 3)) + 12 := by
  obtain ⟨h0, hk, c⟩ := h
  have he : σ' 31 = σ 31 := hk _ (by decide)
  have hk3 : ∀ k ∈ [62, 65, 66], σ' k = σ k := fun k m => hk k ((by decide : ∀ k ∈ [62, 65, 66], k ∈ hrK) k m)
  obtain ⟨j, b1, b2⟩ := hx
  have hws : wsum σ' ≤ wsum σ + 12 := by
    have w0 := ww_cl hk3 0
    have w1 := ww_cl hk3 1
    have w2 := ww_cl hk3 2
    have w3 := ww_cl hk3 3
    have w4 := ww_cl hk3 4
    have w5 := ww_cl hk3 5
    unfold wsum; omega
  rcases c with ⟨c1, -⟩ | ⟨i, y, c1, c2, c⟩
  · rw [c1] at b1; cases b1
  · rw [c1] at b1
    have ej := Option.some.inj b1
    subst ej
    rw [c2] at b2
    have ex := Option.some.inj b2
    subst ex
    have hs := wl_er σ (ln σ) i y c2
    rcases c with ⟨d0, -⟩ | ⟨-, d1, -⟩ | ⟨d0, d1, d2, -, -, d3⟩ | ⟨-, d1, -⟩
    · exact absurd he' d0
    · have := hc.1; omega
    · have hm : ∀ t, isdn σ' t ≠ 0 → isdn σ t ≠ 0 ∨ t = xw y 3 := fun t e => by
        by_cases et : t = xw y 3
        · exact Or.inr et
        refine Or.inl ?_
        unfold isdn at e ⊢
        rcases d3 with ⟨b1, b2, b3⟩ | ⟨b1, b2, b3⟩
        · by_cases ct : t < 38
          · rw [if_pos ct] at e ⊢
            rw [b3, if_neg et] at e; exact e
          · rw [if_neg ct] at e ⊢
            rw [b2] at e; exact e
        · by_cases ct : t < 38
          · rw [if_pos ct] at e ⊢
            rw [b2] at e; exact e
          · rw [if_neg ct] at e ⊢
            rw [b3, if_neg (by omega)] at e; exact e
      have h1 := wl_cl he hm (ln σ')
      have h2 : wl σ (ln σ') ≤ wl σ (ln σ) := by rw [d2]; omega
      unfold Wp
      omega
    · have := hc.1; omega
theorem wt_b (σ : qS) (x : Ms) : wt σ x ≤ 2 := by
  unfold wt
  split
  · omega
  · split
    · omega
    · split <;> omega
theorem wl_b (σ : qS) : ∀ L : List Ms, wl σ L ≤ 2 * L.length
  | [] => by simp [wl]
  | x :: L => by
    have h1 := wt_b σ x
    have h2 := wl_b σ L
    simp only [wl, List.length_cons]; omega
theorem ww_b {σ : qS} {w : Int} (h : JI False (-1) σ) (hw : 0 ≤ w ∧ w < 6) (ha : AW σ w) : ww σ w ≤ 159 := by
  unfold ww
  have h1 : (if σ 62 w = -1 ∧ σ 65 w = 0 then 1 else 0) ≤ 1 := by split <;> omega
  have h2 : (if 0 ≤ σ 62 w ∧ isdn σ (σ 62 w) ≠ 0 then 2 else 0) ≤ 2 := by split <;> omega
  have h3 : (if 38 ≤ σ 62 w then 13 * ((σ 66 w).toNat - 1) + (σ 65 w).toNat else 0) ≤ 156 := by
    by_cases c : 38 ≤ σ 62 w
    · rw [if_pos c]
      have hr := (rd_P2 h hw ha c).1
      have := hr.2.2.1
      have := hr.2.2.2.1
      omega
    · rw [if_neg c]; omega
  omega
theorem Wp_b {σ : qS} (h : GS σ) : Wp σ ≤ 1200 := by
  have hl := wl_b σ (ln σ)
  rw [ln_len] at hl
  have hk := h.1.2.2.1
  unfold lok at hk
  have w0 := ww_b h.1 (w := 0) (by decide) (h.2.2.1 0 (by decide) (by decide))
  have w1 := ww_b h.1 (w := 1) (by decide) (h.2.2.1 1 (by decide) (by decide))
  have w2 := ww_b h.1 (w := 2) (by decide) (h.2.2.1 2 (by decide) (by decide))
  have w3 := ww_b h.1 (w := 3) (by decide) (h.2.2.1 3 (by decide) (by decide))
  have w4 := ww_b h.1 (w := 4) (by decide) (h.2.2.1 4 (by decide) (by decide))
  have w5 := ww_b h.1 (w := 5) (by decide) (h.2.2.1 5 (by decide) (by decide))
  unfold Wp wsum
  omega

