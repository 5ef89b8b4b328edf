theorem wt_lk {σ σ' : qS} {b : Int} (he : σ' 31 = σ 31) (h1 : isdn σ b ≠ 0) (h2 : isdn σ' b = 0) (hm : ∀ t, isdn σ' t ≠ 0 → isdn σ t ≠ 0) (x : Ms) : wt σ' x + (if itm σ b x = true then 2 else 0) ≤ wt σ x := by
  by_cases c : itm σ b x = true
  · rw [if_pos c]
    unfold itm at c
    obtain ⟨c1, c2⟩ := of_decide_eq_true c
    unfold wt
    have ne : ¬ (xw x 1 ≠ σ 31 0) := fun e => e c1
    rw [he, if_neg ne, if_neg ne]
    have n17 : ¬ (xw x 0 = 1 ∨ xw x 0 = 7) := by
      rcases c2 with ⟨a1, -⟩ | ⟨a1, -⟩ <;> omega
    rw [if_neg n17, if_neg n17]
    have p1 : (xw x 0 = 3 ∧ isdn σ (xw x 3) ≠ 0) ∨ (xw x 0 = 2 ∧ isdn σ (xw x 2) ≠ 0) := by
      rcases c2 with ⟨a1, a2⟩ | ⟨a1, a2⟩
      · exact Or.inl ⟨a1, by rw [a2]; exact h1⟩
      · exact Or.inr ⟨a1, by rw [a2]; exact h1⟩
    have p2 : ¬ ((xw x 0 = 3 ∧ isdn σ' (xw x 3) ≠ 0) ∨ (xw x 0 = 2 ∧ isdn σ' (xw x 2) ≠ 0)) := fun e => by
      rcases c2 with ⟨a1, a2⟩ | ⟨a1, a2⟩
      · rcases e with ⟨-, e⟩ | ⟨e, -⟩
        · rw [a2] at e; exact e h2
        · omega
      · rcases e with ⟨e, -⟩ | ⟨-, e⟩
        · omega
        · rw [a2] at e; exact e h2
    rw [if_pos p1, if_neg p2]
    exact Nat.le_refl _
  · rw [if_neg c]
    exact wt_mono he hm x
theorem wl_lk {σ σ' : qS} {b : Int} (he : σ' 31 = σ 31) (h1 : isdn σ b ≠ 0) (h2 : isdn σ' b = 0) (hm : ∀ t, isdn σ' t ≠ 0 → isdn σ t ≠ 0) : ∀ L : List Ms, wl σ' L + 2 * L.countP (itm σ b) ≤ wl σ L
  | [] => by simp [wl]
  | x :: L => by
    have i1 := wt_lk he h1 h2 hm x
    have i2 := wl_lk he h1 h2 hm L
    rw [List.countP_cons]
    simp only [wl]
    by_cases c : itm σ b x = true
    · rw [if_pos c] at i1 ⊢; omega
    · rw [if_neg c] at i1 ⊢; omega
theorem HR_lk {σ σ' : qS} (h : HR σ σ') {x : Ms} (hx : hd6 σ x) (he' : xw x 1 = σ 31 0) (h7 : xw x 0 = 7) (h38 : xw x 2 < 38) (h1 : isdn σ (xw x 2) ≠ 0) (h2 : isdn σ' (xw x 2) = 0) : Wp σ' + 2 + 2 * (ln σ').countP (itm σ (xw x 2)) ≤ Wp σ := by
  obtain ⟨h0, hk, c⟩ := h
  have he : σ' 31 = σ 31 := hk _ (by decide)
  have hk3 : ∀ k ∈ [62, 65, 66], σ' k = σ k := fun k m => hk k ((by decide : ∀ k ∈ [62, 65, 66], k ∈ hrK) k m)
  obtain ⟨j, b1, b2⟩ := hx
  rcases c with ⟨c1, -⟩ | ⟨i, y, c1, c2, c⟩
  · rw [c1] at b1; cases b1
  · rw [c1] at b1
    have ej := Option.some.inj b1
    subst ej
    rw [c2] at b2
    have ex := Option.some.inj b2
    subst ex
    have hs := wl_er σ (ln σ) i y c2
    rcases c with ⟨d0, -⟩ | ⟨-, d1, -⟩ | ⟨-, d1, -⟩ | ⟨d0, d1, d2, d3, -, d4⟩
    · exact absurd he' d0
    · omega
    · omega
    · have hm : ∀ t, isdn σ' t ≠ 0 → isdn σ t ≠ 0 := fun t e => by
        unfold isdn at e ⊢
        by_cases ct : t < 38
        · rw [if_pos ct] at e ⊢
          rcases d4 with ⟨-, -, b, -⟩ | ⟨-, b, -⟩
          · rw [b] at e
            by_cases et : t = xw y 2
            · rw [if_pos et] at e; exact absurd rfl e
            · rw [if_neg et] at e; exact e
          · rw [b] at e; exact e
        · rw [if_neg ct] at e ⊢
          rw [d3] at e; exact e
      have hw := wt_ge d0 (Or.inr (Or.inl d1))
      have i1 := wl_lk he h1 h2 hm (ln σ')
      have i2 := wsum_mono hm hk3
      have i3 : wl σ (ln σ') + 2 = wl σ (ln σ) := by rw [d2]; omega
      unfold Wp
      omega

