theorem wt_mono {σ σ' : qS} (he : σ' 31 = σ 31) (hm : ∀ t, isdn σ' t ≠ 0 → isdn σ t ≠ 0) (x : Ms) : wt σ' x ≤ wt σ x := by
  unfold wt
  rw [he]
  split
  · exact Nat.le_refl _
  · split
    · exact Nat.le_refl _
    · by_cases c : (xw x 0 = 3 ∧ isdn σ' (xw x 3) ≠ 0) ∨ (xw x 0 = 2 ∧ isdn σ' (xw x 2) ≠ 0)
      · have c' : (xw x 0 = 3 ∧ isdn σ (xw x 3) ≠ 0) ∨ (xw x 0 = 2 ∧ isdn σ (xw x 2) ≠ 0) := by
          rcases c with ⟨a, b⟩ | ⟨a, b⟩
          · exact Or.inl ⟨a, hm _ b⟩
          · exact Or.inr ⟨a, hm _ b⟩
        rw [if_pos c, if_pos c']
        exact Nat.le_refl _
      · rw [if_neg c]; exact Nat.zero_le _
theorem wl_mono {σ σ' : qS} (he : σ' 31 = σ 31) (hm : ∀ t, isdn σ' t ≠ 0 → isdn σ t ≠ 0) : ∀ L, wl σ' L ≤ wl σ L
  | [] => Nat.le_refl _
  | x :: L => by
    have h1 := wt_mono he hm x
    have h2 := wl_mono he hm L
    simp only [wl]; omega
theorem ww_mono {σ σ' : qS} (hm : ∀ t, isdn σ' t ≠ 0 → isdn σ t ≠ 0) (hk : ∀ k ∈ [62, 65, 66], σ' k = σ k) (v : Int) : ww σ' v ≤ ww σ v := by
  unfold ww
  rw [hk _ (by decide), hk _ (by decide), hk _ (by decide)]
  by_cases c : 0 ≤ σ 62 v ∧ isdn σ' (σ 62 v) ≠ 0
  · have c' : 0 ≤ σ 62 v ∧ isdn σ (σ 62 v) ≠ 0 := ⟨c.1, hm _ c.2⟩
    rw [if_pos c, if_pos c']; omega
  · rw [if_neg c]; omega
theorem wsum_mono {σ σ' : qS} (hm : ∀ t, isdn σ' t ≠ 0 → isdn σ t ≠ 0) (hk : ∀ k ∈ [62, 65, 66], σ' k = σ k) : wsum σ' ≤ wsum σ := by
  have h := ww_mono hm hk
  have h0 := h 0
  have h1 := h 1
  have h2 := h 2
  have h3 := h 3
  have h4 := h 4
  have h5 := h 5
  unfold wsum; omega
def hd6 (σ : qS) (x : Ms) : Prop := ∃ i : Nat, (ln σ).findIdx? (fun m => m.1 == 6) = some i ∧ (ln σ)[i]? = some x
def clos (σ : qS) (x : Ms) : Prop := xw x 0 = 3 ∧ isdn σ (xw x 3) = 0
theorem wt_ge {σ : qS} {x : Ms} (he : xw x 1 = σ 31 0) (h : xw x 0 = 1 ∨ xw x 0 = 7 ∨ (xw x 0 = 3 ∧ isdn σ (xw x 3) ≠ 0)) : wt σ x = 2 := by
  unfold wt
  rw [if_neg (fun e => e he)]
  rcases h with h | h | h
  · rw [if_pos (Or.inl h)]
  · rw [if_pos (Or.inr h)]
  · rw [if_neg (by omega), if_pos (Or.inl h)]
theorem HR_W {σ σ' : qS} (hJ : JI True (-1) σ) (h : HR σ σ') : (∀ x, hd6 σ x → ¬ clos σ x) → Wp σ' ≤ Wp σ ∧ ∀ x, hd6 σ x → xw x 1 = σ 31 0 → Wp σ' + 2 ≤ Wp σ := by
  intro hc
  obtain ⟨h0, hk, c⟩ := h
  have he : σ' 31 = σ 31 := hk _ (by decide)
  have hk3 : ∀ k ∈ [62, 65, 66], σ' k = σ k := fun k m => hk k ((by decide : ∀ k ∈ [62, 65, 66], k ∈ hrK) k m)
  have fin : ∀ d : Nat, (∀ t, isdn σ' t ≠ 0 → isdn σ t ≠ 0) → wl σ (ln σ') + d ≤ wl σ (ln σ) → Wp σ' + d ≤ Wp σ := fun d hm hl => by
    have h1 := wl_mono he hm (ln σ')
    have h2 := wsum_mono hm hk3
    unfold Wp; omega
  have uq : ∀ {x y : Ms}, hd6 σ x → hd6 σ y → x = y := fun {x y} hx hy => by
    obtain ⟨i, a1, a2⟩ := hx
    obtain ⟨j, b1, b2⟩ := hy
    rw [a1] at b1
    have := Option.some.inj b1
    subst this
    rw [a2] at b2
    exact Option.some.inj b2
  rcases c with ⟨c1, c2, c3⟩ | ⟨i, x, c1, c2, c⟩
  · have hm : ∀ t, isdn σ' t ≠ 0 → isdn σ t ≠ 0 := fun t e => by rw [isdn_k (c3 _ (by decide)) (c3 _ (by decide))] at e; exact e
    refine ⟨fin 0 hm (by rw [c2]; omega), fun y hy _ => ?_⟩
    obtain ⟨j, b1, -⟩ := hy
    rw [c1] at b1; cases b1
  · have hx : hd6 σ x := ⟨i, c1, c2⟩
    have hs := wl_er σ (ln σ) i x c2
    have two : Wp σ' + 2 ≤ Wp σ → Wp σ' ≤ Wp σ ∧ ∀ y, hd6 σ y → xw y 1 = σ 31 0 → Wp σ' + 2 ≤ Wp σ := fun e => ⟨by omega, fun _ _ _ => e⟩
    rcases c with ⟨d0, d1, d2⟩ | ⟨d0, d1, d2, d3, fi, en, -, d4⟩ | ⟨d0, d1, d2, -, -, d3⟩ | ⟨d0, d1, d2, d3, -, d4⟩
    · have hm : ∀ t, isdn σ' t ≠ 0 → isdn σ t ≠ 0 := fun t e => by rw [isdn_k (d2 _ (by decide)) (d2 _ (by decide))] at e; exact e
      refine ⟨fin 0 hm (by rw [d1]; omega), fun y hy e => ?_⟩
      rw [uq hy hx] at e
      exact absurd e d0
    · have hm : ∀ t, isdn σ' t ≠ 0 → isdn σ t ≠ 0 := fun t e => by rw [isdn_k d2 d3] at e; exact e
      have hw := wt_ge d0 (Or.inl d1)
      refine two (fin 2 hm ?_)
      rcases d4 with ⟨d4, -⟩ | ⟨t, -, -, g, -, -, kv, d4⟩
      · rw [d4]; omega
      · have h1 := wl_tl σ ((ln σ).eraseIdx i)
        have h2 : wt σ (xw x 2, [2, σ 31 0, t, 0, 0, 0], kv) = 0 := by
          rw [wt_mk, if_neg (by decide), if_neg]
          intro e
          rcases e with ⟨e, -⟩ | ⟨-, e⟩
          · omega
          · exact e g.1
        rw [d4, wl_app]
        simp only [wl, h2]
        omega
    · have hn : isdn σ (xw x 3) ≠ 0 := fun e => hc x hx ⟨d1, e⟩
      have hw := wt_ge d0 (Or.inr (Or.inr ⟨d1, hn⟩))
      refine two (fin 2 (fun t e => ?_) (by rw [d2]; omega))
      unfold isdn at e hn ⊢
      rcases d3 with ⟨b1, b2, b3⟩ | ⟨b1, b2, b3⟩
      · by_cases ct : t < 38
        · rw [if_pos ct] at e ⊢
          rw [if_pos b1] at hn
          by_cases et : t = xw x 3
          · rw [et]; exact hn
          · rw [b3, if_neg et] at e; exact e
        · rw [if_neg ct] at e ⊢
          rw [b2] at e; exact e
      · by_cases ct : t < 38
        · rw [if_pos ct] at e ⊢
          rw [b2] at e; exact e
        · rw [if_neg ct] at e ⊢
          rw [if_neg (by omega)] at hn
          by_cases et : t - 38 = xw x 3 - 38
          · rw [et]; exact hn
          · rw [b3, if_neg et] at e; exact e
    · have hw := wt_ge d0 (Or.inr (Or.inl d1))
      refine two (fin 2 (fun t e => ?_) (by rw [d2]; omega))
      unfold isdn at e ⊢
      by_cases ct : t < 38
      · rw [if_pos ct] at e ⊢
        rcases d4 with ⟨-, -, b, -⟩ | ⟨-, b, -⟩
        · rw [b] at e
          by_cases et : t = xw x 2
          · rw [if_pos et] at e; exact absurd rfl e
          · rw [if_neg et] at e; exact e
        · rw [b] at e; exact e
      · rw [if_neg ct] at e ⊢
        rw [d3] at e; exact e

