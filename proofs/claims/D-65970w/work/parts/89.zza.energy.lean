def wn (σ : qS) (v : Int) : Nat := (if σ 62 v = -1 ∧ σ 65 v = 0 then 1 else 0) + (if 0 ≤ σ 62 v ∧ isdn σ (σ 62 v) ≠ 0 then 2 else 0)
def crd (σ : qS) (v : Int) : Nat := if 38 ≤ σ 62 v then 13 * ((σ 66 v).toNat - 1) + (σ 65 v).toNat else 0
def wns (σ : qS) : Nat := wn σ 0 + wn σ 1 + wn σ 2 + wn σ 3 + wn σ 4 + wn σ 5
def crs (σ : qS) : Nat := crd σ 0 + crd σ 1 + crd σ 2 + crd σ 3 + crd σ 4 + crd σ 5
def We (σ : qS) : Nat := wl σ (ln σ) + wns σ
theorem Wp_We (σ : qS) : Wp σ = We σ + crs σ := by
  have e : ∀ v, ww σ v = wn σ v + crd σ v := fun v => rfl
  unfold Wp We wsum wns crs
  rw [e, e, e, e, e, e]
  omega
theorem wn_k {σ σ' : qS} {v : Int} (hi : ∀ t, isdn σ' t = isdn σ t) (h1 : σ' 62 v = σ 62 v) (h2 : σ' 65 v = σ 65 v) : wn σ' v = wn σ v := by
  unfold wn; rw [h1, h2, hi]
theorem wns_o {σ σ' : qS} {w : Int} (hw : 0 ≤ w ∧ w < 6) (ho : oth w σ σ') (hi : ∀ t, isdn σ' t = isdn σ t) : wns σ' + wn σ w = wns σ + wn σ' w := by
  have e : ∀ v, v ≠ w → wn σ' v = wn σ v := fun v hv => wn_k hi (ho.1 v hv _ (by decide)) (ho.1 v hv _ (by decide))
  have hc : w = 0 ∨ w = 1 ∨ w = 2 ∨ w = 3 ∨ w = 4 ∨ w = 5 := by omega
  unfold wns
  rcases hc with rfl | rfl | rfl | rfl | rfl | rfl
  · rw [e 1 (by decide), e 2 (by decide), e 3 (by decide), e 4 (by decide), e 5 (by decide)]; omega
  · rw [e 0 (by decide), e 2 (by decide), e 3 (by decide), e 4 (by decide), e 5 (by decide)]; omega
  · rw [e 0 (by decide), e 1 (by decide), e 3 (by decide), e 4 (by decide), e 5 (by decide)]; omega
  · rw [e 0 (by decide), e 1 (by decide), e 2 (by decide), e 4 (by decide), e 5 (by decide)]; omega
  · rw [e 0 (by decide), e 1 (by decide), e 2 (by decide), e 3 (by decide), e 5 (by decide)]; omega
  · rw [e 0 (by decide), e 1 (by decide), e 2 (by decide), e 3 (by decide), e 4 (by decide)]; omega
theorem wn_same {σ σ' : qS} {w : Int} (hi : ∀ t, isdn σ' t = isdn σ t) (h : same w σ σ') : wn σ' w = wn σ w := wn_k hi h.1 h.2.2.1
theorem RD_We {w : Int} {σ σ' : qS} (hJ : JI False (-1) σ) (hw : 0 ≤ w ∧ w < 6) (h : RD w σ σ') : We σ' ≤ We σ := by
  obtain ⟨h0, ho, hk, c⟩ := h
  have he : σ' 31 = σ 31 := hk _ (by decide)
  have hi : ∀ t, isdn σ' t = isdn σ t := isdn_k (hk _ (by decide)) (hk _ (by decide))
  have fin : ∀ d : Nat, wn σ' w ≤ wn σ w + d → wl σ (ln σ') + d ≤ wl σ (ln σ) → We σ' ≤ We σ := fun d h1 h2 => by
    have := wns_o hw ho hi
    unfold We
    rw [wl_k he hi]
    omega
  rcases c with ⟨-, c1, c2⟩ | ⟨i, x, c1, c2, c⟩
  · exact fin 0 (by rw [wn_same hi c2]; omega) (by rw [c1]; omega)
  · have hs := wl_er σ (ln σ) i x c2
    rcases c with ⟨-, d1, d2⟩ | ⟨e1, e2, d1, d2⟩ | ⟨-, -, d2, a, kv, d1⟩ | ⟨-, -, d1, d2⟩
    · exact fin 0 (by rw [wn_same hi d2]; omega) (by rw [d1]; omega)
    · rcases d2 with ⟨t0, t1, -, t3, t4, -⟩ | ⟨-, d2⟩
      · have hx := wt_2 e1 e2
        have hg := GV_nn hJ hw c1 c2 e1 e2
        refine fin (if isdn σ (xw x 2) ≠ 0 then 2 else 0) ?_ (by rw [d1]; omega)
        unfold wn
        rw [t1, t3, hi]
        have z1 : (if xw x 2 = -1 ∧ (0 : Int) = 0 then 1 else 0) = 0 := if_neg (fun e => by omega)
        rw [z1]
        by_cases cc : isdn σ (xw x 2) ≠ 0
        · rw [if_pos cc, if_pos ⟨hg, cc⟩]; omega
        · rw [if_neg cc, if_neg (fun e => cc e.2)]; omega
      · exact fin 0 (by rw [wn_same hi d2]; omega) (by rw [d1]; omega)
    · refine fin 0 (by rw [wn_same hi d2]; omega) ?_
      rw [d1, wl_app]
      have h1 := wl_tl σ ((ln σ).eraseIdx i)
      simp only [wl, wt_6]
      omega
    · rcases d2 with ⟨-, d2⟩ | ⟨f, t1, t2, t3, -⟩
      · exact fin 0 (by rw [wn_same hi d2]; omega) (by rw [d1]; omega)
      · refine fin 0 ?_ (by rw [d1]; omega)
        unfold wn
        have := f.1
        rw [t1, t2, hi]
        rw [if_neg (fun e => by omega : ¬ (σ 62 w = -1 ∧ (0 : Int) = 0))]
        omega
def pf (σ' : qS) (w : Int) : Nat := if σ' 62 w = -1 ∧ σ' 65 w ≤ 1 then 1 else if 38 ≤ σ' 62 w ∧ σ' 65 w = 1 ∧ σ' 66 w = 0 then 2 else 0
theorem wn_fgo {σ' : qS} {w : Int} (h : fgo w σ') : wn σ' w = 1 := by
  unfold wn
  rw [h.1, h.2.2.1, if_pos ⟨rfl, rfl⟩, if_neg (fun e => absurd e.1 (by decide))]
theorem pf_fgo {σ' : qS} {w : Int} (h : fgo w σ') : pf σ' w = 1 := by
  unfold pf
  exact if_pos ⟨h.1, by rw [h.2.2.1]; decide⟩
theorem ACT_We {w : Int} {σ σ' : qS} (hj : jobok σ) (hw : 0 ≤ w ∧ w < 6) (h : ACT w σ σ') : We σ' ≤ We σ + pf σ' w := by
  have hsp := spl_b hj
  obtain ⟨h0, ho, hk, c⟩ := h
  have he : σ' 31 = σ 31 := hk _ (by decide)
  have hi : ∀ t, isdn σ' t = isdn σ t := isdn_k (hk _ (by decide)) (hk _ (by decide))
  have fin : ∀ n, wl σ (ln σ') + wn σ' w ≤ wl σ (ln σ) + wn σ w + n → n ≤ pf σ' w → We σ' ≤ We σ + pf σ' w := fun n h1 h2 => by
    have := wns_o hw ho hi
    unfold We
    rw [wl_k he hi]
    omega
  have dl : ∀ t, (0 ≤ t ∧ t = σ 62 w) → wl σ (ln σ') ≤ wl σ (ln σ) + (if isdn σ t ≠ 0 then 2 else 0) → fgo w σ' → We σ' ≤ We σ + pf σ' w := fun t ht h1 h2 => by
    refine fin 1 ?_ (by rw [pf_fgo h2]; exact Nat.le_refl _)
    rw [wn_fgo h2]
    have : (if isdn σ t ≠ 0 then 2 else 0) ≤ wn σ w := by
      have e2 : (if 0 ≤ σ 62 w ∧ isdn σ (σ 62 w) ≠ 0 then 2 else 0) = if isdn σ t ≠ 0 then 2 else 0 := by
        rw [← ht.2]
        by_cases cc : isdn σ t ≠ 0
        · rw [if_pos cc, if_pos ⟨ht.1, cc⟩]
        · rw [if_neg cc, if_neg (fun e => cc e.2)]
      unfold wn
      rw [e2]
      omega
    omega
  have d0 : wl σ (ln σ') ≤ wl σ (ln σ) → fgo w σ' → We σ' ≤ We σ + pf σ' w := fun h1 h2 => by
    refine fin 1 ?_ (by rw [pf_fgo h2]; exact Nat.le_refl _)
    rw [wn_fgo h2]; omega
  rcases c with ⟨c1, -, c2, c3, c4⟩ | ⟨c0, c⟩ | ⟨c0, c⟩
  · have e' : wn σ' w = if σ' 65 w = 0 then 1 else 0 := by
      unfold wn
      rw [c2, if_neg (fun e => absurd e.1 (by decide) : ¬ ((0 : Int) ≤ -1 ∧ _))]
      by_cases cc : σ' 65 w = 0
      · rw [if_pos ⟨rfl, cc⟩, if_pos cc]
      · rw [if_neg (fun e => cc e.2), if_neg cc]
    have e0 : wn σ w = if σ 65 w = 0 then 1 else 0 := by
      unfold wn
      rw [c1, if_neg (fun e => absurd e.1 (by decide) : ¬ ((0 : Int) ≤ -1 ∧ _))]
      by_cases cc : σ 65 w = 0
      · rw [if_pos ⟨rfl, cc⟩, if_pos cc]
      · rw [if_neg (fun e => cc e.2), if_neg cc]
    rcases c4 with ⟨a0, c4⟩ | ⟨a0, c4⟩
    · have h1 := TL_W (n := 2) c4 (fun kv => by rw [wt_1]; exact Nat.le_refl _)
      rw [a0, if_neg (by decide)] at c3
      refine fin 1 ?_ ?_
      · rw [e', e0, if_pos a0, if_neg (by omega)]
        omega
      · unfold pf; rw [if_pos ⟨c2, by omega⟩]; exact Nat.le_refl _
    · by_cases cc : σ' 65 w = 0
      · refine fin 1 ?_ ?_
        · rw [c4, e', e0, if_pos cc, if_neg a0]; omega
        · unfold pf; rw [if_pos ⟨c2, by omega⟩]; exact Nat.le_refl _
      · refine fin 0 ?_ (Nat.zero_le _)
        rw [c4, e', e0, if_neg cc, if_neg a0]; omega
  · have ht : 0 ≤ σ 62 w ∧ σ 62 w = σ 62 w := ⟨c0.1, rfl⟩
    rcases c with ⟨-, -, f, a, c⟩ | ⟨-, f, -, ⟨a, c⟩, -⟩ | ⟨-, -, f, c⟩ | ⟨-, -, c1, -, -, c2⟩
    · exact dl _ ht (TL_W c (fun kv => by rw [wt_3]; exact Nat.le_refl _)) f
    · exact dl _ ht (TL_W c (fun kv => by rw [wt_3]; exact Nat.le_refl _)) f
    · have := TL_W (n := 0) c (fun kv => by rw [wt_4]; exact Nat.le_refl _)
      exact d0 (by omega) f
    · refine fin 0 ?_ (Nat.zero_le _)
      rw [c2]
      unfold wn
      rw [c1, hi]
      rw [if_neg (fun e => by omega : ¬ (σ 62 w = -1 ∧ _)), if_neg (fun e => by omega : ¬ (σ 62 w = -1 ∧ _))]
      omega
  · have ht : 0 ≤ σ 62 w ∧ σ 62 w = σ 62 w := ⟨by omega, rfl⟩
    have cr : ∀ n : Nat, σ' 62 w = σ 62 w → wl σ (ln σ') ≤ wl σ (ln σ) + n → n ≤ pf σ' w → We σ' ≤ We σ + pf σ' w := fun n h1 h2 h3 => by
      refine fin n ?_ h3
      unfold wn
      rw [h1, hi, if_neg (fun e => by omega : ¬ (σ 62 w = -1 ∧ _)), if_neg (fun e => by omega : ¬ (σ 62 w = -1 ∧ _))]
      omega
    rcases c with ⟨-, -, f, c⟩ | ⟨-, -, -, -, f, c⟩ | ⟨-, -, -, -, -, c, c1, -, c2, -, c3⟩ | ⟨-, -, -, a4, -, c1, -, -, c2, c⟩ | ⟨-, -, f, -, c⟩
    · exact dl _ ht (TL_W c (fun kv => by rw [wt_3]; exact Nat.le_refl _)) f
    · exact d0 (by rw [c]; exact Nat.le_refl _) f
    · exact cr 0 c1 (by rw [c]; omega) (Nat.zero_le _)
    · rcases c with ⟨t1, t2, c⟩ | ⟨t1, t2, kv, kv', c⟩
      · exact cr 0 c1 (TL_W c (fun kv => by rw [wt_5]; exact Nat.le_refl _)) (Nat.zero_le _)
      · refine cr 2 c1 ?_ ?_
        · rw [c, wl_app]
          have h1 := wl_tl σ (tl95 (ln σ) ++ [(σ 33 (σ 64 w), [5, σ 31 0, σ 64 w, σ 62 w - 38, ps σ w, w], kv)])
          rw [wl_app] at h1
          have h2 := wl_tl σ (ln σ)
          simp only [wl, wt_5, wt_7] at h1 ⊢
          omega
        · unfold pf
          rw [if_neg (fun e => by omega), if_pos ⟨by omega, c2, t2⟩]
          exact Nat.le_refl _
    · rcases c with ⟨-, -, c⟩ | ⟨-, c⟩
      · exact dl _ ht (TL_W c (fun kv => by rw [wt_3]; exact Nat.le_refl _)) f
      · have := TL_W (n := 0) c (fun kv => by rw [wt_4]; exact Nat.le_refl _)
        exact d0 (by omega) f
theorem We_wk {w : Int} {σ σ' : qS} (hJ : JI False (-1) σ) (hw : 0 ≤ w ∧ w < 6) (h : WTK w σ σ') : We σ' ≤ We σ + pf σ' w := by
  obtain ⟨σ1, σ2, σ3, r1, r2, r3, a, ⟨j1, j2, j3, j4⟩, a1, a2, a3, a4⟩ := h
  have h1 := RD_We hJ hw r1
  have h2 := RD_We j1 hw r2
  have h3 := RD_We j2 hw r3
  have h4 := ACT_We j3.1 hw a
  omega
theorem crs_k {σ σ' : qS} (h : ∀ k ∈ [62, 65, 66], σ' k = σ k) : crs σ' = crs σ := by
  unfold crs crd
  rw [h _ (by decide), h _ (by decide), h _ (by decide)]
theorem HR_We {σ σ' : qS} (hJ : JI True (-1) σ) (h : HR σ σ') (hc : ∀ x, hd6 σ x → ¬ clos σ x) : We σ' ≤ We σ ∧ ∀ x, hd6 σ x → xw x 1 = σ 31 0 → We σ' + 2 ≤ We σ := by
  have hk := crs_k (σ := σ) (σ' := σ') (fun k m => h.2.1 k ((by decide : ∀ k ∈ [62, 65, 66], k ∈ hrK) k m))
  obtain ⟨a, b⟩ := HR_W hJ h hc
  rw [Wp_We, Wp_We, hk] at a
  refine ⟨by omega, fun x hx e => ?_⟩
  have := b x hx e
  rw [Wp_We, Wp_We, hk] at this
  omega
theorem HR_cle {σ σ' : qS} (h : HR σ σ') {x : Ms} (hx : hd6 σ x) (he' : xw x 1 = σ 31 0) (hc : clos σ x) : We σ' ≤ We σ + 2 * (ln σ').countP (itm σ (xw x 3)) + 12 := by
  have hk := crs_k (σ := σ) (σ' := σ') (fun k m => h.2.1 k ((by decide : ∀ k ∈ [62, 65, 66], k ∈ hrK) k m))
  have a := HR_cl h hx he' hc
  rw [Wp_We, Wp_We, hk] at a
  omega
theorem HR_lke {σ σ' : qS} (h : HR σ σ') {x : Ms} (hx : hd6 σ x) (he' : xw x 1 = σ 31 0) (h7 : xw x 0 = 7) (h38 : xw x 2 < 38) (h1 : isdn σ (xw x 2) ≠ 0) (h2 : isdn σ' (xw x 2) = 0) : We σ' + 2 + 2 * (ln σ').countP (itm σ (xw x 2)) ≤ We σ := by
  have hk := crs_k (σ := σ) (σ' := σ') (fun k m => h.2.1 k ((by decide : ∀ k ∈ [62, 65, 66], k ∈ hrK) k m))
  have a := HR_lk h hx he' h7 h38 h1 h2
  rw [Wp_We, Wp_We, hk] at a
  omega

