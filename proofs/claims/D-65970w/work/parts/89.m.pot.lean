def wt (σ : qS) (x : Ms) : Nat := if xw x 1 ≠ σ 31 0 then 0 else if xw x 0 = 1 ∨ xw x 0 = 7 then 2 else if (xw x 0 = 3 ∧ isdn σ (xw x 3) ≠ 0) ∨ (xw x 0 = 2 ∧ isdn σ (xw x 2) ≠ 0) then 2 else 0
def wl (σ : qS) : List Ms → Nat
  | [] => 0
  | x :: L => wt σ x + wl σ L
def ww (σ : qS) (v : Int) : Nat := (if σ 62 v = -1 ∧ σ 65 v = 0 then 1 else 0) + (if 0 ≤ σ 62 v ∧ isdn σ (σ 62 v) ≠ 0 then 2 else 0) + (if 38 ≤ σ 62 v then 13 * ((σ 66 v).toNat - 1) + (σ 65 v).toNat else 0)
def wsum (σ : qS) : Nat := ww σ 0 + ww σ 1 + ww σ 2 + ww σ 3 + ww σ 4 + ww σ 5
def Wp (σ : qS) : Nat := wl σ (ln σ) + wsum σ
theorem wl_app (σ : qS) : ∀ (L M : List Ms), wl σ (L ++ M) = wl σ L + wl σ M
  | [], M => by simp [wl]
  | x :: L, M => by
    have := wl_app σ L M
    simp only [List.cons_append, wl, this]; omega
theorem wl_er (σ : qS) : ∀ (L : List Ms) (i : Nat) (x : Ms), L[i]? = some x → wl σ (L.eraseIdx i) + wt σ x = wl σ L
  | [], _, _, h => by simp at h
  | a :: L, 0, x, h => by
    have e : a = x := by simpa using h
    subst e
    simp only [List.eraseIdx_zero, List.tail_cons, wl]; omega
  | a :: L, i + 1, x, h => by
    have := wl_er σ L i x (by simpa using h)
    simp only [List.eraseIdx_cons_succ, wl]; omega
theorem wl_tl (σ : qS) (L : List Ms) : wl σ (tl95 L) ≤ wl σ L := by
  unfold tl95
  split
  · cases L with
    | nil => exact Nat.le_refl _
    | cons a L => simp only [List.eraseIdx_zero, List.tail_cons, wl]; omega
  · exact Nat.le_refl _
theorem wt_k {σ σ' : qS} (he : σ' 31 = σ 31) (hi : ∀ t, isdn σ' t = isdn σ t) (x : Ms) : wt σ' x = wt σ x := by
  unfold wt
  rw [he, hi, hi]
theorem wl_k {σ σ' : qS} (he : σ' 31 = σ 31) (hi : ∀ t, isdn σ' t = isdn σ t) : ∀ L, wl σ' L = wl σ L
  | [] => rfl
  | x :: L => by simp only [wl, wt_k he hi, wl_k he hi L]
theorem isdn_k {σ σ' : qS} (h1 : σ' 33 = σ 33) (h2 : σ' 35 = σ 35) (t : Int) : isdn σ' t = isdn σ t := by
  unfold isdn; rw [h1, h2]
theorem ww_k {σ σ' : qS} {v : Int} (hi : ∀ t, isdn σ' t = isdn σ t) (h1 : σ' 62 v = σ 62 v) (h2 : σ' 65 v = σ 65 v) (h3 : σ' 66 v = σ 66 v) : ww σ' v = ww σ v := by
  unfold ww; rw [h1, h2, h3, hi]
theorem wsum_o {σ σ' : qS} {w : Int} {d : Nat} (hw : 0 ≤ w ∧ w < 6) (ho : oth w σ σ') (hi : ∀ t, isdn σ' t = isdn σ t) (hd : ww σ' w ≤ ww σ w + d) : wsum σ' + ww σ w = wsum σ + ww σ' w := by
  have e : ∀ v, v ≠ w → ww σ' v = ww σ v := fun v hv => ww_k hi (ho.1 v hv _ (by decide)) (ho.1 v hv _ (by decide)) (ho.1 v hv _ (by decide))
  have hc : w = 0 ∨ w = 1 ∨ w = 2 ∨ w = 3 ∨ w = 4 ∨ w = 5 := by omega
  unfold wsum
  rcases hc with rfl | rfl | rfl | rfl | rfl | rfl
  · rw [e 1 (by decide), e 2 (by decide), e 3 (by decide), e 4 (by decide), e 5 (by decide)]; omega
  · rw [e 0 (by decide), e 2 (by decide), e 3 (by decide), e 4 (by decide), e 5 (by decide)]; omega
  · rw [e 0 (by decide), e 1 (by decide), e 3 (by decide), e 4 (by decide), e 5 (by decide)]; omega
  · rw [e 0 (by decide), e 1 (by decide), e 2 (by decide), e 4 (by decide), e 5 (by decide)]; omega
  · rw [e 0 (by decide), e 1 (by decide), e 2 (by decide), e 3 (by decide), e 5 (by decide)]; omega
  · rw [e 0 (by decide), e 1 (by decide), e 2 (by decide), e 3 (by decide), e 4 (by decide)]; omega
theorem ww_same {σ σ' : qS} {w : Int} (hi : ∀ t, isdn σ' t = isdn σ t) (h : same w σ σ') : ww σ' w = ww σ w := ww_k hi h.1 h.2.2.1 h.2.2.2.1
theorem wt_2 {σ : qS} {x : Ms} (he : xw x 1 = σ 31 0) (h2 : xw x 0 = 2) : wt σ x = if isdn σ (xw x 2) ≠ 0 then 2 else 0 := by
  unfold wt
  rw [if_neg (fun e => e he), if_neg (by omega)]
  by_cases c : isdn σ (xw x 2) ≠ 0
  · rw [if_pos c, if_pos (Or.inr ⟨h2, c⟩)]
  · rw [if_neg c, if_neg]
    intro e
    rcases e with ⟨e, -⟩ | ⟨-, e⟩
    · omega
    · exact c e
theorem wt_mk (σ : qS) (to ty a b c d : Int) (kv : List Pr) : wt σ (to, [ty, σ 31 0, a, b, c, d], kv) = if ty = 1 ∨ ty = 7 then 2 else if (ty = 3 ∧ isdn σ b ≠ 0) ∨ (ty = 2 ∧ isdn σ a ≠ 0) then 2 else 0 := by
  unfold wt
  rw [if_neg (fun e => e rfl)]
  rfl
theorem wt_6 (σ : qS) (to a b c d : Int) (kv : List Pr) : wt σ (to, [6, σ 31 0, a, b, c, d], kv) = 0 := by
  rw [wt_mk, if_neg (by decide), if_neg]
  intro e
  rcases e with ⟨e, -⟩ | ⟨e, -⟩ <;> omega
theorem wt_5 (σ : qS) (to a b c d : Int) (kv : List Pr) : wt σ (to, [5, σ 31 0, a, b, c, d], kv) = 0 := by
  rw [wt_mk, if_neg (by decide), if_neg]
  intro e
  rcases e with ⟨e, -⟩ | ⟨e, -⟩ <;> omega
theorem wt_4 (σ : qS) (to a b c d : Int) (kv : List Pr) : wt σ (to, [4, σ 31 0, a, b, c, d], kv) = 0 := by
  rw [wt_mk, if_neg (by decide), if_neg]
  intro e
  rcases e with ⟨e, -⟩ | ⟨e, -⟩ <;> omega
theorem wt_3 (σ : qS) (to a b c d : Int) (kv : List Pr) : wt σ (to, [3, σ 31 0, a, b, c, d], kv) = if isdn σ b ≠ 0 then 2 else 0 := by
  rw [wt_mk, if_neg (by decide)]
  by_cases h : isdn σ b ≠ 0
  · rw [if_pos h, if_pos (Or.inl ⟨rfl, h⟩)]
  · rw [if_neg h, if_neg]
    intro e
    rcases e with ⟨-, e⟩ | ⟨e, -⟩
    · exact h e
    · omega
theorem wt_1 (σ : qS) (to a b c d : Int) (kv : List Pr) : wt σ (to, [1, σ 31 0, a, b, c, d], kv) = 2 := by rw [wt_mk, if_pos (Or.inl rfl)]
theorem wt_7 (σ : qS) (to a b c d : Int) (kv : List Pr) : wt σ (to, [7, σ 31 0, a, b, c, d], kv) = 2 := by rw [wt_mk, if_pos (Or.inr rfl)]
theorem RD_W {w : Int} {σ σ' : qS} (hJ : JI False (-1) σ) (hw : 0 ≤ w ∧ w < 6) (h : RD w σ σ') : Wp σ' ≤ Wp σ := by
  obtain ⟨h0, ho, hk, c⟩ := h
  have he : σ' 31 = σ 31 := hk _ (by decide)
  have hi : ∀ t, isdn σ' t = isdn σ t := isdn_k (hk _ (by decide)) (hk _ (by decide))
  have fin : ∀ d : Nat, ww σ' w ≤ ww σ w + d → wl σ (ln σ') + d ≤ wl σ (ln σ) → Wp σ' ≤ Wp σ := fun d h1 h2 => by
    have := wsum_o hw ho hi h1
    unfold Wp
    rw [wl_k he hi]
    omega
  rcases c with ⟨-, c1, c2⟩ | ⟨i, x, c1, c2, c⟩
  · exact fin 0 (by rw [ww_same hi c2]; omega) (by rw [c1]; omega)
  · have hs := wl_er σ (ln σ) i x c2
    rcases c with ⟨-, d1, d2⟩ | ⟨e1, e2, d1, d2⟩ | ⟨-, -, d2, a, kv, d1⟩ | ⟨-, -, d1, d2⟩
    · exact fin 0 (by rw [ww_same hi d2]; omega) (by rw [d1]; omega)
    · rcases d2 with ⟨t0, t1, -, t3, t4, -⟩ | ⟨-, d2⟩
      · have hx := wt_2 e1 e2
        have hg := GV_nn hJ hw c1 c2 e1 e2
        refine fin (if isdn σ (xw x 2) ≠ 0 then 2 else 0) ?_ (by rw [d1]; omega)
        unfold ww
        rw [t1, t3, t4, hi]
        have z1 : (if xw x 2 = -1 ∧ (0 : Int) = 0 then 1 else 0) = 0 := if_neg (fun e => by omega)
        have z2 : (if 38 ≤ xw x 2 then 13 * ((0 : Int).toNat - 1) + (0 : Int).toNat else 0) = 0 := by split <;> rfl
        rw [z1, z2]
        by_cases cc : isdn σ (xw x 2) ≠ 0
        · rw [if_pos cc, if_pos ⟨hg, cc⟩]; omega
        · rw [if_neg cc, if_neg (fun e => cc e.2)]; omega
      · exact fin 0 (by rw [ww_same hi d2]; omega) (by rw [d1]; omega)
    · refine fin 0 (by rw [ww_same hi d2]; omega) ?_
      rw [d1, wl_app]
      have h1 := wl_tl σ ((ln σ).eraseIdx i)
      simp only [wl, wt_6]
      omega
    · rcases d2 with ⟨-, d2⟩ | ⟨f, t1, t2, t3, -⟩
      · exact fin 0 (by rw [ww_same hi d2]; omega) (by rw [d1]; omega)
      · refine fin 0 ?_ (by rw [d1]; omega)
        unfold ww
        have := f.1
        rw [t1, t2, t3, hi]
        rw [if_neg (fun e => by omega : ¬ (σ 62 w = -1 ∧ (0 : Int) = 0)), if_pos this]
        have : 13 * ((0 : Int).toNat - 1) + (0 : Int).toNat = 0 := rfl
        omega
theorem TL_W {to ty a b c d : Int} {σ σ' : qS} {n : Nat} (h : TL to ty a b c d σ σ') (hn : ∀ kv, wt σ (to, [ty, σ 31 0, a, b, c, d], kv) ≤ n) : wl σ (ln σ') ≤ wl σ (ln σ) + n := by
  obtain ⟨kv, h⟩ := h
  have h1 := wl_tl σ (ln σ)
  have h2 := hn kv
  rw [h, wl_app]
  simp only [wl]
  omega
theorem ww_fgo {σ' : qS} {w : Int} (h : fgo w σ') : ww σ' w = 1 := by
  unfold ww
  rw [h.1, h.2.2.1, h.2.2.2, if_pos ⟨rfl, rfl⟩, if_neg (fun e => absurd e.1 (by decide)), if_neg (by decide)]
theorem ACT_W {w : Int} {σ σ' : qS} (hj : jobok σ) (hw : 0 ≤ w ∧ w < 6) (hr : 38 ≤ σ 62 w → (0 ≤ σ 65 w ∧ σ 65 w ≤ 13) ∧ (0 ≤ σ 66 w ∧ σ 66 w < 12) ∧ (σ 65 w = 0 → σ 66 w = 0)) (h : ACT w σ σ') : Wp σ' ≤ Wp σ + 1 := by
  have hsp := spl_b hj
  obtain ⟨h0, ho, hk, c⟩ := h
  have he : σ' 31 = σ 31 := hk _ (by decide)
  have hi : ∀ t, isdn σ' t = isdn σ t := isdn_k (hk _ (by decide)) (hk _ (by decide))
  have fin : wl σ (ln σ') + ww σ' w ≤ wl σ (ln σ) + ww σ w + 1 → Wp σ' ≤ Wp σ + 1 := fun h1 => by
    have := wsum_o (d := ww σ' w) hw ho hi (by omega)
    unfold Wp
    rw [wl_k he hi]
    omega
  have dl : ∀ t, (0 ≤ t ∧ t = σ 62 w) → wl σ (ln σ') ≤ wl σ (ln σ) + (if isdn σ t ≠ 0 then 2 else 0) → fgo w σ' → Wp σ' ≤ Wp σ + 1 := fun t ht h1 h2 => by
    refine fin ?_
    rw [ww_fgo h2]
    have : (if isdn σ t ≠ 0 then 2 else 0) ≤ ww σ w := by
      have e2 : (if 0 ≤ σ 62 w ∧ isdn σ (σ 62 w) ≠ 0 then 2 else 0) = if isdn σ t ≠ 0 then 2 else 0 := by
        rw [← ht.2]
        by_cases cc : isdn σ t ≠ 0
        · rw [if_pos cc, if_pos ⟨ht.1, cc⟩]
        · rw [if_neg cc, if_neg (fun e => cc e.2)]
      unfold ww
      rw [e2]
      omega
    omega
  have d0 : wl σ (ln σ') ≤ wl σ (ln σ) → fgo w σ' → Wp σ' ≤ Wp σ + 1 := fun h1 h2 => by
    refine fin ?_
    rw [ww_fgo h2]; omega
  rcases c with ⟨c1, -, c2, c3, c4⟩ | ⟨c0, c⟩ | ⟨c0, c⟩
  · have e' : ww σ' w = if σ' 65 w = 0 then 1 else 0 := by
      unfold ww
      rw [c2, if_neg (fun e => absurd e.1 (by decide) : ¬ ((0 : Int) ≤ -1 ∧ _)), if_neg (by decide : ¬ (38 : Int) ≤ -1)]
      by_cases cc : σ' 65 w = 0
      · rw [if_pos ⟨rfl, cc⟩, if_pos cc]
      · rw [if_neg (fun e => cc e.2), if_neg cc]
    have e0 : ww σ w = if σ 65 w = 0 then 1 else 0 := by
      unfold ww
      rw [c1, if_neg (fun e => absurd e.1 (by decide) : ¬ ((0 : Int) ≤ -1 ∧ _)), if_neg (by decide : ¬ (38 : Int) ≤ -1)]
      by_cases cc : σ 65 w = 0
      · rw [if_pos ⟨rfl, cc⟩, if_pos cc]
      · rw [if_neg (fun e => cc e.2), if_neg cc]
    refine fin ?_
    rw [e', e0]
    rcases c4 with ⟨a0, c4⟩ | ⟨a0, c4⟩
    · have h1 := TL_W (n := 2) c4 (fun kv => by rw [wt_1]; exact Nat.le_refl _)
      rw [if_pos a0]
      rw [if_neg (by omega)] at c3
      rw [if_neg (by omega)]
      omega
    · rw [c4]
      rw [if_neg a0]
      split <;> omega
  · have ht : 0 ≤ σ 62 w ∧ σ 62 w = σ 62 w := ⟨c0.1, rfl⟩
    rcases c with ⟨-, -, f, a, c⟩ | ⟨-, f, -, ⟨a, c⟩, -⟩ | ⟨-, -, f, c⟩ | ⟨-, -, c1, -, -, c2⟩
    · exact dl _ ht (TL_W c (fun kv => by rw [wt_3]; exact Nat.le_refl _)) f
    · exact dl _ ht (TL_W c (fun kv => by rw [wt_3]; exact Nat.le_refl _)) f
    · have := TL_W (n := 0) c (fun kv => by rw [wt_4]; exact Nat.le_refl _)
      exact d0 (by omega) f
    · refine fin ?_
      rw [c2]
      have : ww σ' w ≤ ww σ w + 1 := by
        unfold ww
        rw [c1, hi]
        rw [if_neg (fun e => by omega : ¬ (σ 62 w = -1 ∧ _)), if_neg (fun e => by omega : ¬ (σ 62 w = -1 ∧ _))]
        have hs : ¬ 38 ≤ σ 62 w := by omega
        rw [if_neg hs, if_neg hs]
        omega
      omega
  · have ht : 0 ≤ σ 62 w ∧ σ 62 w = σ 62 w := ⟨by omega, rfl⟩
    obtain ⟨a1, a2, a3⟩ := hr c0
    have cr : ∀ n : Nat, σ' 62 w = σ 62 w → wl σ (ln σ') ≤ wl σ (ln σ) + n → n + (13 * ((σ' 66 w).toNat - 1) + (σ' 65 w).toNat) ≤ 13 * ((σ 66 w).toNat - 1) + (σ 65 w).toNat + 1 → Wp σ' ≤ Wp σ + 1 := fun n h1 h2 h3 => by
      refine fin ?_
      unfold ww
      rw [h1, hi, if_neg (fun e => by omega : ¬ (σ 62 w = -1 ∧ _)), if_neg (fun e => by omega : ¬ (σ 62 w = -1 ∧ _)), if_pos c0, if_pos c0]
      omega
    rcases c with ⟨-, -, f, c⟩ | ⟨-, -, -, -, f, c⟩ | ⟨-, -, -, -, -, c, c1, -, c2, -, c3⟩ | ⟨-, -, -, a4, -, c1, -, -, c2, c⟩ | ⟨-, -, f, -, c⟩
    · exact dl _ ht (TL_W c (fun kv => by rw [wt_3]; exact Nat.le_refl _)) f
    · exact d0 (by rw [c]; exact Nat.le_refl _) f
    · refine cr 0 c1 (by rw [c]; omega) ?_
      rw [c2, c3]
      omega
    · rcases c with ⟨t1, t2, c⟩ | ⟨t1, t2, kv, kv', c⟩
      · refine cr 0 c1 (TL_W c (fun kv => by rw [wt_5]; exact Nat.le_refl _)) ?_
        rw [t2, c2]
        rcases a4 with a4 | a4
        · have := a3 a4; omega
        · omega
      · refine cr 2 c1 ?_ ?_
        · rw [c, wl_app]
          have h1 := wl_tl σ (tl95 (ln σ) ++ [(σ 33 (σ 64 w), [5, σ 31 0, σ 64 w, σ 62 w - 38, ps σ w, w], kv)])
          rw [wl_app] at h1
          have h2 := wl_tl σ (ln σ)
          simp only [wl, wt_5, wt_7] at h1 ⊢
          omega
        · rw [t2, c2]
          rcases a4 with a4 | a4
          · have := a3 a4; omega
          · omega
    · rcases c with ⟨-, -, c⟩ | ⟨-, c⟩
      · exact dl _ ht (TL_W c (fun kv => by rw [wt_3]; exact Nat.le_refl _)) f
      · have := TL_W (n := 0) c (fun kv => by rw [wt_4]; exact Nat.le_refl _)
        exact d0 (by omega) f

