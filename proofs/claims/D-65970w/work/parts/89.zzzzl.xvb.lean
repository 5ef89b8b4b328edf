theorem run_GR {L : Nat} {τ : Nat → qS} (h : RNN L τ) (hs : ∀ t, t ≤ 7 * L → psame (τ 0) (τ t)) {w : Nat} (hw : w < 6) {t : Nat} (h1 : 7 ≤ t) (h2 : t ≤ 7 * L) : GR (τ t) (w : Int) := fun ht => by
  refine ⟨run_g1 h hw h1 h2 ht, ?_, (red_ne h hs hw h1 h2 ht).1⟩
  obtain ⟨u, j, e, hu, hj⟩ : ∃ u j, t = u + 1 + j ∧ u % 7 = w ∧ j ≤ 6 := by
    by_cases c : w < t % 7
    · exact ⟨7 * (t / 7) + w, t % 7 - w - 1, by omega, by omega, by omega⟩
    · exact ⟨7 * (t / 7) - 7 + w, t % 7 + 6 - w, by omega, by omega, by omega⟩
  have k := run_w h hw hu j hj (by omega)
  have s := h.2 u (by omega)
  rw [hu] at s
  rcases s with ⟨-, s⟩ | ⟨e6, -⟩
  · have g := WTK_GR (by omega) s
    have kt : τ t 62 (w : Int) = τ (u + 1) 62 (w : Int) := by rw [e]; exact k 62 (by decide)
    have ks : τ t 64 (w : Int) = τ (u + 1) 64 (w : Int) := by rw [e]; exact k 64 (by decide)
    have g2 := (g (by omega)).2.1
    have s1 := (st_c (σ := τ 0) (σ' := τ t) (fun q m => run_st h t h2 q m)).1
    have s2 := (st_c (σ := τ 0) (σ' := τ (u + 1)) (fun q m => run_st h (u + 1) (by omega) q m)).1
    omega
  · omega
theorem HR_kv {σ σ' : qS} (h : HR σ σ') (he : σ' 31 = σ 31) (v : Int) : kv σ' v ≤ kv σ v := by
  have er : ∀ i, kL (σ 31 0) v ((ln σ).eraseIdx i) ≤ kL (σ 31 0) v (ln σ) := fun i => by
    unfold kL
    have a := List.Sublist.countP_le (p := kF (σ 31 0) v) (List.eraseIdx_sublist (ln σ) i)
    have b := List.Sublist.countP_le (p := kP (σ 31 0) v) (List.eraseIdx_sublist (ln σ) i)
    omega
  unfold kv
  rw [he]
  obtain ⟨-, -, c⟩ := h
  rcases c with ⟨-, c, -⟩ | ⟨i, x, -, -, c⟩
  · rw [c]; exact Nat.le_refl _
  · rcases c with ⟨-, c, -⟩ | ⟨-, -, -, -, fi, en, -, c⟩ | ⟨-, -, c, -⟩ | ⟨-, -, c, -⟩
    · rw [c]; exact er i
    · rcases c with ⟨c, -⟩ | ⟨u, -, -, -, -, -, kv', c⟩
      · rw [c]; exact er i
      · rw [c, kL_app]
        have a := kL_tl (σ 31 0) v ((ln σ).eraseIdx i)
        have b := er i
        have z : kL (σ 31 0) v [((xw x 2, [2, σ 31 0, u, 0, 0, 0], kv') : Ms)] = 0 := by
          unfold kL kF kP
          rw [List.countP_cons, List.countP_cons, List.countP_nil, List.countP_nil, if_neg, if_neg]
          · intro e
            have := (of_decide_eq_true e).2.1
            exact absurd (show (2 : Int) = 6 from this) (by decide)
          · intro e
            have := (of_decide_eq_true e).2.1
            exact absurd (show (2 : Int) = 5 from this) (by decide)
        omega
    · rw [c]; exact er i
    · rw [c]; exact er i
def TOk (τ : Nat → qS) (v t : Nat) : Prop := t % 7 = v ∧ 38 ≤ τ t 62 (v : Int) ∧ τ (t + 1) 62 (v : Int) = τ t 62 (v : Int) ∧ τ t 65 (v : Int) = 13
theorem XVB {L : Nat} {τ : Nat → qS} (h : RNN L τ) (hs : ∀ t, t ≤ 7 * L → psame (τ 0) (τ t)) {v : Nat} (hv : v < 6) {s : Nat} (h7 : 7 ≤ s) : ∀ k, s + k ≤ 7 * L → xv (τ (s + k)) (v : Int) ≤ xv (τ s) (v : Int) + (ctq (KLt τ v) s k : Int) + (ctq (TOk τ v) s k : Int)
  | 0, _ => by simp [ctq]
  | k + 1, hl => by
    have ih := XVB h hs hv h7 k (by omega)
    have gs := h.1 (s + k) (by omega)
    have st := h.2 (s + k) (by omega)
    rw [show s + (k + 1) = s + k + 1 by omega]
    have c0 : (ctq (KLt τ v) s (k + 1) : Int) = (ctq (KLt τ v) s k : Int) + ((@ite Nat (KLt τ v (s + k)) (Classical.propDecidable _) 1 0 : Nat) : Int) := by simp only [ctq]; omega
    have c1 : (ctq (TOk τ v) s (k + 1) : Int) = (ctq (TOk τ v) s k : Int) + ((@ite Nat (TOk τ v (s + k)) (Classical.propDecidable _) 1 0 : Nat) : Int) := by simp only [ctq]; omega
    rcases st with ⟨hw, w⟩ | ⟨e6, m⟩
    · have g := run_GR h hs (w := (s + k) % 7) (by omega) (t := s + k) (by omega) (by omega)
      obtain ⟨x1, x2⟩ := xv_t gs.1 hw g w
      by_cases c : (s + k) % 7 = v
      · rw [c] at x2
        rcases x2 with x2 | ⟨x2, x3, x4⟩
        · omega
        · rcases x4 with ⟨x4, x5⟩ | ⟨x4, -⟩
          · have p : TOk τ v (s + k) := ⟨c, x3, x4, x5⟩
            rw [if_pos p] at c1
            omega
          · have p : KLt τ v (s + k) := ⟨c, x3, by omega⟩
            rw [if_pos p] at c0
            omega
      · have := x1 (v : Int) (by omega)
        omega
    · obtain ⟨σ1, σ2, r1, r2, r3, -⟩ := m
      have ce : (clk (τ (s + k))) 31 = τ (s + k) 31 := clk_k (by decide)
      have e1 : σ1 31 = (clk (τ (s + k))) 31 := r1.2.1 _ (by decide)
      have e2 : σ2 31 = σ1 31 := r2.2.1 _ (by decide)
      have e3 : τ (s + k + 1) 31 = σ2 31 := r3.2.1 _ (by decide)
      have k1 := HR_kv r1 e1 (v : Int)
      have k2 := HR_kv r2 e2 (v : Int)
      have k3 := HR_kv r3 e3 (v : Int)
      have kc : kv (clk (τ (s + k))) (v : Int) = kv (τ (s + k)) (v : Int) := by unfold kv; rw [ce, l_clk]
      have ne : (((s + k) % 7 : Nat) : Int) ≠ (v : Int) := by omega
      have tk := STP_w (h.2 (s + k) (by omega)) ne (by omega)
      have et : τ (s + k + 1) 62 (v : Int) = τ (s + k) 62 (v : Int) := tk _ (by decide)
      have er : rd1 (τ (s + k + 1)) (v : Int) = rd1 (τ (s + k)) (v : Int) := by unfold rd1; rw [et]
      unfold xv at ih ⊢
      rw [er]
      omega

