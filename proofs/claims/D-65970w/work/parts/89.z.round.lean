def NCL (σ σ' : qS) : Prop := ∀ σ1 σ2, HR (clk σ) σ1 → HR σ1 σ2 → HR σ2 σ' → (∀ x, hd6 (clk σ) x → ¬ clos (clk σ) x) ∧ (∀ x, hd6 σ1 x → ¬ clos σ1 x) ∧ ∀ x, hd6 σ2 x → ¬ clos σ2 x
theorem wk_W {L : Nat} {τ : Nat → qS} (h : RNN L τ) {t : Nat} (h7 : 7 ≤ t) (ht : t < 7 * L) (hw : t % 7 < 6) : Wp (τ (t + 1)) ≤ Wp (τ t) + 1 := by
  rcases h.2 t ht with ⟨hw', hs⟩ | ⟨e, -⟩
  · exact W_wk (h.1 t (by omega)).1 hw' (run_AT7 h hw h7 (by omega)) hs
  · omega
theorem ms_W {L : Nat} {τ : Nat → qS} (h : RNN L τ) {t : Nat} (h224 : 224 ≤ t) (ht : t < 7 * L) (hw : t % 7 = 6) (hM : 3 ≤ cn 6 (ln (τ t))) (hn : NCL (τ t) (τ (t + 1))) : Wp (τ (t + 1)) + 6 ≤ Wp (τ t) := by
  rcases h.2 t ht with ⟨hw', -⟩ | ⟨-, σ1, σ2, r1, r2, r3, -, j0, j1, j2⟩
  · omega
  · obtain ⟨k0, k1, k2⟩ := hn σ1 σ2 r1 r2 r3
    have := M_W j0 j1 j2 r1 r2 r3 (run_ER h h224 (by omega)) (run_95 h (by omega) (by omega) (by omega)) hM k0 k1 k2
    rw [Wp_clk] at this
    exact this
theorem rnd_W {L : Nat} {τ : Nat → qS} (h : RNN L τ) {r : Nat} (hr : 32 ≤ r) (hl : r < L) (hM : 3 ≤ cn 6 (ln (τ (7 * r + 6)))) (hn : NCL (τ (7 * r + 6)) (τ (7 * r + 7))) : Wp (τ (7 * r + 7)) ≤ Wp (τ (7 * r)) := by
  have w0 := wk_W h (t := 7 * r) (by omega) (by omega) (by omega)
  have w1 := wk_W h (t := 7 * r + 1) (by omega) (by omega) (by omega)
  have w2 := wk_W h (t := 7 * r + 2) (by omega) (by omega) (by omega)
  have w3 := wk_W h (t := 7 * r + 3) (by omega) (by omega) (by omega)
  have w4 := wk_W h (t := 7 * r + 4) (by omega) (by omega) (by omega)
  have w5 := wk_W h (t := 7 * r + 5) (by omega) (by omega) (by omega)
  have w6 := ms_W h (t := 7 * r + 6) (by omega) (by omega) (by omega) hM hn
  simp only [Nat.add_assoc, Nat.reduceAdd] at w0 w1 w2 w3 w4 w5 w6
  omega

