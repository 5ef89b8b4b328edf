theorem AGE32 {L s0 : Nat} {τ : Nat → qS} (hR : RNN L τ) {A : Nat → List (Ms × Nat × Nat)} (h : ANR L s0 τ A) (h7 : 224 ≤ s0) {t : Nat} (ht : s0 + 224 ≤ t) (hl : t ≤ 7 * L) {y : Ms × Nat × Nat} (hy : y ∈ A t) (hk : tokb y = true) : t - 224 < y.2.1 := by
  have my : y.1 ∈ ln (τ t) := by
    rw [← h.2.1 t (by omega) hl]
    exact List.mem_map_of_mem hy
  obtain ⟨w1, w2⟩ := to_w hR (by omega : 224 ≤ t) hl my (by
    rcases (tokb_i y).mp hk with q | q
    · exact Or.inl q
    · exact Or.inr (Or.inl q))
  have l := run_95 hR (by omega) (by omega : 7 ≤ t - 224) (by omega)
  have cl : cn ((y.1.1.toNat : Nat) : Int) (ln (τ (t - 224))) ≤ 3 * 32 := by
    have : cn ((y.1.1.toNat : Nat) : Int) (ln (τ (t - 224))) ≤ (ln (τ (t - 224))).length := List.countP_le_length
    omega
  have ag := AGE hR h (t0 := t - 224) (by omega) (by omega) (v := y.1.1.toNat) (by omega) (r := 32) cl (by omega)
  rw [show t - 224 + 7 * 32 = t by omega] at ag
  exact ag y hy (by omega)
theorem LIFE64 {L s0 : Nat} {τ : Nat → qS} (hR : RNN L τ) {A : Nat → List (Ms × Nat × Nat)} (h : ANR L s0 τ A) (h7 : 224 ≤ s0) {t : Nat} (ht : s0 + 448 ≤ t) (hl : t ≤ 7 * L) {y : Ms × Nat × Nat} (hy : y ∈ A t) (hk : tokb y = true) : t < y.2.2 + 448 := by
  have s1 := AGE32 hR h h7 (by omega) hl hy hk
  by_cases c : y.2.2 ≤ t - 224
  · have f : 1 ≤ fbc y.2.2 (A (t - 224)) := by
      apply Classical.byContradiction
      intro n
      have a := ANR_np h (b := y.2.2) (g := t - 224) c (by omega) (by omega) 224 (by omega)
      rw [show t - 224 + 224 = t by omega] at a
      have := a.2 y hy hk rfl
      omega
    unfold fbc at f
    obtain ⟨x, hx, px⟩ := List.countP_pos_iff.mp (by omega : 0 < (A (t - 224)).countP (fun x => decide (xw x.1 0 = 5) && decide (x.2.2 = y.2.2)))
    rw [Bool.and_eq_true] at px
    have x5 := of_decide_eq_true px.1
    have xb := of_decide_eq_true px.2
    have fs := ANR_fs h (t - 224 - s0) (by omega)
    rw [show s0 + (t - 224 - s0) = t - 224 by omega] at fs
    have e := fs x hx x5
    have s2 := AGE32 hR h h7 (t := t - 224) (by omega) (by omega) hx ((tokb_i x).mpr (Or.inl x5))
    omega
  · omega

