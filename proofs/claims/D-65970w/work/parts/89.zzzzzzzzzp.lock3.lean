-- LOCK with what the master takes from the line
noncomputable def vnq (τ : Nat → qS) (t : Nat) : Nat := if t % 7 = 6 then (ln (τ t)).length - (ln (τ (t + 1))).length else 0
theorem LS_t {L s0 : Nat} {τ : Nat → qS} (hR : RNN L τ) (hs : ∀ t, t ≤ 7 * L → psame (τ 0) (τ t)) {A : Nat → List (Ms × Nat × Nat)} {ρ : Nat → qS × qS × qS} {B : Nat → List (Ms × Nat × Nat) × List (Ms × Nat × Nat) × List (Ms × Nat × Nat)} (h : ANC L s0 τ A ρ B) (h7 : 7 ≤ s0) {t : Nat} (h1 : s0 ≤ t) (h2 : t < 7 * L) : (ln (τ (t + 1))).length + wsq τ ρ t + drq τ ρ t + vnq τ t ≤ (ln (τ t)).length + grq τ t := by
  have a := LR_t hR hs h h7 h1 h2
  unfold vnq
  by_cases c : t % 7 = 6
  · rw [if_pos c]
    have w : wsq τ ρ t = 0 := by
      have k : kqr τ ρ t = 0 := by
        unfold kqr
        exact if_neg (by omega)
      unfold wsq
      rw [k]
      split <;> rfl
    have d : drq τ ρ t = 0 := by
      unfold drq
      exact if_neg (by omega)
    have g : grq τ t = 0 := by
      unfold grq
      exact if_neg (by omega)
    omega
  · rw [if_neg c]
    omega
theorem LS_s {L s0 : Nat} {τ : Nat → qS} (hR : RNN L τ) (hs : ∀ t, t ≤ 7 * L → psame (τ 0) (τ t)) {A : Nat → List (Ms × Nat × Nat)} {ρ : Nat → qS × qS × qS} {B : Nat → List (Ms × Nat × Nat) × List (Ms × Nat × Nat) × List (Ms × Nat × Nat)} (h : ANC L s0 τ A ρ B) (h7 : 7 ≤ s0) {s : Nat} (h1 : s0 ≤ s) : ∀ k, s + k ≤ 7 * L → (ln (τ (s + k))).length + smq (wsq τ ρ) s k + smq (drq τ ρ) s k + smq (vnq τ) s k ≤ (ln (τ s)).length + smq (grq τ) s k
  | 0, _ => by simp [smq]
  | k + 1, hk => by
    have ih := LS_s hR hs h h7 h1 k (by omega)
    have st := LS_t hR hs h h7 (t := s + k) (by omega) (by omega)
    rw [show s + (k + 1) = s + k + 1 by omega]
    simp only [smq]
    omega
theorem LOCK3 {L s0 : Nat} {τ : Nat → qS} (hR : RNN L τ) (hs : ∀ t, t ≤ 7 * L → psame (τ 0) (τ t)) {A : Nat → List (Ms × Nat × Nat)} {ρ : Nat → qS × qS × qS} {B : Nat → List (Ms × Nat × Nat) × List (Ms × Nat × Nat) × List (Ms × Nat × Nat)} (h : ANC L s0 τ A ρ B) (h7 : 7 ≤ s0) {s y : Nat} (h1 : s0 ≤ s) (h2 : s ≤ y) (hy : y ≤ 7 * L) (hf : 95 ≤ (ln (τ y)).length) : smq (wsq τ ρ) s (y - s) + smq (drq τ ρ) s (y - s) + smq (vnq τ) s (y - s) ≤ ctq (ASKt τ) s (y - s) + ctq (A13 τ) s (y - s) + ctq (LKt τ) s (y - s) + ctq (MPk τ) s (y - s) := by
  have a := LS_s hR hs h h7 h1 (y - s) (by omega)
  rw [show s + (y - s) = y by omega] at a
  have b := run_95 hR (by omega) (t := s) (by omega) (by omega)
  have c := grq_s (τ := τ) (s := s) (y - s)
  omega
-- a letter of the line is dropped in the rest of a worker's tick only on a full line: the tick is counted by drq, or it is a LACKS tick
theorem AC_dr {t : Nat} {C A' : List (Ms × Nat × Nat)} {q : List Ms} (r : ACn t C A' q) {y : Ms × Nat × Nat} (hy : y ∈ C) (n : y ∉ A') : (95 ≤ C.length ∧ 1 ≤ q.length) ∨ q.length = 2 := by
  rcases r with ⟨r, -⟩ | ⟨z, r, e⟩ | ⟨z, z', -, e⟩
  · rw [r] at n
    exact absurd hy n
  · left
    rw [e]
    refine ⟨?_, Nat.le_refl _⟩
    apply Classical.byContradiction
    intro c
    apply n
    rw [r, List.mem_append]
    left
    unfold tlA
    rw [if_neg c]
    exact hy
  · right
    rw [e]
    rfl

