-- letters younger than g
def ycn (g : Nat) (A : List (Ms × Nat × Nat)) : Nat := A.countP (fun y => decide (g < y.2.1))
theorem yc_ap (g : Nat) (A : List (Ms × Nat × Nat)) (z : Ms × Nat × Nat) : ycn g (tlA A ++ [z]) ≤ ycn g A + 1 := by
  unfold ycn
  rw [List.countP_append]
  have a := cpA_tl (fun y => decide (g < y.2.1)) A
  have b : [z].countP (fun y => decide (g < y.2.1)) ≤ 1 := List.countP_le_length
  omega
theorem yc_er (g : Nat) (A : List (Ms × Nat × Nat)) (i : Nat) : ycn g (A.eraseIdx i) ≤ ycn g A := (List.eraseIdx_sublist _ i).countP_le
theorem yc_RD {w e : Int} {t g : Nat} {A A' : List (Ms × Nat × Nat)} (h : RDn w e t A A') : ycn g A' ≤ ycn g A + 1 := by
  rcases h with ⟨-, e⟩ | ⟨i, y, -, -, c⟩
  · rw [e]; omega
  · have q := yc_er g A i
    rcases c with ⟨-, e⟩ | ⟨-, -, z, -, -, -, -, -, -, e⟩
    · rw [e]; omega
    · rw [e]
      have := yc_ap g (A.eraseIdx i) (z, t + 1, y.2.2)
      omega
theorem yc_AC {t g : Nat} {A A' : List (Ms × Nat × Nat)} {s : List Ms} (h : ACn t A A' s) : ycn g A' ≤ ycn g A + 2 := by
  rcases h with ⟨e, -⟩ | ⟨z, e, -⟩ | ⟨z, z', e, -⟩
  · rw [e]; omega
  · rw [e]
    have := yc_ap g A (z, t + 1, t + 1)
    omega
  · rw [e]
    have a := yc_ap g A (z, t + 1, t + 1)
    have b := yc_ap g (tlA A ++ [(z, t + 1, t + 1)]) (z', t + 1, t + 1)
    omega
theorem yc_HR {t g : Nat} {A A' : List (Ms × Nat × Nat)} (h : HRn t A A') : ycn g A' ≤ ycn g A + 1 := by
  rcases h with ⟨-, e⟩ | ⟨i, y, -, -, c⟩
  · rw [e]; omega
  · have q := yc_er g A i
    rcases c with e | ⟨z, -, e⟩
    · rw [e]; omega
    · rw [e]
      have := yc_ap g (A.eraseIdx i) (z, t + 1, t + 1)
      omega
theorem yc_t {L s0 : Nat} {τ : Nat → qS} (hR : RNN L τ) {A : Nat → List (Ms × Nat × Nat)} {ρ : Nat → qS × qS × qS} {B : Nat → List (Ms × Nat × Nat) × List (Ms × Nat × Nat) × List (Ms × Nat × Nat)} (h : ANC L s0 τ A ρ B) {t g : Nat} (h1 : s0 ≤ t) (h2 : t < 7 * L) : ycn g (A (t + 1)) ≤ ycn g (A t) + 5 := by
  by_cases h6 : t % 7 < 6
  · obtain ⟨-, -, r1, r2, r3, s, a, -⟩ := h.2 t h1 h2 h6
    have a1 := yc_RD (g := g) r1
    have a2 := yc_RD (g := g) r2
    have a3 := yc_RD (g := g) r3
    have a4 := yc_AC (g := g) a
    omega
  · rcases h.1.2.2 t h1 h2 with ⟨e, -⟩ | ⟨-, σ1, σ2, A1, A2, -, -, -, -, n1, n2, n3⟩
    · omega
    · have a1 := yc_HR (g := g) n1
      have a2 := yc_HR (g := g) n2
      have a3 := yc_HR (g := g) n3
      omega
-- at most five letters are sent in a tick
theorem yc_run {L s0 : Nat} {τ : Nat → qS} (hR : RNN L τ) {A : Nat → List (Ms × Nat × Nat)} {ρ : Nat → qS × qS × qS} {B : Nat → List (Ms × Nat × Nat) × List (Ms × Nat × Nat) × List (Ms × Nat × Nat)} (h : ANC L s0 τ A ρ B) {g : Nat} (h1 : s0 ≤ g) : ∀ k, g + k ≤ 7 * L → ycn g (A (g + k)) ≤ 5 * k
  | 0, hl => by
    have k := ANR_srt h.1 (g - s0) (by omega)
    rw [show s0 + (g - s0) = g by omega] at k
    unfold ycn
    rw [Nat.le_zero]
    exact List.countP_eq_zero.mpr (fun y hy q => by
      have := k.2 y hy
      have := of_decide_eq_true q
      omega)
  | k + 1, hl => by
    have ih := yc_run hR h h1 k (by omega)
    have b := yc_t hR h (t := g + k) (g := g) (by omega) (by omega)
    rw [show g + (k + 1) = g + k + 1 by omega]
    omega

