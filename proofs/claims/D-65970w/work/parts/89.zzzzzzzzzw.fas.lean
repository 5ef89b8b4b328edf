-- FAS: foreign acceptances of v after a start by a GIVE whose stamp is d rounds after the last FETCH tick of v: at most 32 - d
theorem FAS {L s0 : Nat} {τ : Nat → qS} (hR : RNN L τ) {A : Nat → List (Ms × Nat × Nat)} {ρ : Nat → qS × qS × qS} {B : Nat → List (Ms × Nat × Nat) × List (Ms × Nat × Nat) × List (Ms × Nat × Nat)} (h : ANC2 L s0 τ A ρ B) (h7 : 224 ≤ s0) {v : Nat} (hv : v < 6) {x i : Nat} (h1 : s0 + 448 ≤ x) (h2 : x < 7 * L) (hx : x % 7 = v) (hi : i < 3) {y : Ms × Nat × Nat} (hy : hdA v (stA A B x i) y) (y2 : xw y.1 0 = 2) (yg : s0 + 224 ≤ y.2.1) {d : Nat} (d32 : d ≤ 32) (hd : ∀ b, y.2.1 < b + 7 * d → b ≤ y.2.1 → fe (τ b) (v : Int) = 0) {k : Nat} (hl : x + 1 + k ≤ 7 * L) : ctq (fun u => u % 7 = v ∧ ∃ b, s0 < b ∧ b ≤ y.2.1 ∧ ACC τ A ρ B u b) (x + 1) k ≤ 32 - d := by
  have ys := (st_srt h.1 (by omega : s0 ≤ x) h2 (by omega) i (by omega)).2 y (hd_mem hy).1
  have a := FAC hR h h7 hv (T := x + 1) (g := y.2.1) (k := k) (by omega) (by omega) hl
  have b := K32d hR h.1 h7 hv (by omega : s0 ≤ x) h2 hx hi hy y2 yg (T := x + 1) (by omega) (by omega) d32 hd
  omega
-- FTK: FETCH ticks of a worker are births: after a start, an acceptance or a time-out
theorem idl_fe {τ : Nat → qS} {v b : Nat} (h : τ b 62 (v : Int) < 38) : fe (τ b) (v : Int) = 0 := by
  unfold fe
  rw [if_neg (fun q => by omega)]

