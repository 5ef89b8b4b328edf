-- STAR4: kills pay for starts, ASKs pay for the GIVEs that are read in chosen ticks
theorem STAR4 {L s0 : Nat} {τ : Nat → qS} (hR : RNN L τ) (hs : ∀ t, t ≤ 7 * L → psame (τ 0) (τ t)) (hJ : ∀ t, t ≤ 7 * L → JOm (τ t) ≠ none) {A : Nat → List (Ms × Nat × Nat)} {ρ : Nat → qS × qS × qS} {B : Nat → List (Ms × Nat × Nat) × List (Ms × Nat × Nat) × List (Ms × Nat × Nat)} (h : ANC L s0 τ A ρ B) (h7 : 224 ≤ s0) {ch : Nat → Nat} {r0 n : Nat} (h1 : s0 + 900 ≤ 7 * r0) (h2 : r0 + n ≤ L) (hc : ∀ r, ch r < 6) (ht : ∀ r, r0 ≤ r → r < r0 + n → T1t A (7 * r + ch r)) :
    ctq (fun t => CHc ch t ∧ ¬ ∃ b, ACC τ A ρ B t b) (7 * r0) (7 * n) + 2 * ctq (fun t => CHd L s0 τ A B ch t ∧ ¬ ∃ b, ACC τ A ρ B t b) (7 * r0) (7 * n) + 9 * smq (gtq τ) (7 * r0) (7 * n) + ctq (AXt τ A ρ B) (7 * r0) (7 * n) + 4 * ctq (fun b => gq τ (b - 1) = 1 ∧ NAb L s0 τ A ρ B b) (7 * r0 - 448) (7 * n + 448) + 124 * lkc τ (7 * r0 - 217)
    ≤ 124 * lkc τ (7 * r0 + 7 * n) + 2 * smq (gsq τ) (7 * r0) (7 * n) + 2 * ctq (fun u => gtq τ u = 1 ∧ OWb L s0 τ A ρ B (u - 90)) (7 * r0) (7 * n)
      + 2 * (ctq (RK τ A ρ B (CHd L s0 τ A B ch) (fun _ _ => True) 2 0) (7 * r0) (7 * n) + ctq (RK τ A ρ B (CHd L s0 τ A B ch) (fun _ _ => True) 2 1) (7 * r0) (7 * n) + ctq (RK τ A ρ B (CHd L s0 τ A B ch) (fun _ _ => True) 2 2) (7 * r0) (7 * n))
      + (ctq (fun b => NAb L s0 τ A ρ B b ∧ ∃ t i, 7 * r0 ≤ t ∧ t < 7 * r0 + 7 * n ∧ i < 3 ∧ CHc ch t ∧ rdk τ A ρ B 6 t i b) (7 * r0 - 448) (7 * n + 448) + ctq (fun b => NAb L s0 τ A ρ B b ∧ ∃ t i, 7 * r0 ≤ t ∧ t < 7 * r0 + 7 * n ∧ i < 3 ∧ CHc ch t ∧ rdk τ A ρ B 5 t i b) (7 * r0 - 448) (7 * n + 448))
      + 2 * (ctq (fun b => NAb L s0 τ A ρ B b ∧ ∃ t i, 7 * r0 ≤ t ∧ t < 7 * r0 + 7 * n ∧ i < 3 ∧ CHd L s0 τ A B ch t ∧ rdk τ A ρ B 6 t i b) (7 * r0 - 448) (7 * n + 448) + ctq (fun b => NAb L s0 τ A ρ B b ∧ ∃ t i, 7 * r0 ≤ t ∧ t < 7 * r0 + 7 * n ∧ i < 3 ∧ CHd L s0 τ A B ch t ∧ rdk τ A ρ B 5 t i b) (7 * r0 - 448) (7 * n + 448))
      + 2 * ctq (fun b => PNb L s0 τ A ρ B b ∧ ∃ t i, 7 * r0 ≤ t ∧ t < 7 * r0 + 7 * n ∧ i < 3 ∧ CHd L s0 τ A B ch t ∧ rdk τ A ρ B 5 t i b) (7 * r0 - 448) (7 * n + 448) + 17597 := by
  have x := STAR3 hR hs hJ h h7 h1 h2 hc ht
  have a := IDLa hR (s := 7 * r0) (k := 7 * n) (by omega)
  have b := KLA hR (s := 7 * r0) (7 * n) (by omega)
  have c := GVC hR h (s := 7 * r0) (k := 7 * n) (by omega) (by omega) (by omega) (CHc ch)
  have e : rrs (τ (7 * r0 + 7 * n)) ≤ 6 := by
    unfold rrs
    have := rr_b (τ (7 * r0 + 7 * n)) 0
    have := rr_b (τ (7 * r0 + 7 * n)) 1
    have := rr_b (τ (7 * r0 + 7 * n)) 2
    have := rr_b (τ (7 * r0 + 7 * n)) 3
    have := rr_b (τ (7 * r0 + 7 * n)) 4
    have := rr_b (τ (7 * r0 + 7 * n)) 5
    omega
  omega

