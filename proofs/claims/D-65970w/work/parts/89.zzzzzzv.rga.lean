theorem GVE {L s0 : Nat} {τ : Nat → qS} (hR : RNN L τ) {A : Nat → List (Ms × Nat × Nat)} {ρ : Nat → qS × qS × qS} {B : Nat → List (Ms × Nat × Nat) × List (Ms × Nat × Nat) × List (Ms × Nat × Nat)} (h : ANC L s0 τ A ρ B) {s : Nat} (h1 : s0 ≤ s) : ∀ k, s + k ≤ 7 * L → qAG (τ (s + k)) + smq (gvq τ ρ) s k + smq (rvq τ ρ) s k = qAG (τ s) + ctq (ASKt τ) s k
  | 0, _ => by simp [smq, ctq]
  | k + 1, hl => by
    have ih := GVE hR h h1 k (by omega)
    have b := gv_t hR h (t := s + k) (by omega) (by omega)
    have c : rvq τ ρ (s + k) = qAG (τ (s + k)) + (@ite Nat (ASKt τ (s + k)) (Classical.propDecidable _) 1 0) - gvq τ ρ (s + k) - qAG (τ (s + k + 1)) := rfl
    rw [show s + (k + 1) = s + k + 1 by omega]
    simp only [ctq, smq]
    omega
-- RGA: doomed ASKs are refused or lost (R), or they close a split (DN), or their GIVE is junk (js)
theorem RGA {L s0 : Nat} {τ : Nat → qS} (hR : RNN L τ) {A : Nat → List (Ms × Nat × Nat)} {ρ : Nat → qS × qS × qS} {B : Nat → List (Ms × Nat × Nat) × List (Ms × Nat × Nat) × List (Ms × Nat × Nat)} (h : ANC L s0 τ A ρ B) {s k : Nat} (h7 : 7 ≤ s) (h1 : s0 ≤ s) (h2 : s + k ≤ 7 * L) : ctq (GAt τ) s k + smq (msq τ) s k ≤ smq (rvq τ ρ) s k + ctq (DNt τ ρ) s k + smq (jsq τ ρ) s k + 500 := by
  have g := VSm hR h (s := s) h1 k h2
  have g1 := (vs_b (run_95 hR (by omega) h7 (by omega : s ≤ 7 * L))).1
  have g2 := (vs_b (run_95 hR (by omega) (by omega : 7 ≤ s + k) h2)).2
  have js := js_s hR h (s := s) h1 k h2
  have bm := BMk hR h (s := s) h1 k h2
  have bm6 := bms_b (τ (s + k))
  have e := GVE hR h (s := s) h1 k h2
  have q : qAG (τ (s + k)) ≤ 95 := by
    have l := run_95 hR (by omega) (by omega : 7 ≤ s + k) h2
    have : qAG (τ (s + k)) ≤ (ln (τ (s + k))).length := List.countP_le_length
    omega
  omega
-- kills that are not late
theorem RKL {L s0 : Nat} {τ : Nat → qS} (hR : RNN L τ) {A : Nat → List (Ms × Nat × Nat)} {ρ : Nat → qS × qS × qS} {B : Nat → List (Ms × Nat × Nat) × List (Ms × Nat × Nat) × List (Ms × Nat × Nat)} (h : ANC L s0 τ A ρ B) {s k : Nat} (h7 : 7 ≤ s) (h1 : s0 ≤ s) (h2 : s + k ≤ 7 * L) : ctq (Kst τ A ρ B) s k + smq (msq τ) s k ≤ smq (rvq τ ρ) s k + ctq (Klt τ A ρ B) s k + ctq (DNt τ ρ) s k + smq (jsq τ ρ) s k + 507 := by
  have a := RGA hR h h7 h1 h2
  have b := Kst_l hR h (s := s) (k := k) h2
  omega

