-- SUMS: standing kills counted by the LACKS that are heard and by the workers in LACKS waits (WH)
theorem SUMS {L s0 : Nat} {τ : Nat → qS} (hR : RNN L τ) (hs : ∀ t, t ≤ 7 * L → psame (τ 0) (τ t)) {A : Nat → List (Ms × Nat × Nat)} {ρ : Nat → qS × qS × qS} {B : Nat → List (Ms × Nat × Nat) × List (Ms × Nat × Nat) × List (Ms × Nat × Nat)} (h : ANC L s0 τ A ρ B) (h7 : 224 ≤ s0) {ch : Nat → Nat} {r0 n : Nat} (h1 : s0 + 3000 ≤ 7 * r0) (h2 : r0 + n + 300 ≤ L) (hn : 300 ≤ n) (hc : ∀ r, ch r < 6) (ht : ∀ r, (∃ v, v < 6 ∧ T1t A (7 * r + v)) → T1t A (7 * r + ch r)) :
    ctq (fun t => ((CHc ch t ∧ T1t A t) ∧ ¬ ∃ b, ACC τ A ρ B t b) ∧ ¬ gdq τ ρ t = 1) (7 * r0) (7 * n) + 2 * ctq (fun t => ((CHk L s0 τ A B ch t ∧ T1t A t) ∧ ¬ ∃ b, ACC τ A ρ B t b) ∧ ¬ gdq τ ρ t = 1) (7 * r0) (7 * n) + 5 * ctq (LKt τ) (7 * r0) (7 * n) + 3 * ctq (WHt τ) (7 * r0) (7 * n) + 3 * smq (jkq τ ρ) (7 * r0) (7 * n) + 2 * ctq (DNt τ ρ) (7 * r0) (7 * n) + 6 * smq (rvq τ ρ) (7 * r0) (7 * n)
    ≤ 6 * ctq (fun r => ¬ ∃ v, v < 6 ∧ T1t A (7 * r + v)) r0 n + 6 * ctq (fun b => XNz τ (7 * r0 + 7 * n - 1) 12 b ∧ OWb L s0 τ A ρ B b) (7 * r0) (7 * n) + 6 * ctq (SLx τ A ρ B) (7 * r0) (7 * n + 448) + 2 * ctq (fun b => PNk L s0 τ A ρ B b ∧ ∃ t i, 7 * r0 ≤ t ∧ t < 7 * r0 + 7 * n ∧ i < 3 ∧ (CHk L s0 τ A B ch t ∧ T1t A t) ∧ rdk τ A ρ B 5 t i b) (7 * r0 - 448) (7 * n + 448)
      + (ctq (fun b => (NAb L s0 τ A ρ B b ∧ XNz τ (7 * r0 + 7 * n - 1) 12 b) ∧ ∃ t i, 7 * r0 ≤ t ∧ t < 7 * r0 + 7 * n ∧ i < 3 ∧ (CHc ch t ∧ T1t A t) ∧ rdk τ A ρ B 6 t i b) (7 * r0 - 448) (7 * n + 448) + ctq (fun b => (NAb L s0 τ A ρ B b ∧ XNz τ (7 * r0 + 7 * n - 1) 12 b) ∧ ∃ t i, 7 * r0 ≤ t ∧ t < 7 * r0 + 7 * n ∧ i < 3 ∧ (CHc ch t ∧ T1t A t) ∧ rdk τ A ρ B 5 t i b) (7 * r0 - 448) (7 * n + 448)) + 2 * (ctq (fun b => (NAb L s0 τ A ρ B b ∧ XNz τ (7 * r0 + 7 * n - 1) 12 b) ∧ ∃ t i, 7 * r0 ≤ t ∧ t < 7 * r0 + 7 * n ∧ i < 3 ∧ (CHk L s0 τ A B ch t ∧ T1t A t) ∧ rdk τ A ρ B 6 t i b) (7 * r0 - 448) (7 * n + 448) + ctq (fun b => (NAb L s0 τ A ρ B b ∧ XNz τ (7 * r0 + 7 * n - 1) 12 b) ∧ ∃ t i, 7 * r0 ≤ t ∧ t < 7 * r0 + 7 * n ∧ i < 3 ∧ (CHk L s0 τ A B ch t ∧ T1t A t) ∧ rdk τ A ρ B 5 t i b) (7 * r0 - 448) (7 * n + 448)) + 600000 := by
  have x := SUMR hR hs h h7 (ch := ch) (r0 := r0) (n := n) h1 h2 hn hc ht
  have w := KWH hR h hs (s := 7 * r0) (k := 7 * n) (by omega) (by omega) (by omega) (by omega)
  have e := H7B hR (s := 7 * r0 - 7) (7 * n + 7) (by omega)
  rw [show 7 * r0 - 7 + (7 * n + 7) = 7 * r0 + 7 * n by omega] at e
  have f : c7 (τ (7 * r0 - 7)) ≤ 95 := by
    have l := run_95 hR (by omega) (by omega : 7 ≤ 7 * r0 - 7) (by omega)
    have : c7 (τ (7 * r0 - 7)) ≤ (ln (τ (7 * r0 - 7))).length := List.countP_le_length
    omega
  have lk := lkc_c τ (7 * r0 - 7) (7 + 7 * n)
  rw [show 7 * r0 - 7 + (7 + 7 * n) = 7 * r0 + 7 * n by omega] at lk
  have j1 := ctq_jn (P := LKt τ) (s := 7 * r0 - 7) 7 (7 * n)
  rw [show 7 * r0 - 7 + 7 = 7 * r0 by omega] at j1
  have j2 := ctq_le (P := LKt τ) (s := 7 * r0 - 7) 7
  omega
-- one choice of the ticks always exists
theorem ch_ex (A : Nat → List (Ms × Nat × Nat)) (Q : Nat → Prop) : ∃ ch : Nat → Nat, (∀ r, ch r < 6) ∧ (∀ r, (∃ v, v < 6 ∧ T1t A (7 * r + v)) → T1t A (7 * r + ch r)) ∧ ∀ r, (∃ v, v < 6 ∧ T1t A (7 * r + v) ∧ Q (7 * r + v)) → Q (7 * r + ch r) := by
  have pick : ∀ r, ∃ v, v < 6 ∧ ((∃ v, v < 6 ∧ T1t A (7 * r + v)) → T1t A (7 * r + v)) ∧ ((∃ v, v < 6 ∧ T1t A (7 * r + v) ∧ Q (7 * r + v)) → Q (7 * r + v)) := fun r => by
    by_cases c : ∃ v, v < 6 ∧ T1t A (7 * r + v) ∧ Q (7 * r + v)
    · obtain ⟨v, v1, v2, v3⟩ := c
      exact ⟨v, v1, fun _ => v2, fun _ => v3⟩
    · by_cases d : ∃ v, v < 6 ∧ T1t A (7 * r + v)
      · obtain ⟨v, v1, v2⟩ := d
        exact ⟨v, v1, fun _ => v2, fun q => absurd q c⟩
      · exact ⟨0, by omega, fun q => absurd q d, fun q => absurd q c⟩
  exact ⟨fun r => Classical.choose (pick r), fun r => (Classical.choose_spec (pick r)).1, fun r => (Classical.choose_spec (pick r)).2.1, fun r => (Classical.choose_spec (pick r)).2.2⟩

