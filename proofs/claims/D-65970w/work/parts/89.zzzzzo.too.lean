-- seven time-outs of each LACKS wait follow a FETCH that is never accepted
theorem TOo {L s0 : Nat} {τ : Nat → qS} (hR : RNN L τ) {A : Nat → List (Ms × Nat × Nat)} {ρ : Nat → qS × qS × qS} {B : Nat → List (Ms × Nat × Nat) × List (Ms × Nat × Nat) × List (Ms × Nat × Nat)} (h : ANC L s0 τ A ρ B) (h7 : 224 ≤ s0) {s k E : Nat} (h1 : s0 + 1500 ≤ s) (h2 : s + 1001 + k ≤ 7 * L) (hE : E + 1 ≤ 7 * L) : ctq (fun u => gtq τ u = 1 ∧ OWb L s0 τ A ρ B (u - 90)) (s + 90) (k + 1001) + ctq (fun u => ∃ j, 5 ≤ j ∧ j < 12 ∧ LKt τ (u - 90 + 91 * j - 1) ∧ u - 90 + 91 * j - 1 ≤ E) (s + 90) (k + 1001) ≤ smq (gtq τ) (s + 90) (k + 1001) := by
  have a := ctq_2 (P := fun u => gtq τ u = 1 ∧ OWb L s0 τ A ρ B (u - 90)) (Q := fun u => ∃ j, 5 ≤ j ∧ j < 12 ∧ LKt τ (u - 90 + 91 * j - 1) ∧ u - 90 + 91 * j - 1 ≤ E) (R := fun u => gtq τ u = 1) (s := s + 90) (k + 1001) (fun u u1 u2 => ⟨fun q => q.1, fun ⟨j, j1, j2, j3, j4⟩ => by
    have x := XT1 hR (t := u - 90 + 91 * j - 1) (j := j - 1) (by omega) (by omega) j3 (by omega)
    rw [show u - 90 + 91 * j - 1 - 91 * (j - 1) = u by omega] at x
    exact x, fun ⟨⟨_, o⟩, j, j1, j2, j3, j4⟩ => by
    have x := (XN1 hR h h7 (t := u - 90 + 91 * j - 1) (j := j) (by omega) (by omega) j3 (by omega) (by omega)).2 j1
    rw [show u - 90 + 91 * j - 1 + 1 - 91 * j = u - 90 by omega] at x
    obtain ⟨t', t1, t2, t3, -⟩ := o
    exact x t' t1 t2 t3⟩)
  have b := ctq_sm' (P := fun u => gtq τ u = 1) (f := gtq τ) (s := s + 90) (k + 1001) (fun t _ _ e => by omega)
  omega

