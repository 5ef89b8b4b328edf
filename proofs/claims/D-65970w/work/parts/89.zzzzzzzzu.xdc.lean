-- dead rounds with an XK tick of a chosen sample are at most the ticks of D
theorem XDC {L s0 : Nat} {τ : Nat → qS} {A : Nat → List (Ms × Nat × Nat)} {B : Nat → List (Ms × Nat × Nat) × List (Ms × Nat × Nat) × List (Ms × Nat × Nat)} {Q : Nat → Prop} {Tf : Nat → Nat} {a k r0 : Nat} : ∀ n, ctq (fun r => (∃ s, a ≤ s ∧ s < a + k ∧ Q s ∧ CXr A B s (Tf s) r) ∧ ¬ NDk L s0 τ A B r) r0 n ≤ ctq (XD L s0 τ A B Q Tf a k) (7 * r0) (7 * n)
  | 0 => Nat.zero_le _
  | n + 1 => by
    have ih := XDC (L := L) (s0 := s0) (τ := τ) (A := A) (B := B) (Q := Q) (Tf := Tf) (a := a) (k := k) (r0 := r0) n
    have j1 := ctq_jn (P := fun r => (∃ s, a ≤ s ∧ s < a + k ∧ Q s ∧ CXr A B s (Tf s) r) ∧ ¬ NDk L s0 τ A B r) (s := r0) n 1
    have j2 := ctq_jn (P := XD L s0 τ A B Q Tf a k) (s := 7 * r0) (7 * n) 7
    rw [show 7 * (n + 1) = 7 * n + 7 by omega, j1, j2]
    have u := ctq_le (P := fun r => (∃ s, a ≤ s ∧ s < a + k ∧ Q s ∧ CXr A B s (Tf s) r) ∧ ¬ NDk L s0 τ A B r) (s := r0 + n) 1
    by_cases c : (∃ s, a ≤ s ∧ s < a + k ∧ Q s ∧ CXr A B s (Tf s) (r0 + n)) ∧ ¬ NDk L s0 τ A B (r0 + n)
    · obtain ⟨⟨s, s1, s2, s3, v, v6, hv⟩, nd⟩ := c
      have p := ctq_pt (P := XD L s0 τ A B Q Tf a k) (s := 7 * r0 + 7 * n) (x := 7 * (r0 + n) + v) 7 (by omega) (by omega) ⟨⟨s, s1, s2, s3, hv⟩, fun f => nd ⟨7 * (r0 + n) + v, by omega, by omega, f⟩⟩
      omega
    · have z := ctq_off (P := fun r => (∃ s, a ≤ s ∧ s < a + k ∧ Q s ∧ CXr A B s (Tf s) r) ∧ ¬ NDk L s0 τ A B r) (s := r0 + n) 1 (fun r r1 r2 q => by
        have e : r = r0 + n := by omega
        rw [e] at q
        exact c q)
      omega

