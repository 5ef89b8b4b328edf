-- covered dead rounds give dead T1t ticks
def DTt (L s0 : Nat) (τ : Nat → qS) (A : Nat → List (Ms × Nat × Nat)) (B : Nat → List (Ms × Nat × Nat) × List (Ms × Nat × Nat) × List (Ms × Nat × Nat)) (t : Nat) : Prop := T1t A t ∧ ¬ FRk L s0 τ A B t
theorem DT_cn {L s0 : Nat} {τ : Nat → qS} {A : Nat → List (Ms × Nat × Nat)} {B : Nat → List (Ms × Nat × Nat) × List (Ms × Nat × Nat) × List (Ms × Nat × Nat)} (h : ANR L s0 τ A) {t : Nat} (h1 : s0 ≤ t) (h2 : t ≤ 7 * L) (hd : DTt L s0 τ A B t) : t % 7 < 6 ∧ 3 ≤ cn ((t % 7 : Nat) : Int) (ln (τ t)) ∧ ¬ FRk L s0 τ A B t := by
  obtain ⟨⟨a, b⟩, c⟩ := hd
  have e := oc_le (t - 14) ((t % 7 : Nat) : Int) (A t)
  rw [h.2.1 t h1 h2] at e
  exact ⟨a, by omega, c⟩
theorem DCV {L s0 : Nat} {τ : Nat → qS} {A : Nat → List (Ms × Nat × Nat)} {B : Nat → List (Ms × Nat × Nat) × List (Ms × Nat × Nat) × List (Ms × Nat × Nat)} {r0 : Nat} : ∀ n, ctq (fun r => CVr A r ∧ ¬ NDk L s0 τ A B r) r0 n ≤ ctq (DTt L s0 τ A B) (7 * r0) (7 * n)
  | 0 => by simp [ctq]
  | n + 1 => by
    have ih := DCV (L := L) (s0 := s0) (τ := τ) (A := A) (B := B) (r0 := r0) n
    have j := ctq_jn (P := DTt L s0 τ A B) (s := 7 * r0) (7 * n) 7
    have k := ctq_jn (P := fun r => CVr A r ∧ ¬ NDk L s0 τ A B r) (s := r0) n 1
    rw [show 7 * (n + 1) = 7 * n + 7 by omega, j, k]
    by_cases c : CVr A (r0 + n) ∧ ¬ NDk L s0 τ A B (r0 + n)
    · obtain ⟨⟨v, v6, hv⟩, nd⟩ := c
      have p := ctq_pt (P := DTt L s0 τ A B) (s := 7 * r0 + 7 * n) (x := 7 * (r0 + n) + v) 7 (by omega) (by omega) ⟨hv, fun f => nd ⟨_, by omega, by omega, f⟩⟩
      have l := ctq_le (P := fun r => CVr A r ∧ ¬ NDk L s0 τ A B r) (s := r0 + n) 1
      omega
    · have z : ctq (fun r => CVr A r ∧ ¬ NDk L s0 τ A B r) (r0 + n) 1 = 0 := ctq_off 1 (fun r r1 r2 q => c (by rw [show r0 + n = r by omega]; exact q))
      omega

