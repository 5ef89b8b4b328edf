def CEw (τ : Nat → qS) (A : Nat → List (Ms × Nat × Nat)) (c : Nat) : Prop := CEv τ A c ∧ ∃ v κ, v < 6 ∧ 7 ≤ κ ∧ KLt τ v κ ∧ κ < c ∧ ∀ u, κ < u → u < c → ¬ MPt A u
theorem ctq_sq {P : Nat → Prop} {a q : Nat} : ∀ k, ctq (fun r => P (r - q)) (a + q) k = ctq P a k
  | 0 => rfl
  | k + 1 => by
    have := ctq_sq (P := P) (a := a) (q := q) k
    have e : a + q + k - q = a + k := by omega
    have w : (fun r => P (r - q)) (a + q + k) ↔ P (a + k) := by
      show P (a + q + k - q) ↔ _
      rw [e]
    simp only [ctq]
    rw [this]
    by_cases c : P (a + k)
    · rw [if_pos c, if_pos (w.mpr c)]
    · rw [if_neg c, if_neg (fun z => c (w.mp z))]
theorem ctq_ext {P : Nat → Prop} {s n : Nat} : ∀ d, d ≤ s → ctq P s n ≤ ctq P (s - d) (n + d) := fun d hd => by
  have j := ctq_jn (P := P) (s := s - d) d n
  rw [show s - d + d = s by omega, show d + n = n + d by omega] at j
  omega
theorem ctq_win {P : Nat → Prop} {s n : Nat} : ∀ m, m ≤ s → ctq (fun r => ∃ d, 1 ≤ d ∧ d ≤ m ∧ P (r - d)) s n ≤ m * ctq P (s - m) (n + m)
  | 0, _ => by
    rw [ctq_off n (fun t _ _ ⟨d, d1, d2, _⟩ => by omega)]
    exact Nat.zero_le _
  | m + 1, hm => by
    have ih := ctq_win (P := P) (s := s) (n := n) m (by omega)
    have o : ctq (fun r => ∃ d, 1 ≤ d ∧ d ≤ m + 1 ∧ P (r - d)) s n ≤ ctq (fun r => ∃ d, 1 ≤ d ∧ d ≤ m ∧ P (r - d)) s n + ctq (fun r => P (r - (m + 1))) s n := ctq_or n (fun t _ _ ⟨d, d1, d2, d3⟩ => by
      by_cases e : d = m + 1
      · subst e; exact Or.inr d3
      · exact Or.inl ⟨d, d1, by omega, d3⟩)
    have sh := ctq_sq (P := P) (a := s - (m + 1)) (q := m + 1) n
    rw [show s - (m + 1) + (m + 1) = s by omega] at sh
    have x1 : ctq P (s - m) (n + m) ≤ ctq P (s - (m + 1)) (n + (m + 1)) := by
      have := ctq_ext (P := P) (s := s - m) (n := n + m) 1 (by omega)
      rw [show s - m - 1 = s - (m + 1) by omega, show n + m + 1 = n + (m + 1) by omega] at this
      exact this
    have x2 : ctq P (s - (m + 1)) n ≤ ctq P (s - (m + 1)) (n + (m + 1)) := ctq_sub (by omega)
    have x3 := Nat.mul_le_mul_left m x1
    rw [Nat.succ_mul]
    omega
theorem ctq_rt {P : Nat → Prop} {r n : Nat} : ctq (fun q => P (7 * q + 6)) r n ≤ ctq P (7 * r) (7 * n) := ctq_inj (f := fun q => 7 * q + 6) (a := 7 * r) (m := 7 * n) n P (fun t t1 t2 hp => ⟨by omega, by omega, hp⟩) (fun t t' _ _ _ _ _ _ e => by
  have e' : 7 * t + 6 = 7 * t' + 6 := e
  omega)
def NDr (L s0 : Nat) (τ : Nat → qS) (A : Nat → List (Ms × Nat × Nat)) (B : Nat → List (Ms × Nat × Nat) × List (Ms × Nat × Nat) × List (Ms × Nat × Nat)) (r : Nat) : Prop := ∃ φ, 7 * r ≤ φ ∧ φ < 7 * r + 6 ∧ FRt L s0 τ A B φ
theorem WIN {L s0 : Nat} {τ : Nat → qS} (hR : RNN L τ) (hs : ∀ t, t ≤ 7 * L → psame (τ 0) (τ t)) (hJ : ∀ t, t ≤ 7 * L → JOm (τ t) ≠ none) {A : Nat → List (Ms × Nat × Nat)} {ρ : Nat → qS × qS × qS} {B : Nat → List (Ms × Nat × Nat) × List (Ms × Nat × Nat) × List (Ms × Nat × Nat)} (h : ANC L s0 τ A ρ B) {r0 n : Nat} (h1 : s0 + 500 ≤ 7 * r0) (h2 : r0 + n ≤ L) : ctq (NDr L s0 τ A B) r0 n + 31 * lkc τ (7 * r0 - 217) ≤ 31 * (lkc τ (7 * r0 + 7 * n) + 97) := by
  have a := ctq_mo (P := NDr L s0 τ A B) (Q := fun r => ∃ d, 1 ≤ d ∧ d ≤ 31 ∧ (fun q => CEw τ A (7 * q + 6)) (r - d)) (s := r0) n (fun r r1 r2 ⟨φ, f1, f2, hf⟩ => by
    obtain ⟨c, c1, c2, c3⟩ := FR_c h (by omega) hf
    have c6 := c1.1.1.1
    refine ⟨r - c / 7, by omega, by omega, ?_⟩
    show CEw τ A (7 * (r - (r - c / 7)) + 6)
    rw [show 7 * (r - (r - c / 7)) + 6 = c by omega]
    exact c1)
  have b := ctq_win (P := fun q => CEw τ A (7 * q + 6)) (s := r0) (n := n) 31 (by omega)
  have c := ctq_rt (P := CEw τ A) (r := r0 - 31) (n := n + 31)
  have d := CEB hR hs hJ h.1 (s := 7 * (r0 - 31)) (by omega) (by omega) (7 * (n + 31)) (by omega)
  have d' : ctq (CEw τ A) (7 * (r0 - 31)) (7 * (n + 31)) ≤ ctq (H7t τ) (7 * (r0 - 31)) (7 * (n + 31)) + 1 := by
    rcases d with d | ⟨d, -⟩
    · exact Nat.le_trans d (by omega)
    · exact d
  have e := H7B hR (s := 7 * (r0 - 31)) (7 * (n + 31)) (by omega)
  rw [show 7 * (r0 - 31) + 7 * (n + 31) = 7 * r0 + 7 * n by omega] at e
  have f : c7 (τ (7 * (r0 - 31))) ≤ 95 := by
    have l := run_95 hR (by omega) (by omega : 7 ≤ 7 * (r0 - 31)) (by omega)
    have : c7 (τ (7 * (r0 - 31))) ≤ (ln (τ (7 * (r0 - 31)))).length := List.countP_le_length
    omega
  rw [show 7 * r0 - 217 = 7 * (r0 - 31) by omega]
  have ab : ctq (NDr L s0 τ A B) r0 n ≤ 31 * ctq (fun q => CEw τ A (7 * q + 6)) (r0 - 31) (n + 31) := Nat.le_trans a b
  have cd' : ctq (fun q => CEw τ A (7 * q + 6)) (r0 - 31) (n + 31) ≤ ctq (H7t τ) (7 * (r0 - 31)) (7 * (n + 31)) + 1 := Nat.le_trans c d'
  generalize ctq (fun q => CEw τ A (7 * q + 6)) (r0 - 31) (n + 31) = g1 at ab cd'
  omega

