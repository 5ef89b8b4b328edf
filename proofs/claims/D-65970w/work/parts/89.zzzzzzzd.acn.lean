theorem ac_n {L s0 : Nat} {τ : Nat → qS} {A : Nat → List (Ms × Nat × Nat)} {ρ : Nat → qS × qS × qS} {B : Nat → List (Ms × Nat × Nat) × List (Ms × Nat × Nat) × List (Ms × Nat × Nat)} (h : ANC L s0 τ A ρ B) {D : Nat → Prop} {v s t : Nat} (hs : s0 < s) (hst : s ≤ t) (m : Nat) : ∀ k, t + k ≤ 7 * L → ctq (fun b => ∃ u, t ≤ u ∧ u < t + k ∧ D u ∧ AcA τ A ρ B v u b) s m + ctq (fun u => ∃ b, s ≤ b ∧ AcA τ A ρ B v u b) t k ≤ ctq (fun u => D u ∧ ∃ b, s ≤ b ∧ AcA τ A ρ B v u b) t k + acm τ A ρ B v s t k
  | 0, _ => by
    rw [ctq_off m (fun b _ _ ⟨u, u1, u2, _⟩ => by omega)]
    simp [ctq]
  | k + 1, hl => by
    have ih := ac_n h (D := D) (v := v) hs hst m k (by omega)
    have a := ctq_or (P := fun b => ∃ u, t ≤ u ∧ u < t + (k + 1) ∧ D u ∧ AcA τ A ρ B v u b) (Q := fun b => ∃ u, t ≤ u ∧ u < t + k ∧ D u ∧ AcA τ A ρ B v u b) (R := fun b => D (t + k) ∧ AcA τ A ρ B v (t + k) b) (s := s) m (fun b _ _ ⟨u, u1, u2, u3, u4⟩ => by
      by_cases c : u = t + k
      · subst c; exact Or.inr ⟨u3, u4⟩
      · exact Or.inl ⟨u, u1, by omega, u3, u4⟩)
    have le : ∀ b, s ≤ b → AcA τ A ρ B v (t + k) b → b ≤ t + k := fun b b1 q => (ANC_once h (by omega : s0 < b) (by omega) (by omega) q.2).2.1
    have c : ctq (AcA τ A ρ B v (t + k)) s m ≤ ctq (AcA τ A ρ B v (t + k)) s (t + k + 1 - s) := by
      by_cases d : m ≤ t + k + 1 - s
      · exact ctq_sub d
      · have j := ctq_jn (P := AcA τ A ρ B v (t + k)) (s := s) (t + k + 1 - s) (m - (t + k + 1 - s))
        rw [show t + k + 1 - s + (m - (t + k + 1 - s)) = m by omega, show s + (t + k + 1 - s) = t + k + 1 by omega] at j
        have o : ctq (AcA τ A ρ B v (t + k)) (t + k + 1) (m - (t + k + 1 - s)) = 0 := ctq_off _ (fun b b1 b2 q => by
          have := le b (by omega) q
          omega)
        omega
    simp only [ctq, acm]
    by_cases e : ∃ b, s ≤ b ∧ AcA τ A ρ B v (t + k) b
    · rw [if_pos e]
      obtain ⟨b, b1, b2⟩ := e
      have p := ctq_pt (P := AcA τ A ρ B v (t + k)) (s := s) (x := b) (t + k + 1 - s) b1 (by have := le b b1 b2; omega) b2
      by_cases d : D (t + k)
      · rw [if_pos ⟨d, b, b1, b2⟩]
        have q := ctq_mo (P := fun b => D (t + k) ∧ AcA τ A ρ B v (t + k) b) (Q := AcA τ A ρ B v (t + k)) (s := s) m (fun b _ _ q => q.2)
        omega
      · rw [if_neg (fun q => d q.1)]
        have q : ctq (fun b => D (t + k) ∧ AcA τ A ρ B v (t + k) b) s m = 0 := ctq_off _ (fun b _ _ q => d q.1)
        omega
    · rw [if_neg e, if_neg (fun q => e q.2)]
      have q : ctq (fun b => D (t + k) ∧ AcA τ A ρ B v (t + k) b) s m = 0 := ctq_off _ (fun b b1 _ q => e ⟨b, b1, q.2⟩)
      omega
-- names accepted in chosen ticks and names lost, against the chosen ticks that accept
theorem AL_v {L s0 : Nat} {τ : Nat → qS} (hR : RNN L τ) {A : Nat → List (Ms × Nat × Nat)} {ρ : Nat → qS × qS × qS} {B : Nat → List (Ms × Nat × Nat) × List (Ms × Nat × Nat) × List (Ms × Nat × Nat)} (h : ANC L s0 τ A ρ B) {D : Nat → Prop} {v : Nat} (hv : v < 6) {s K m : Nat} (hs : s0 + 449 ≤ s) (hl : s + K ≤ 7 * L) : ctq (fun b => ∃ u, s ≤ u ∧ u < s + K ∧ D u ∧ AcA τ A ρ B v u b) (s - 448) m + ctq (fun b => ∃ u, s ≤ u ∧ u < s + K ∧ LSa τ A ρ B v u b) (s - 448) m ≤ ctq (fun u => D u ∧ u % 7 = v ∧ ∃ b, ACC τ A ρ B u b) s K + 449 + ctq (GNt τ A ρ B v (s - 449)) s K := by
  obtain ⟨s1, hs1⟩ : ∃ s1, s1 = s - 448 := ⟨_, rfl⟩
  rw [← hs1]
  have a := lsm_n (ρ := ρ) (B := B) h.1 (v := v) (s := s1) (t := s) (by omega) (by omega) m K (by omega)
  have b := LBS3 hR h hv (s := s1) (t := s) (by omega) (by omega) K (by omega)
  rw [show s1 - 1 = s - 449 by omega] at b
  have c := ctq_le (P := AAl τ A v s) (s := s1) (s + 1 - s1)
  have d := ac_n h (D := D) (v := v) (s := s1) (t := s) (by omega) (by omega) m K (by omega)
  have e := ctq_mo (P := fun u => D u ∧ ∃ b, s1 ≤ b ∧ AcA τ A ρ B v u b) (Q := fun u => D u ∧ u % 7 = v ∧ ∃ b, ACC τ A ρ B u b) (s := s) K (fun u u1 u2 ⟨q1, b, b1, b2⟩ => by
    refine ⟨q1, ?_, b, b2.2⟩
    obtain ⟨w, w1, w2, w3, -⟩ := ACC_tk h (by omega : s0 < b) (by omega) (by omega) b2.2
    have := b2.1.1
    omega)
  omega

