-- Lindley by ends of tasks: workers of kind 1 count by their ends of tasks, two letters for each
theorem MS_v3 {L s0 : Nat} {τ : Nat → qS} (hR : RNN L τ) {A : Nat → List (Ms × Nat × Nat)} {ρ : Nat → qS × qS × qS} {B : Nat → List (Ms × Nat × Nat) × List (Ms × Nat × Nat) × List (Ms × Nat × Nat)} (h : ANC L s0 τ A ρ B) {v s k : Nat} (h1 : s0 + 14 ≤ s) (h2 : s + k ≤ 7 * L) : ctq (fun t => MSt τ ρ t ∧ t % 7 = v) s k ≤ 2 * ctq (fun t => FZt τ ρ t ∧ t % 7 = v) (s - 7) (k + 7) + k / 42 + 1 := by
  have o := ctq_or (P := fun t => MSt τ ρ t ∧ t % 7 = v) (Q := fun t => ASKt τ t ∧ t % 7 = v) (R := fun t => FZt τ ρ t ∧ t % 7 = v) (s := s) k (fun t _ _ q => by
    rcases q.1 with z | z
    · exact Or.inl ⟨z, q.2⟩
    · exact Or.inr ⟨z, q.2⟩)
  have a := ctq_inj (P := fun t => ASKt τ t ∧ t % 7 = v) (f := fun t => t - 7) (s := s) (a := s - 7) (m := k) k (fun t => (FZt τ ρ t ∧ t % 7 = v) ∨ ((SIa τ ρ 5 t ∧ t % 7 = v) ∧ t < s - 7 + k)) (fun t t1 t2 q => by
    refine ⟨by omega, by omega, ?_⟩
    obtain ⟨q1, q2⟩ := q
    rcases ask_pv hR h (by omega) (by omega) q1 with c | c
    · exact Or.inl ⟨c, by omega⟩
    · exact Or.inr ⟨⟨c, by omega⟩, by omega⟩) (fun t t' t1 _ t1' _ _ _ e => by
    have e : t - 7 = t' - 7 := e
    omega)
  have a2 := ctq_or (P := fun t => (FZt τ ρ t ∧ t % 7 = v) ∨ ((SIa τ ρ 5 t ∧ t % 7 = v) ∧ t < s - 7 + k)) (Q := fun t => FZt τ ρ t ∧ t % 7 = v) (R := fun t => (SIa τ ρ 5 t ∧ t % 7 = v) ∧ t < s - 7 + k) (s := s - 7) k (fun t _ _ q => q)
  have b := ctq_sp (P := fun t => (SIa τ ρ 5 t ∧ t % 7 = v) ∧ t < s - 7 + k) (x := s - 7) (d := 42) (fun t t' t1 p q lt => SI5_sp hR h (by omega) (by omega) p.1.1 q.1.1 (by omega) lt) (k / 42 + 1)
  have c := ctq_sub (P := fun t => (SIa τ ρ 5 t ∧ t % 7 = v) ∧ t < s - 7 + k) (s := s - 7) (show k ≤ 42 * (k / 42 + 1) by omega)
  have f1 := ctq_in (P := fun t => FZt τ ρ t ∧ t % 7 = v) (x := s) (m := k) (x' := s - 7) (m' := k + 7) (by omega) (by omega)
  have f2 := ctq_in (P := fun t => FZt τ ρ t ∧ t % 7 = v) (x := s - 7) (m := k) (x' := s - 7) (m' := k + 7) (by omega) (by omega)
  omega
-- ends of tasks of the workers of kind 1
noncomputable def fz1 (τ : Nat → qS) (ρ : Nat → qS × qS × qS) (c : Nat → Nat) (s k : Nat) : Nat := ctq (fun t => FZt τ ρ t ∧ c (t % 7) = 1) s k
theorem MS_su2 {L s0 : Nat} {τ : Nat → qS} (hR : RNN L τ) {A : Nat → List (Ms × Nat × Nat)} {ρ : Nat → qS × qS × qS} {B : Nat → List (Ms × Nat × Nat) × List (Ms × Nat × Nat) × List (Ms × Nat × Nat)} (h : ANC L s0 τ A ρ B) {s k : Nat} (h1 : s0 + 14 ≤ s) (h2 : s + k ≤ 7 * L) {c : Nat → Nat} (h0 : ∀ t, s ≤ t → t < s + k → c (t % 7) = 0 → ¬ MSt τ ρ t) : ctq (MSt τ ρ) s k ≤ msB (c 0) k + msB (c 1) k + msB (c 2) k + msB (c 3) k + msB (c 4) k + msB (c 5) k + 2 * fz1 τ ρ c (s - 7) (k + 7) := by
  have six := ctq_six (P := MSt τ ρ) (s := s) (k := k) (fun t q => by
    rcases q with q | q
    · exact q.1
    · exact q.1)
  have one : ∀ v, v < 6 → ctq (fun t => MSt τ ρ t ∧ t % 7 = v) s k ≤ msB (c v) k + 2 * ctq (fun t => (FZt τ ρ t ∧ c (t % 7) = 1) ∧ t % 7 = v) (s - 7) (k + 7) := fun v hv => by
    unfold msB
    by_cases e0 : c v = 0
    · rw [if_pos e0, ctq_off k (fun t t1 t2 q => h0 t t1 t2 (by rw [q.2]; exact e0) q.1)]
      omega
    · rw [if_neg e0]
      by_cases e1 : c v = 1
      · rw [if_pos e1]
        have a := MS_v3 hR h (v := v) h1 h2
        have b := ctq_mo (P := fun t => FZt τ ρ t ∧ t % 7 = v) (Q := fun t => (FZt τ ρ t ∧ c (t % 7) = 1) ∧ t % 7 = v) (s := s - 7) (k + 7) (fun t _ _ q => ⟨⟨q.1, by rw [q.2]; exact e1⟩, q.2⟩)
        omega
      · rw [if_neg e1]
        have a := MS_v2 (τ := τ) (ρ := ρ) (v := v) (s := s) (k := k)
        omega
  have o0 := one 0 (by omega)
  have o1 := one 1 (by omega)
  have o2 := one 2 (by omega)
  have o3 := one 3 (by omega)
  have o4 := one 4 (by omega)
  have o5 := one 5 (by omega)
  have m := ctq_6v (P := fun v t => (FZt τ ρ t ∧ c (t % 7) = 1) ∧ t % 7 = v) (fun v t q => q.2) (s := s - 7) (k + 7)
  have m2 := ctq_mo (P := fun t => ∃ v, v < 6 ∧ (FZt τ ρ t ∧ c (t % 7) = 1) ∧ t % 7 = v) (Q := fun t => FZt τ ρ t ∧ c (t % 7) = 1) (s := s - 7) (k + 7) (fun t _ _ q => by
    obtain ⟨v, -, q, -⟩ := q
    exact q)
  unfold fz1
  omega
-- the master's queue: lam workers without bound, the others by their ends of tasks
theorem ML_h {L s0 : Nat} {τ : Nat → qS} (hR : RNN L τ) {A : Nat → List (Ms × Nat × Nat)} {ρ : Nat → qS × qS × qS} {B : Nat → List (Ms × Nat × Nat) × List (Ms × Nat × Nat) × List (Ms × Nat × Nat)} (h : ANC2 L s0 τ A ρ B) (h7 : 224 ≤ s0) {s k : Nat} (h1 : s0 + 448 ≤ s) (h2 : s + k ≤ 7 * L) {c : Nat → Nat} (h0 : ∀ t, s ≤ t → t < s + k → c (t % 7) = 0 → ¬ MSt τ ρ t) {lam : Nat} (hl : lpI (c 0) + lpI (c 1) + lpI (c 2) + lpI (c 3) + lpI (c 4) + lpI (c 5) ≤ lam) : ∃ j, j ≤ k ∧ mqc (A (s + k)) + 3 * ((k - j) / 7) ≤ 9 + 2 * ctq (LKt τ) (s + j) (k - j) + 2 * fz1 τ ρ c (s + j - 7) (k - j + 7) + 6 * ((k - j) / 42) + lam * ((k - j) / 7 - (k - j) / 42) + (if j = 0 then mqc (A s) else 0) := by
  obtain ⟨j, j1, j2⟩ := MLIN2 hR h h7 h1 k h2
  have ms := MS_su2 hR h.1 (s := s + j) (k := k - j) (by omega) (by omega) (c := c) (fun t t1 t2 => h0 t (by omega) (by omega))
  have m0 := msB_l (c 0) (k - j)
  have m1 := msB_l (c 1) (k - j)
  have m2 := msB_l (c 2) (k - j)
  have m3 := msB_l (c 3) (k - j)
  have m4 := msB_l (c 4) (k - j)
  have m5 := msB_l (c 5) (k - j)
  have d : lpI (c 0) * ((k - j) / 7 - (k - j) / 42) + lpI (c 1) * ((k - j) / 7 - (k - j) / 42) + lpI (c 2) * ((k - j) / 7 - (k - j) / 42) + lpI (c 3) * ((k - j) / 7 - (k - j) / 42) + lpI (c 4) * ((k - j) / 7 - (k - j) / 42) + lpI (c 5) * ((k - j) / 7 - (k - j) / 42) ≤ lam * ((k - j) / 7 - (k - j) / 42) := by
    rw [← Nat.add_mul, ← Nat.add_mul, ← Nat.add_mul, ← Nat.add_mul, ← Nat.add_mul]
    exact Nat.mul_le_mul_right _ hl
  have mt := ctq_l7 (v := 6) (s := s + j) (by omega) ((k - j) / 7)
  have mt2 := ctq_sub (P := fun t => t % 7 = 6) (s := s + j) (show 7 * ((k - j) / 7) ≤ k - j by omega)
  exact ⟨j, j1, by omega⟩
-- so a long queue needs more than one end of a task for each round since it was short
theorem ML_e {L s0 : Nat} {τ : Nat → qS} (hR : RNN L τ) {A : Nat → List (Ms × Nat × Nat)} {ρ : Nat → qS × qS × qS} {B : Nat → List (Ms × Nat × Nat) × List (Ms × Nat × Nat) × List (Ms × Nat × Nat)} (h : ANC2 L s0 τ A ρ B) (h7 : 224 ≤ s0) {s k : Nat} (h1 : s0 + 448 ≤ s) (h2 : s + k ≤ 7 * L) : ∃ j, j ≤ k ∧ mqc (A (s + k)) + 2 * ((k - j) / 7) ≤ 9 + 2 * ctq (LKt τ) (s + j) (k - j) + 2 * ctq (FZt τ ρ) (s + j - 7) (k - j + 7) + (if j = 0 then mqc (A s) else 0) := by
  obtain ⟨j, j1, j2⟩ := ML_h hR h h7 h1 h2 (c := fun _ => 1) (fun t _ _ q => absurd q (by decide)) (lam := 0) (by decide)
  have m := ctq_mo (P := fun t => FZt τ ρ t ∧ (fun _ : Nat => 1) (t % 7) = 1) (Q := FZt τ ρ) (s := s + j - 7) (k - j + 7) (fun t _ _ q => q.1)
  unfold fz1 at j2
  exact ⟨j, j1, by omega⟩

