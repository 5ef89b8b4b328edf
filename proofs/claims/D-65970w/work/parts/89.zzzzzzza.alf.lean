-- names of left-behind tokens that are lost, counted once each
theorem lsm_n {L s0 : Nat} {τ : Nat → qS} {A : Nat → List (Ms × Nat × Nat)} {ρ : Nat → qS × qS × qS} {B : Nat → List (Ms × Nat × Nat) × List (Ms × Nat × Nat) × List (Ms × Nat × Nat)} (h : ANR L s0 τ A) {v s t : Nat} (hs : s0 < s) (hst : s ≤ t) (m : Nat) : ∀ k, t + k ≤ 7 * L → ctq (fun b => ∃ u, t ≤ u ∧ u < t + k ∧ LSa τ A ρ B v u b) s m ≤ lsm τ A ρ B v s t k
  | 0, _ => by
    rw [ctq_off _ (fun b _ _ ⟨u, u1, u2, _⟩ => by omega)]
    exact Nat.zero_le _
  | k + 1, hl => by
    have ih := lsm_n h hs hst m k (by omega) (τ := τ) (A := A) (ρ := ρ) (B := B) (v := v)
    have a := ctq_or (P := fun b => ∃ u, t ≤ u ∧ u < t + (k + 1) ∧ LSa τ A ρ B v u b) (Q := fun b => ∃ u, t ≤ u ∧ u < t + k ∧ LSa τ A ρ B v u b) (R := LSa τ A ρ B v (t + k)) (s := s) m (fun b _ _ ⟨u, u1, u2, u3⟩ => by
      by_cases c : u = t + k
      · subst c; exact Or.inr u3
      · exact Or.inl ⟨u, u1, by omega, u3⟩)
    have c : ctq (LSa τ A ρ B v (t + k)) s m ≤ ctq (LSa τ A ρ B v (t + k)) s (t + k + 1 - s) := by
      by_cases d : m ≤ t + k + 1 - s
      · exact ctq_sub d
      · have j := ctq_jn (P := LSa τ A ρ B v (t + k)) (s := s) (t + k + 1 - s) (m - (t + k + 1 - s))
        rw [show t + k + 1 - s + (m - (t + k + 1 - s)) = m by omega, show s + (t + k + 1 - s) = t + k + 1 by omega] at j
        have o : ctq (LSa τ A ρ B v (t + k)) (t + k + 1) (m - (t + k + 1 - s)) = 0 := ctq_off _ (fun b b1 b2 q => by
          have t0 := ANR_tb h (b := b) (by omega) (t + k - s0) (by omega)
          rw [show s0 + (t + k - s0) = t + k by omega, if_neg (by omega)] at t0
          have := q.1.2.1
          omega)
        omega
    simp only [lsm]
    omega
-- names that are never accepted and not lost as left-behind tokens
def NLb (L s0 : Nat) (τ : Nat → qS) (A : Nat → List (Ms × Nat × Nat)) (ρ : Nat → qS × qS × qS) (B : Nat → List (Ms × Nat × Nat) × List (Ms × Nat × Nat) × List (Ms × Nat × Nat)) (s k b : Nat) : Prop := NAb L s0 τ A ρ B b ∧ ¬ ∃ v u, v < 6 ∧ s ≤ u ∧ u < s + k ∧ LSa τ A ρ B v u b
theorem ALF {L s0 : Nat} {τ : Nat → qS} (hR : RNN L τ) (hs : ∀ t, t ≤ 7 * L → psame (τ 0) (τ t)) {A : Nat → List (Ms × Nat × Nat)} {ρ : Nat → qS × qS × qS} {B : Nat → List (Ms × Nat × Nat) × List (Ms × Nat × Nat) × List (Ms × Nat × Nat)} (h : ANC L s0 τ A ρ B) (h7 : 224 ≤ s0) {D : Nat → Prop} {s n : Nat} (h1 : s0 + 900 ≤ s) (h2 : s + n + 448 ≤ 7 * L) (hD : ∀ t, s ≤ t → t < s + n → D t → t % 7 < 6 ∧ 3 ≤ cn ((t % 7 : Nat) : Int) (ln (τ t)) ∧ ¬ FRk L s0 τ A B t) : 3 * ctq D s n ≤ ctq (RK τ A ρ B D (fun _ _ => True) 2 0) s n + ctq (RK τ A ρ B D (fun _ _ => True) 2 1) s n + ctq (RK τ A ρ B D (fun _ _ => True) 2 2) s n + ctq (fun b => ∃ t, s ≤ t ∧ t < s + n ∧ D t ∧ ACC τ A ρ B t b) (s - 448) (n + 448) + ctq (fun b => NLb L s0 τ A ρ B s (n + 448) b ∧ ∃ t i, s ≤ t ∧ t < s + n ∧ i < 3 ∧ D t ∧ rdk τ A ρ B 6 t i b) (s - 448) (n + 448) + ctq (fun b => NLb L s0 τ A ρ B s (n + 448) b ∧ ∃ t i, s ≤ t ∧ t < s + n ∧ i < 3 ∧ D t ∧ rdk τ A ρ B 5 t i b) (s - 448) (n + 448) + ctq (fun b => (OWb L s0 τ A ρ B b ∨ PNk L s0 τ A ρ B b) ∧ ∃ t i, s ≤ t ∧ t < s + n ∧ i < 3 ∧ D t ∧ rdk τ A ρ B 5 t i b) (s - 448) (n + 448) + 2 * (ctq (GNt τ A ρ B 0 (s - 449)) s (n + 448) + ctq (GNt τ A ρ B 1 (s - 449)) s (n + 448) + ctq (GNt τ A ρ B 2 (s - 449)) s (n + 448) + ctq (GNt τ A ρ B 3 (s - 449)) s (n + 448) + ctq (GNt τ A ρ B 4 (s - 449)) s (n + 448) + ctq (GNt τ A ρ B 5 (s - 449)) s (n + 448)) + 5388 := by
  have x := DEADK hR hs h h7 (D := D) (s := s) (n := n) h1 (by omega) hD
  have ls : ∀ v, v < 6 → ctq (fun b => ∃ u, s ≤ u ∧ u < s + (n + 448) ∧ LSa τ A ρ B v u b) (s - 448) (n + 448) ≤ 449 + ctq (GNt τ A ρ B v (s - 449)) s (n + 448) := fun v hv => by
    obtain ⟨K, hK⟩ : ∃ K, K = n + 448 := ⟨_, rfl⟩
    obtain ⟨s1, hs1⟩ : ∃ s1, s1 = s - 448 := ⟨_, rfl⟩
    rw [← hK, ← hs1]
    have a := lsm_n (ρ := ρ) (B := B) h.1 (v := v) (s := s1) (t := s) (by omega) (by omega) K K (by omega)
    have b := LBS2 hR h hv (s := s1) (t := s) (by omega) (by omega) K (by omega)
    rw [show s1 - 1 = s - 449 by omega] at b
    have c := ctq_le (P := AAl τ A v s) (s := s1) (s + 1 - s1)
    omega
  have sp : ∀ k : Int, ctq (fun b => NAb L s0 τ A ρ B b ∧ ∃ t i, s ≤ t ∧ t < s + n ∧ i < 3 ∧ D t ∧ rdk τ A ρ B k t i b) (s - 448) (n + 448) ≤ ctq (fun b => NLb L s0 τ A ρ B s (n + 448) b ∧ ∃ t i, s ≤ t ∧ t < s + n ∧ i < 3 ∧ D t ∧ rdk τ A ρ B k t i b) (s - 448) (n + 448) + (ctq (fun b => ∃ u, s ≤ u ∧ u < s + (n + 448) ∧ LSa τ A ρ B 0 u b) (s - 448) (n + 448) + (ctq (fun b => ∃ u, s ≤ u ∧ u < s + (n + 448) ∧ LSa τ A ρ B 1 u b) (s - 448) (n + 448) + (ctq (fun b => ∃ u, s ≤ u ∧ u < s + (n + 448) ∧ LSa τ A ρ B 2 u b) (s - 448) (n + 448) + (ctq (fun b => ∃ u, s ≤ u ∧ u < s + (n + 448) ∧ LSa τ A ρ B 3 u b) (s - 448) (n + 448) + (ctq (fun b => ∃ u, s ≤ u ∧ u < s + (n + 448) ∧ LSa τ A ρ B 4 u b) (s - 448) (n + 448) + ctq (fun b => ∃ u, s ≤ u ∧ u < s + (n + 448) ∧ LSa τ A ρ B 5 u b) (s - 448) (n + 448)))))) := fun k => by
    have e : ∀ (P : Nat → Prop) (v : Nat), ctq (fun b => P b ∨ ∃ u, s ≤ u ∧ u < s + (n + 448) ∧ LSa τ A ρ B v u b) (s - 448) (n + 448) ≤ ctq P (s - 448) (n + 448) + ctq (fun b => ∃ u, s ≤ u ∧ u < s + (n + 448) ∧ LSa τ A ρ B v u b) (s - 448) (n + 448) := fun P v => ctq_or _ (fun b _ _ q => q)
    have f := ctq_mo (P := fun b => NAb L s0 τ A ρ B b ∧ ∃ t i, s ≤ t ∧ t < s + n ∧ i < 3 ∧ D t ∧ rdk τ A ρ B k t i b) (Q := fun b => (((((((NLb L s0 τ A ρ B s (n + 448) b ∧ ∃ t i, s ≤ t ∧ t < s + n ∧ i < 3 ∧ D t ∧ rdk τ A ρ B k t i b) ∨ ∃ u, s ≤ u ∧ u < s + (n + 448) ∧ LSa τ A ρ B 0 u b) ∨ ∃ u, s ≤ u ∧ u < s + (n + 448) ∧ LSa τ A ρ B 1 u b) ∨ ∃ u, s ≤ u ∧ u < s + (n + 448) ∧ LSa τ A ρ B 2 u b) ∨ ∃ u, s ≤ u ∧ u < s + (n + 448) ∧ LSa τ A ρ B 3 u b) ∨ ∃ u, s ≤ u ∧ u < s + (n + 448) ∧ LSa τ A ρ B 4 u b) ∨ ∃ u, s ≤ u ∧ u < s + (n + 448) ∧ LSa τ A ρ B 5 u b)) (s := s - 448) (n + 448) (fun b _ _ q => by
      by_cases c : ∃ v u, v < 6 ∧ s ≤ u ∧ u < s + (n + 448) ∧ LSa τ A ρ B v u b
      · obtain ⟨v, u, v6, u1, u2, u3⟩ := c
        rcases (by omega : v = 0 ∨ v = 1 ∨ v = 2 ∨ v = 3 ∨ v = 4 ∨ v = 5) with e | e | e | e | e | e
        · subst e; exact Or.inl (Or.inl (Or.inl (Or.inl (Or.inl (Or.inr ⟨u, u1, u2, u3⟩)))))
        · subst e; exact Or.inl (Or.inl (Or.inl (Or.inl (Or.inr ⟨u, u1, u2, u3⟩))))
        · subst e; exact Or.inl (Or.inl (Or.inl (Or.inr ⟨u, u1, u2, u3⟩)))
        · subst e; exact Or.inl (Or.inl (Or.inr ⟨u, u1, u2, u3⟩))
        · subst e; exact Or.inl (Or.inr ⟨u, u1, u2, u3⟩)
        · subst e; exact Or.inr ⟨u, u1, u2, u3⟩
      · exact Or.inl (Or.inl (Or.inl (Or.inl (Or.inl (Or.inl ⟨⟨q.1, c⟩, q.2⟩))))))
    have e5 := e (fun b => ((((((NLb L s0 τ A ρ B s (n + 448) b ∧ ∃ t i, s ≤ t ∧ t < s + n ∧ i < 3 ∧ D t ∧ rdk τ A ρ B k t i b) ∨ ∃ u, s ≤ u ∧ u < s + (n + 448) ∧ LSa τ A ρ B 0 u b) ∨ ∃ u, s ≤ u ∧ u < s + (n + 448) ∧ LSa τ A ρ B 1 u b) ∨ ∃ u, s ≤ u ∧ u < s + (n + 448) ∧ LSa τ A ρ B 2 u b) ∨ ∃ u, s ≤ u ∧ u < s + (n + 448) ∧ LSa τ A ρ B 3 u b) ∨ ∃ u, s ≤ u ∧ u < s + (n + 448) ∧ LSa τ A ρ B 4 u b)) 5
    have e4 := e (fun b => (((((NLb L s0 τ A ρ B s (n + 448) b ∧ ∃ t i, s ≤ t ∧ t < s + n ∧ i < 3 ∧ D t ∧ rdk τ A ρ B k t i b) ∨ ∃ u, s ≤ u ∧ u < s + (n + 448) ∧ LSa τ A ρ B 0 u b) ∨ ∃ u, s ≤ u ∧ u < s + (n + 448) ∧ LSa τ A ρ B 1 u b) ∨ ∃ u, s ≤ u ∧ u < s + (n + 448) ∧ LSa τ A ρ B 2 u b) ∨ ∃ u, s ≤ u ∧ u < s + (n + 448) ∧ LSa τ A ρ B 3 u b)) 4
    have e3 := e (fun b => ((((NLb L s0 τ A ρ B s (n + 448) b ∧ ∃ t i, s ≤ t ∧ t < s + n ∧ i < 3 ∧ D t ∧ rdk τ A ρ B k t i b) ∨ ∃ u, s ≤ u ∧ u < s + (n + 448) ∧ LSa τ A ρ B 0 u b) ∨ ∃ u, s ≤ u ∧ u < s + (n + 448) ∧ LSa τ A ρ B 1 u b) ∨ ∃ u, s ≤ u ∧ u < s + (n + 448) ∧ LSa τ A ρ B 2 u b)) 3
    have e2 := e (fun b => (((NLb L s0 τ A ρ B s (n + 448) b ∧ ∃ t i, s ≤ t ∧ t < s + n ∧ i < 3 ∧ D t ∧ rdk τ A ρ B k t i b) ∨ ∃ u, s ≤ u ∧ u < s + (n + 448) ∧ LSa τ A ρ B 0 u b) ∨ ∃ u, s ≤ u ∧ u < s + (n + 448) ∧ LSa τ A ρ B 1 u b)) 2
    have e1 := e (fun b => ((NLb L s0 τ A ρ B s (n + 448) b ∧ ∃ t i, s ≤ t ∧ t < s + n ∧ i < 3 ∧ D t ∧ rdk τ A ρ B k t i b) ∨ ∃ u, s ≤ u ∧ u < s + (n + 448) ∧ LSa τ A ρ B 0 u b)) 1
    have e0 := e (fun b => NLb L s0 τ A ρ B s (n + 448) b ∧ ∃ t i, s ≤ t ∧ t < s + n ∧ i < 3 ∧ D t ∧ rdk τ A ρ B k t i b) 0
    omega
  have l0 := ls 0 (by omega)
  have l1 := ls 1 (by omega)
  have l2 := ls 2 (by omega)
  have l3 := ls 3 (by omega)
  have l4 := ls 4 (by omega)
  have l5 := ls 5 (by omega)
  have s5 := sp 5
  have s6 := sp 6
  omega

