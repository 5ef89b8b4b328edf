-- the ledger with the PAIRS of lost tokens kept apart
theorem STE4 {L s0 : Nat} {τ : Nat → qS} (hR : RNN L τ) (hs : ∀ t, t ≤ 7 * L → psame (τ 0) (τ t)) {A : Nat → List (Ms × Nat × Nat)} {ρ : Nat → qS × qS × qS} {B : Nat → List (Ms × Nat × Nat) × List (Ms × Nat × Nat) × List (Ms × Nat × Nat)} (h : ANC L s0 τ A ρ B) (h7 : 224 ≤ s0) {D : Nat → Prop} {s n : Nat} (h1 : s0 + 1500 ≤ s) (h2 : s + n + 1450 ≤ 7 * L) (hD : ∀ t, s ≤ t → t < s + n → D t → t % 7 < 6 ∧ 3 ≤ cn ((t % 7 : Nat) : Int) (ln (τ t)) ∧ ¬ FRk L s0 τ A B t) : 3 * ctq D s n + ctq (WHt τ) s n ≤ ctq (RK τ A ρ B D (fun _ _ => True) 2 0) s n + ctq (RK τ A ρ B D (fun _ _ => True) 2 1) s n + ctq (RK τ A ρ B D (fun _ _ => True) 2 2) s n + ctq (fun t => D t ∧ ∃ b, ACC τ A ρ B t b) s n + ctq (fun b => TOb τ ((b - 1) % 7) b ∧ ∃ t, s ≤ t ∧ t < s + n ∧ D t ∧ ACC τ A ρ B t b) (s - 448) (n + 448) + ctq (fun b => NLb L s0 τ A ρ B s (n + 448) b ∧ ∃ t i, s ≤ t ∧ t < s + n ∧ i < 3 ∧ D t ∧ rdk τ A ρ B 6 t i b) (s - 448) (n + 448) + ctq (fun b => NLb L s0 τ A ρ B s (n + 448) b ∧ ∃ t i, s ≤ t ∧ t < s + n ∧ i < 3 ∧ D t ∧ rdk τ A ρ B 5 t i b) (s - 448) (n + 448) + ctq (fun b => (OWb L s0 τ A ρ B b ∨ PNk L s0 τ A ρ B b) ∧ ∃ t i, s ≤ t ∧ t < s + n ∧ i < 3 ∧ D t ∧ rdk τ A ρ B 5 t i b) (s - 448) (n + 448) + ctq (fun b => (∃ v u, v < 6 ∧ s ≤ u ∧ u < s + (n + 448) ∧ LSa τ A ρ B v u b) ∧ ∃ t i, s ≤ t ∧ t < s + n ∧ i < 3 ∧ D t ∧ rdk τ A ρ B 6 t i b) (s - 448) (n + 448) + 5 * ctq (LKt τ) s n + ctq (fun l => LKt τ l ∧ ¬ GLk L τ A ρ B l) s n + ctq (TAt τ A ρ B (s - 449)) s n + 20000 := by
  have x := DEADK hR hs h h7 (D := D) (s := s) (n := n) (by omega) (by omega) hD
  have al : ∀ v, v < 6 → ctq (fun b => ∃ u, s ≤ u ∧ u < s + (n + 448) ∧ (D u ∧ u < s + n) ∧ AcA τ A ρ B v u b) (s - 448) (n + 448) + ctq (fun b => ∃ u, s ≤ u ∧ u < s + (n + 448) ∧ LSa τ A ρ B v u b) (s - 448) (n + 448) ≤ ctq (fun u => (D u ∧ u < s + n) ∧ u % 7 = v ∧ ∃ b, ACC τ A ρ B u b) s (n + 448) + 449 + ctq (GNt τ A ρ B v (s - 449)) s (n + 448) := fun v hv => by
    obtain ⟨K, hK⟩ : ∃ K, K = n + 448 := ⟨_, rfl⟩
    rw [← hK]
    exact AL_v hR h (D := fun u => D u ∧ u < s + n) hv (s := s) (K := K) (m := K) (by omega) (by omega)
  have e : ∀ (P Q : Nat → Prop), ctq (fun b => P b ∨ Q b) (s - 448) (n + 448) ≤ ctq P (s - 448) (n + 448) + ctq Q (s - 448) (n + 448) := fun P Q => ctq_or _ (fun b _ _ q => q)
  have s5 := ctq_mo (P := fun b => NAb L s0 τ A ρ B b ∧ ∃ t i, s ≤ t ∧ t < s + n ∧ i < 3 ∧ D t ∧ rdk τ A ρ B 5 t i b) (Q := fun b => (((((((NLb L s0 τ A ρ B s (n + 448) b ∧ ∃ t i, s ≤ t ∧ t < s + n ∧ i < 3 ∧ D t ∧ rdk τ A ρ B 5 t i b) ∨ (∃ u, s ≤ u ∧ u < s + (n + 448) ∧ LSa τ A ρ B 0 u b)) ∨ (∃ u, s ≤ u ∧ u < s + (n + 448) ∧ LSa τ A ρ B 1 u b)) ∨ (∃ u, s ≤ u ∧ u < s + (n + 448) ∧ LSa τ A ρ B 2 u b)) ∨ (∃ u, s ≤ u ∧ u < s + (n + 448) ∧ LSa τ A ρ B 3 u b)) ∨ (∃ u, s ≤ u ∧ u < s + (n + 448) ∧ LSa τ A ρ B 4 u b)) ∨ (∃ u, s ≤ u ∧ u < s + (n + 448) ∧ LSa τ A ρ B 5 u b))) (s := s - 448) (n + 448) (fun b _ _ q => by
    by_cases c : ∃ v u, v < 6 ∧ s ≤ u ∧ u < s + (n + 448) ∧ LSa τ A ρ B v u b
    · obtain ⟨v, u, v6, u1, u2, u3⟩ := c
      rcases (by omega : v = 0 ∨ v = 1 ∨ v = 2 ∨ v = 3 ∨ v = 4 ∨ v = 5) with e | e | e | e | e | e
      · subst e; have q' : (∃ u, s ≤ u ∧ u < s + (n + 448) ∧ LSa τ A ρ B 0 u b) := ⟨u, u1, u2, u3⟩; exact Or.inl (Or.inl (Or.inl (Or.inl (Or.inl (Or.inr q')))))
      · subst e; have q' : (∃ u, s ≤ u ∧ u < s + (n + 448) ∧ LSa τ A ρ B 1 u b) := ⟨u, u1, u2, u3⟩; exact Or.inl (Or.inl (Or.inl (Or.inl (Or.inr q'))))
      · subst e; have q' : (∃ u, s ≤ u ∧ u < s + (n + 448) ∧ LSa τ A ρ B 2 u b) := ⟨u, u1, u2, u3⟩; exact Or.inl (Or.inl (Or.inl (Or.inr q')))
      · subst e; have q' : (∃ u, s ≤ u ∧ u < s + (n + 448) ∧ LSa τ A ρ B 3 u b) := ⟨u, u1, u2, u3⟩; exact Or.inl (Or.inl (Or.inr q'))
      · subst e; have q' : (∃ u, s ≤ u ∧ u < s + (n + 448) ∧ LSa τ A ρ B 4 u b) := ⟨u, u1, u2, u3⟩; exact Or.inl (Or.inr q')
      · subst e; have q' : (∃ u, s ≤ u ∧ u < s + (n + 448) ∧ LSa τ A ρ B 5 u b) := ⟨u, u1, u2, u3⟩; exact Or.inr q'
    · have q' : (NLb L s0 τ A ρ B s (n + 448) b ∧ ∃ t i, s ≤ t ∧ t < s + n ∧ i < 3 ∧ D t ∧ rdk τ A ρ B 5 t i b) := ⟨⟨q.1, c⟩, q.2⟩; exact Or.inl (Or.inl (Or.inl (Or.inl (Or.inl (Or.inl (q')))))))
  have s50 := e (fun b => (NLb L s0 τ A ρ B s (n + 448) b ∧ ∃ t i, s ≤ t ∧ t < s + n ∧ i < 3 ∧ D t ∧ rdk τ A ρ B 5 t i b)) (fun b => (∃ u, s ≤ u ∧ u < s + (n + 448) ∧ LSa τ A ρ B 0 u b))
  have s51 := e (fun b => ((NLb L s0 τ A ρ B s (n + 448) b ∧ ∃ t i, s ≤ t ∧ t < s + n ∧ i < 3 ∧ D t ∧ rdk τ A ρ B 5 t i b) ∨ (∃ u, s ≤ u ∧ u < s + (n + 448) ∧ LSa τ A ρ B 0 u b))) (fun b => (∃ u, s ≤ u ∧ u < s + (n + 448) ∧ LSa τ A ρ B 1 u b))
  have s52 := e (fun b => (((NLb L s0 τ A ρ B s (n + 448) b ∧ ∃ t i, s ≤ t ∧ t < s + n ∧ i < 3 ∧ D t ∧ rdk τ A ρ B 5 t i b) ∨ (∃ u, s ≤ u ∧ u < s + (n + 448) ∧ LSa τ A ρ B 0 u b)) ∨ (∃ u, s ≤ u ∧ u < s + (n + 448) ∧ LSa τ A ρ B 1 u b))) (fun b => (∃ u, s ≤ u ∧ u < s + (n + 448) ∧ LSa τ A ρ B 2 u b))
  have s53 := e (fun b => ((((NLb L s0 τ A ρ B s (n + 448) b ∧ ∃ t i, s ≤ t ∧ t < s + n ∧ i < 3 ∧ D t ∧ rdk τ A ρ B 5 t i b) ∨ (∃ u, s ≤ u ∧ u < s + (n + 448) ∧ LSa τ A ρ B 0 u b)) ∨ (∃ u, s ≤ u ∧ u < s + (n + 448) ∧ LSa τ A ρ B 1 u b)) ∨ (∃ u, s ≤ u ∧ u < s + (n + 448) ∧ LSa τ A ρ B 2 u b))) (fun b => (∃ u, s ≤ u ∧ u < s + (n + 448) ∧ LSa τ A ρ B 3 u b))
  have s54 := e (fun b => (((((NLb L s0 τ A ρ B s (n + 448) b ∧ ∃ t i, s ≤ t ∧ t < s + n ∧ i < 3 ∧ D t ∧ rdk τ A ρ B 5 t i b) ∨ (∃ u, s ≤ u ∧ u < s + (n + 448) ∧ LSa τ A ρ B 0 u b)) ∨ (∃ u, s ≤ u ∧ u < s + (n + 448) ∧ LSa τ A ρ B 1 u b)) ∨ (∃ u, s ≤ u ∧ u < s + (n + 448) ∧ LSa τ A ρ B 2 u b)) ∨ (∃ u, s ≤ u ∧ u < s + (n + 448) ∧ LSa τ A ρ B 3 u b))) (fun b => (∃ u, s ≤ u ∧ u < s + (n + 448) ∧ LSa τ A ρ B 4 u b))
  have s55 := e (fun b => ((((((NLb L s0 τ A ρ B s (n + 448) b ∧ ∃ t i, s ≤ t ∧ t < s + n ∧ i < 3 ∧ D t ∧ rdk τ A ρ B 5 t i b) ∨ (∃ u, s ≤ u ∧ u < s + (n + 448) ∧ LSa τ A ρ B 0 u b)) ∨ (∃ u, s ≤ u ∧ u < s + (n + 448) ∧ LSa τ A ρ B 1 u b)) ∨ (∃ u, s ≤ u ∧ u < s + (n + 448) ∧ LSa τ A ρ B 2 u b)) ∨ (∃ u, s ≤ u ∧ u < s + (n + 448) ∧ LSa τ A ρ B 3 u b)) ∨ (∃ u, s ≤ u ∧ u < s + (n + 448) ∧ LSa τ A ρ B 4 u b))) (fun b => (∃ u, s ≤ u ∧ u < s + (n + 448) ∧ LSa τ A ρ B 5 u b))
  have s6 := ctq_or (P := fun b => NAb L s0 τ A ρ B b ∧ ∃ t i, s ≤ t ∧ t < s + n ∧ i < 3 ∧ D t ∧ rdk τ A ρ B 6 t i b) (Q := fun b => NLb L s0 τ A ρ B s (n + 448) b ∧ ∃ t i, s ≤ t ∧ t < s + n ∧ i < 3 ∧ D t ∧ rdk τ A ρ B 6 t i b) (R := fun b => (∃ v u, v < 6 ∧ s ≤ u ∧ u < s + (n + 448) ∧ LSa τ A ρ B v u b) ∧ ∃ t i, s ≤ t ∧ t < s + n ∧ i < 3 ∧ D t ∧ rdk τ A ρ B 6 t i b) (s := s - 448) (n + 448) (fun b _ _ q => by
    by_cases c : ∃ v u, v < 6 ∧ s ≤ u ∧ u < s + (n + 448) ∧ LSa τ A ρ B v u b
    · exact Or.inr ⟨c, q.2⟩
    · exact Or.inl ⟨⟨q.1, c⟩, q.2⟩)
  have sa := ctq_mo (P := fun b => ∃ t, s ≤ t ∧ t < s + n ∧ D t ∧ ACC τ A ρ B t b) (Q := fun b => (((((((TOb τ ((b - 1) % 7) b ∧ ∃ t, s ≤ t ∧ t < s + n ∧ D t ∧ ACC τ A ρ B t b) ∨ (∃ u, s ≤ u ∧ u < s + (n + 448) ∧ (D u ∧ u < s + n) ∧ AcA τ A ρ B 0 u b)) ∨ (∃ u, s ≤ u ∧ u < s + (n + 448) ∧ (D u ∧ u < s + n) ∧ AcA τ A ρ B 1 u b)) ∨ (∃ u, s ≤ u ∧ u < s + (n + 448) ∧ (D u ∧ u < s + n) ∧ AcA τ A ρ B 2 u b)) ∨ (∃ u, s ≤ u ∧ u < s + (n + 448) ∧ (D u ∧ u < s + n) ∧ AcA τ A ρ B 3 u b)) ∨ (∃ u, s ≤ u ∧ u < s + (n + 448) ∧ (D u ∧ u < s + n) ∧ AcA τ A ρ B 4 u b)) ∨ (∃ u, s ≤ u ∧ u < s + (n + 448) ∧ (D u ∧ u < s + n) ∧ AcA τ A ρ B 5 u b))) (s := s - 448) (n + 448) (fun b b1 _ ⟨t, t1, t2, t3, t4⟩ => by
    obtain ⟨v, v6, v2, v3, v4, v5, -⟩ := ACC_tk h (by omega : s0 < b) (by omega) (by omega) t4
    by_cases c : CHG τ v (b - 1)
    · have at' : ATk τ v b := ⟨v2, by omega, v4, c⟩
      rcases (by omega : v = 0 ∨ v = 1 ∨ v = 2 ∨ v = 3 ∨ v = 4 ∨ v = 5) with e | e | e | e | e | e
      · rw [e] at at'; have q' : (∃ u, s ≤ u ∧ u < s + (n + 448) ∧ (D u ∧ u < s + n) ∧ AcA τ A ρ B 0 u b) := ⟨t, t1, by omega, ⟨t3, t2⟩, at', t4⟩; exact Or.inl (Or.inl (Or.inl (Or.inl (Or.inl (Or.inr q')))))
      · rw [e] at at'; have q' : (∃ u, s ≤ u ∧ u < s + (n + 448) ∧ (D u ∧ u < s + n) ∧ AcA τ A ρ B 1 u b) := ⟨t, t1, by omega, ⟨t3, t2⟩, at', t4⟩; exact Or.inl (Or.inl (Or.inl (Or.inl (Or.inr q'))))
      · rw [e] at at'; have q' : (∃ u, s ≤ u ∧ u < s + (n + 448) ∧ (D u ∧ u < s + n) ∧ AcA τ A ρ B 2 u b) := ⟨t, t1, by omega, ⟨t3, t2⟩, at', t4⟩; exact Or.inl (Or.inl (Or.inl (Or.inr q')))
      · rw [e] at at'; have q' : (∃ u, s ≤ u ∧ u < s + (n + 448) ∧ (D u ∧ u < s + n) ∧ AcA τ A ρ B 3 u b) := ⟨t, t1, by omega, ⟨t3, t2⟩, at', t4⟩; exact Or.inl (Or.inl (Or.inr q'))
      · rw [e] at at'; have q' : (∃ u, s ≤ u ∧ u < s + (n + 448) ∧ (D u ∧ u < s + n) ∧ AcA τ A ρ B 4 u b) := ⟨t, t1, by omega, ⟨t3, t2⟩, at', t4⟩; exact Or.inl (Or.inr q')
      · rw [e] at at'; have q' : (∃ u, s ≤ u ∧ u < s + (n + 448) ∧ (D u ∧ u < s + n) ∧ AcA τ A ρ B 5 u b) := ⟨t, t1, by omega, ⟨t3, t2⟩, at', t4⟩; exact Or.inr q'
    · have q' : (TOb τ ((b - 1) % 7) b ∧ ∃ t, s ≤ t ∧ t < s + n ∧ D t ∧ ACC τ A ρ B t b) := ⟨by rw [v2]; exact ⟨v2, v4, c⟩, t, t1, t2, t3, t4⟩; exact Or.inl (Or.inl (Or.inl (Or.inl (Or.inl (Or.inl (q')))))))
  have sa0 := e (fun b => (TOb τ ((b - 1) % 7) b ∧ ∃ t, s ≤ t ∧ t < s + n ∧ D t ∧ ACC τ A ρ B t b)) (fun b => (∃ u, s ≤ u ∧ u < s + (n + 448) ∧ (D u ∧ u < s + n) ∧ AcA τ A ρ B 0 u b))
  have sa1 := e (fun b => ((TOb τ ((b - 1) % 7) b ∧ ∃ t, s ≤ t ∧ t < s + n ∧ D t ∧ ACC τ A ρ B t b) ∨ (∃ u, s ≤ u ∧ u < s + (n + 448) ∧ (D u ∧ u < s + n) ∧ AcA τ A ρ B 0 u b))) (fun b => (∃ u, s ≤ u ∧ u < s + (n + 448) ∧ (D u ∧ u < s + n) ∧ AcA τ A ρ B 1 u b))
  have sa2 := e (fun b => (((TOb τ ((b - 1) % 7) b ∧ ∃ t, s ≤ t ∧ t < s + n ∧ D t ∧ ACC τ A ρ B t b) ∨ (∃ u, s ≤ u ∧ u < s + (n + 448) ∧ (D u ∧ u < s + n) ∧ AcA τ A ρ B 0 u b)) ∨ (∃ u, s ≤ u ∧ u < s + (n + 448) ∧ (D u ∧ u < s + n) ∧ AcA τ A ρ B 1 u b))) (fun b => (∃ u, s ≤ u ∧ u < s + (n + 448) ∧ (D u ∧ u < s + n) ∧ AcA τ A ρ B 2 u b))
  have sa3 := e (fun b => ((((TOb τ ((b - 1) % 7) b ∧ ∃ t, s ≤ t ∧ t < s + n ∧ D t ∧ ACC τ A ρ B t b) ∨ (∃ u, s ≤ u ∧ u < s + (n + 448) ∧ (D u ∧ u < s + n) ∧ AcA τ A ρ B 0 u b)) ∨ (∃ u, s ≤ u ∧ u < s + (n + 448) ∧ (D u ∧ u < s + n) ∧ AcA τ A ρ B 1 u b)) ∨ (∃ u, s ≤ u ∧ u < s + (n + 448) ∧ (D u ∧ u < s + n) ∧ AcA τ A ρ B 2 u b))) (fun b => (∃ u, s ≤ u ∧ u < s + (n + 448) ∧ (D u ∧ u < s + n) ∧ AcA τ A ρ B 3 u b))
  have sa4 := e (fun b => (((((TOb τ ((b - 1) % 7) b ∧ ∃ t, s ≤ t ∧ t < s + n ∧ D t ∧ ACC τ A ρ B t b) ∨ (∃ u, s ≤ u ∧ u < s + (n + 448) ∧ (D u ∧ u < s + n) ∧ AcA τ A ρ B 0 u b)) ∨ (∃ u, s ≤ u ∧ u < s + (n + 448) ∧ (D u ∧ u < s + n) ∧ AcA τ A ρ B 1 u b)) ∨ (∃ u, s ≤ u ∧ u < s + (n + 448) ∧ (D u ∧ u < s + n) ∧ AcA τ A ρ B 2 u b)) ∨ (∃ u, s ≤ u ∧ u < s + (n + 448) ∧ (D u ∧ u < s + n) ∧ AcA τ A ρ B 3 u b))) (fun b => (∃ u, s ≤ u ∧ u < s + (n + 448) ∧ (D u ∧ u < s + n) ∧ AcA τ A ρ B 4 u b))
  have sa5 := e (fun b => ((((((TOb τ ((b - 1) % 7) b ∧ ∃ t, s ≤ t ∧ t < s + n ∧ D t ∧ ACC τ A ρ B t b) ∨ (∃ u, s ≤ u ∧ u < s + (n + 448) ∧ (D u ∧ u < s + n) ∧ AcA τ A ρ B 0 u b)) ∨ (∃ u, s ≤ u ∧ u < s + (n + 448) ∧ (D u ∧ u < s + n) ∧ AcA τ A ρ B 1 u b)) ∨ (∃ u, s ≤ u ∧ u < s + (n + 448) ∧ (D u ∧ u < s + n) ∧ AcA τ A ρ B 2 u b)) ∨ (∃ u, s ≤ u ∧ u < s + (n + 448) ∧ (D u ∧ u < s + n) ∧ AcA τ A ρ B 3 u b)) ∨ (∃ u, s ≤ u ∧ u < s + (n + 448) ∧ (D u ∧ u < s + n) ∧ AcA τ A ρ B 4 u b))) (fun b => (∃ u, s ≤ u ∧ u < s + (n + 448) ∧ (D u ∧ u < s + n) ∧ AcA τ A ρ B 5 u b))
  have d6 := ctq_6v (P := fun v u => (D u ∧ u < s + n) ∧ u % 7 = v ∧ ∃ b, ACC τ A ρ B u b) (fun v u q => q.2.1) (s := s) (n + 448)
  have dm : ctq (fun u => ∃ v, v < 6 ∧ (D u ∧ u < s + n) ∧ u % 7 = v ∧ ∃ b, ACC τ A ρ B u b) s (n + 448) ≤ ctq (fun t => D t ∧ ∃ b, ACC τ A ρ B t b) s n := by
    have j := ctq_jn (P := fun u => ∃ v, v < 6 ∧ (D u ∧ u < s + n) ∧ u % 7 = v ∧ ∃ b, ACC τ A ρ B u b) (s := s) n 448
    have o : ctq (fun u => ∃ v, v < 6 ∧ (D u ∧ u < s + n) ∧ u % 7 = v ∧ ∃ b, ACC τ A ρ B u b) (s + n) 448 = 0 := ctq_off _ (fun u u1 _ ⟨v, _, q, _⟩ => by have := q.2; omega)
    have m := ctq_mo (P := fun u => ∃ v, v < 6 ∧ (D u ∧ u < s + n) ∧ u % 7 = v ∧ ∃ b, ACC τ A ρ B u b) (Q := fun t => D t ∧ ∃ b, ACC τ A ρ B t b) (s := s) n (fun u _ _ ⟨v, _, q, _, r⟩ => ⟨q.1, r⟩)
    omega
  have a0 := al 0 (by omega)
  have a1 := al 1 (by omega)
  have a2 := al 2 (by omega)
  have a3 := al 3 (by omega)
  have a4 := al 4 (by omega)
  have a5 := al 5 (by omega)
  have g0 : ∀ K, K = n + 448 → ctq (GNt τ A ρ B 0 (s - 449)) s K + ctq (GNt τ A ρ B 1 (s - 449)) s K + ctq (GNt τ A ρ B 2 (s - 449)) s K + ctq (GNt τ A ρ B 3 (s - 449)) s K + ctq (GNt τ A ρ B 4 (s - 449)) s K + ctq (GNt τ A ρ B 5 (s - 449)) s K + ctq (OKt τ A ρ B) s K ≤ ctq (Kst τ A ρ B) s K + ctq (TAt τ A ρ B (s - 449)) s K := fun K hK => GN_s2 hR h h7 (s1 := s - 449) (s := s) (k := K) (by omega) (by omega)
  have g := g0 _ rfl
  have w := KWH hR h hs (s := s) (k := n) (by omega) (by omega) (by omega) (by omega)
  have e7 := H7B hR (s := s - 7) (n + 7) (by omega)
  rw [show s - 7 + (n + 7) = s + n by omega] at e7
  have f : c7 (τ (s - 7)) ≤ 95 := by
    have l := run_95 hR (by omega) (by omega : 7 ≤ s - 7) (by omega)
    have : c7 (τ (s - 7)) ≤ (ln (τ (s - 7))).length := List.countP_le_length
    omega
  have lk := lkc_c τ (s - 7) (7 + n)
  rw [show s - 7 + (7 + n) = s + n by omega] at lk
  have j1 := ctq_jn (P := LKt τ) (s := s - 7) 7 n
  rw [show s - 7 + 7 = s by omega] at j1
  have j2 := ctq_le (P := LKt τ) (s := s - 7) 7
  have k1 := ctq_tail (P := Kst τ A ρ B) (s := s) (n := n) 448
  have k2 := ctq_tail (P := TAt τ A ρ B (s - 449)) (s := s) (n := n) 448
  have gs : ctq (LKt τ) s n ≤ ctq (fun l => LKt τ l ∧ GLk L τ A ρ B l) s n + ctq (fun l => LKt τ l ∧ ¬ GLk L τ A ρ B l) s n := ctq_add n
  have gm := ctq_mo (P := fun l => LKt τ l ∧ GLk L τ A ρ B l) (Q := GLk L τ A ρ B) (s := s) n (fun l _ _ q => q.2)
  have go := GL_o (L := L) (τ := τ) (A := A) (ρ := ρ) (B := B) (s := s) (k := n) (m := n + 1002) rfl
  have gt := ctq_tail (P := OKt τ A ρ B) (s := s) (n := n + 448) 554
  have gt' : ctq (OKt τ A ρ B) s (n + 1002) ≤ ctq (OKt τ A ρ B) s (n + 448) + 554 := gt
  omega

