theorem ctq_6v {P : Nat → Nat → Prop} (h : ∀ v t, P v t → t % 7 = v) {s : Nat} : ∀ k, ctq (P 0) s k + ctq (P 1) s k + ctq (P 2) s k + ctq (P 3) s k + ctq (P 4) s k + ctq (P 5) s k ≤ ctq (fun t => ∃ v, v < 6 ∧ P v t) s k
  | 0 => by simp [ctq]
  | k + 1 => by
    have ih := ctq_6v h (s := s) k
    simp only [ctq]
    have z : ∀ v, ∀ (d : Decidable (P v (s + k))), (@ite Nat (P v (s + k)) d 1 0) ≤ (if (s + k) % 7 = v then 1 else 0) := fun v d => by
      by_cases c : P v (s + k)
      · rw [if_pos c, if_pos (h v _ c)]
        exact Nat.le_refl _
      · rw [if_neg c]
        exact Nat.zero_le _
    have n : ∀ v, ∀ (d : Decidable (P v (s + k))), ¬ P v (s + k) → (@ite Nat (P v (s + k)) d 1 0) = 0 := fun v d c => if_neg c
    by_cases c : ∃ v, v < 6 ∧ P v (s + k)
    · rw [if_pos c]
      have z0 := z 0 (Classical.propDecidable _)
      have z1 := z 1 (Classical.propDecidable _)
      have z2 := z 2 (Classical.propDecidable _)
      have z3 := z 3 (Classical.propDecidable _)
      have z4 := z 4 (Classical.propDecidable _)
      have z5 := z 5 (Classical.propDecidable _)
      have m : (if (s + k) % 7 = 0 then 1 else 0) + (if (s + k) % 7 = 1 then 1 else 0) + (if (s + k) % 7 = 2 then 1 else 0) + (if (s + k) % 7 = 3 then 1 else 0) + (if (s + k) % 7 = 4 then 1 else 0) + (if (s + k) % 7 = 5 then 1 else 0) ≤ 1 := by
        split <;> split <;> split <;> split <;> split <;> split <;> omega
      omega
    · have f : ∀ v, v < 6 → ¬ P v (s + k) := fun v hv q => c ⟨v, hv, q⟩
      rw [if_neg c, n 0 _ (f 0 (by omega)), n 1 _ (f 1 (by omega)), n 2 _ (f 2 (by omega)), n 3 _ (f 3 (by omega)), n 4 _ (f 4 (by omega)), n 5 _ (f 5 (by omega))]
      omega
-- a stay ends by the acceptance of a time-out token while its arrival token is on the line
def TAt (τ : Nat → qS) (A : Nat → List (Ms × Nat × Nat)) (ρ : Nat → qS × qS × qS) (B : Nat → List (Ms × Nat × Nat) × List (Ms × Nat × Nat) × List (Ms × Nat × Nat)) (s1 t : Nat) : Prop := t % 7 < 6 ∧ (∃ a, ATk τ (t % 7) a ∧ a ≤ t ∧ STY τ (t % 7) a t ∧ ¬ STY τ (t % 7) a (t + 1) ∧ 1 ≤ tbc a (A (t + 1))) ∧ ∃ b, ACC τ A ρ B t b ∧ (b ≤ s1 ∨ TOb τ (t % 7) b)
theorem GN_k {L s0 : Nat} {τ : Nat → qS} {A : Nat → List (Ms × Nat × Nat)} {ρ : Nat → qS × qS × qS} {B : Nat → List (Ms × Nat × Nat) × List (Ms × Nat × Nat) × List (Ms × Nat × Nat)} (h : ANC L s0 τ A ρ B) {v s1 t : Nat} (hv : v < 6) (h1 : s0 ≤ t) (h2 : t < 7 * L) (g : GNt τ A ρ B v s1 t) : Kst τ A ρ B t ∨ TAt τ A ρ B s1 t := by
  obtain ⟨e, ⟨a, a1, a2, a3, a4, a5⟩, c⟩ := g
  subst e
  rcases c with c | c
  · refine Or.inl ⟨⟨hv, rfl, ?_⟩, fun ⟨b, q⟩ => c b q⟩
    have s38 := (a3 t a2 (Nat.le_refl _)).1
    refine ⟨s38, ?_⟩
    rcases LEAVE h h1 h2 hv rfl s38 with d | ⟨e1, e2⟩ | ⟨b, b1, -⟩
    · exact d
    · exfalso
      apply a4
      intro u u1 u2
      by_cases e : u = t + 1
      · subst e
        obtain ⟨z1, z2, z3⟩ := a3 t a2 (Nat.le_refl _)
        exact ⟨by omega, by omega, by rw [e2]; exact z3⟩
      · exact a3 u u1 (by omega)
    · exact absurd b1 (c b)
  · exact Or.inr ⟨hv, ⟨a, a1, a2, a3, a4, a5⟩, c⟩
theorem GN_s {L s0 : Nat} {τ : Nat → qS} {A : Nat → List (Ms × Nat × Nat)} {ρ : Nat → qS × qS × qS} {B : Nat → List (Ms × Nat × Nat) × List (Ms × Nat × Nat) × List (Ms × Nat × Nat)} (h : ANC L s0 τ A ρ B) {s1 s k : Nat} (h1 : s0 ≤ s) (h2 : s + k ≤ 7 * L) : ctq (GNt τ A ρ B 0 s1) s k + ctq (GNt τ A ρ B 1 s1) s k + ctq (GNt τ A ρ B 2 s1) s k + ctq (GNt τ A ρ B 3 s1) s k + ctq (GNt τ A ρ B 4 s1) s k + ctq (GNt τ A ρ B 5 s1) s k ≤ ctq (Kst τ A ρ B) s k + ctq (TAt τ A ρ B s1) s k := by
  have a := ctq_6v (P := fun v t => GNt τ A ρ B v s1 t) (fun v t q => q.1) (s := s) k
  have b := ctq_or (P := fun t => ∃ v, v < 6 ∧ GNt τ A ρ B v s1 t) (Q := Kst τ A ρ B) (R := TAt τ A ρ B s1) (s := s) k (fun t t1 t2 ⟨v, hv, q⟩ => GN_k h hv (by omega) (by omega) q)
  exact Nat.le_trans a b
theorem STE {L s0 : Nat} {τ : Nat → qS} (hR : RNN L τ) (hs : ∀ t, t ≤ 7 * L → psame (τ 0) (τ t)) {A : Nat → List (Ms × Nat × Nat)} {ρ : Nat → qS × qS × qS} {B : Nat → List (Ms × Nat × Nat) × List (Ms × Nat × Nat) × List (Ms × Nat × Nat)} (h : ANC L s0 τ A ρ B) (h7 : 224 ≤ s0) {D : Nat → Prop} {s n : Nat} (h1 : s0 + 1500 ≤ s) (h2 : s + n + 1450 ≤ 7 * L) (hD : ∀ t, s ≤ t → t < s + n → D t → t % 7 < 6 ∧ 3 ≤ cn ((t % 7 : Nat) : Int) (ln (τ t)) ∧ ¬ FRk L s0 τ A B t) : 3 * ctq D s n + 2 * ctq (WHt τ) s n ≤ ctq (RK τ A ρ B D (fun _ _ => True) 2 0) s n + ctq (RK τ A ρ B D (fun _ _ => True) 2 1) s n + ctq (RK τ A ρ B D (fun _ _ => True) 2 2) s n + ctq (fun b => ∃ t, s ≤ t ∧ t < s + n ∧ D t ∧ ACC τ A ρ B t b) (s - 448) (n + 448) + ctq (fun b => NLb L s0 τ A ρ B s (n + 448) b ∧ ∃ t i, s ≤ t ∧ t < s + n ∧ i < 3 ∧ D t ∧ rdk τ A ρ B 6 t i b) (s - 448) (n + 448) + ctq (fun b => NLb L s0 τ A ρ B s (n + 448) b ∧ ∃ t i, s ≤ t ∧ t < s + n ∧ i < 3 ∧ D t ∧ rdk τ A ρ B 5 t i b) (s - 448) (n + 448) + ctq (fun b => (OWb L s0 τ A ρ B b ∨ PNk L s0 τ A ρ B b) ∧ ∃ t i, s ≤ t ∧ t < s + n ∧ i < 3 ∧ D t ∧ rdk τ A ρ B 5 t i b) (s - 448) (n + 448) + 12 * ctq (LKt τ) s n + 2 * ctq (TAt τ A ρ B (s - 449)) s n + 20000 := by
  have x := ALF hR hs h h7 (D := D) (s := s) (n := n) (by omega) (by omega) hD
  obtain ⟨K, hK⟩ : ∃ K, K = n + 448 := ⟨_, rfl⟩
  rw [← hK] at x ⊢
  have g := GN_s h (s1 := s - 449) (s := s) (k := K) (by omega) (by omega)
  have w := KWH hR h hs (s := s) (k := n) (by omega) (by omega) (by omega) (by omega)
  have e := H7B hR (s := s - 7) (n + 7) (by omega)
  rw [show s - 7 + (n + 7) = s + n by omega] at e
  have f : c7 (τ (s - 7)) ≤ 95 := by
    have l := run_95 hR (by omega) (by omega : 7 ≤ s - 7) (by omega)
    have : c7 (τ (s - 7)) ≤ (ln (τ (s - 7))).length := List.countP_le_length
    omega
  have lk := lkc_c τ (s - 7) (7 + n)
  rw [show s - 7 + (7 + n) = s + n by omega] at lk
  have j1 := ctq_jn (P := LKt τ) (s := s - 7) 7 n
  rw [show s - 7 + 7 = s by omega] at j1
  have j2 := ctq_le (P := LKt τ) (s := s - 7) 7
  have k1 := ctq_tail (P := Kst τ A ρ B) (s := s) (n := n) 448
  have k2 := ctq_tail (P := TAt τ A ρ B (s - 449)) (s := s) (n := n) 448
  rw [← hK] at k1 k2
  generalize ctq (GNt τ A ρ B 0 (s - 449)) s K + ctq (GNt τ A ρ B 1 (s - 449)) s K + ctq (GNt τ A ρ B 2 (s - 449)) s K + ctq (GNt τ A ρ B 3 (s - 449)) s K + ctq (GNt τ A ρ B 4 (s - 449)) s K + ctq (GNt τ A ρ B 5 (s - 449)) s K = G at x g
  omega

