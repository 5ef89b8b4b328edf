-- STE12: the ledger with the acceptance ticks (set Y) of the names whose FETCH is read in C
theorem ctq_x6 {P : Nat → Nat → Prop} {s : Nat} (k : Nat) : ctq (fun b => ∃ v, v < 6 ∧ P v b) s k ≤ ctq (P 0) s k + ctq (P 1) s k + ctq (P 2) s k + ctq (P 3) s k + ctq (P 4) s k + ctq (P 5) s k := by
  have a := ctq_or (P := fun b => ∃ v, v < 6 ∧ P v b) (Q := fun b => ∃ v, v < 5 ∧ P v b) (R := P 5) (s := s) k (fun b _ _ ⟨v, v1, v2⟩ => by
    by_cases c : v < 5
    · exact Or.inl ⟨v, c, v2⟩
    · right; rw [show 5 = v by omega]; exact v2)
  have a4 := ctq_or (P := fun b => ∃ v, v < 5 ∧ P v b) (Q := fun b => ∃ v, v < 4 ∧ P v b) (R := P 4) (s := s) k (fun b _ _ ⟨v, v1, v2⟩ => by
    by_cases c : v < 4
    · exact Or.inl ⟨v, c, v2⟩
    · right; rw [show 4 = v by omega]; exact v2)
  have a3 := ctq_or (P := fun b => ∃ v, v < 4 ∧ P v b) (Q := fun b => ∃ v, v < 3 ∧ P v b) (R := P 3) (s := s) k (fun b _ _ ⟨v, v1, v2⟩ => by
    by_cases c : v < 3
    · exact Or.inl ⟨v, c, v2⟩
    · right; rw [show 3 = v by omega]; exact v2)
  have a2 := ctq_or (P := fun b => ∃ v, v < 3 ∧ P v b) (Q := fun b => ∃ v, v < 2 ∧ P v b) (R := P 2) (s := s) k (fun b _ _ ⟨v, v1, v2⟩ => by
    by_cases c : v < 2
    · exact Or.inl ⟨v, c, v2⟩
    · right; rw [show 2 = v by omega]; exact v2)
  have a1 := ctq_or (P := fun b => ∃ v, v < 2 ∧ P v b) (Q := P 0) (R := P 1) (s := s) k (fun b _ _ ⟨v, v1, v2⟩ => by
    by_cases c : v = 0
    · left; rw [← c]; exact v2
    · right; rw [show 1 = v by omega]; exact v2)
  omega
theorem ctq_ie {P Q : Nat → Prop} {s : Nat} (k : Nat) : ctq P s k + ctq Q s k ≤ ctq (fun b => P b ∨ Q b) s k + ctq (fun b => P b ∧ Q b) s k := by
  have a := ctq_add (P := P) (Q := Q) (s := s) k
  have b := ctq_2 (P := fun t => P t ∧ ¬ Q t) (Q := Q) (R := fun b => P b ∨ Q b) (s := s) k (fun t _ _ => ⟨fun q => Or.inl q.1, fun q => Or.inr q, fun q => q.1.2 q.2⟩)
  omega
theorem AL6 {L s0 : Nat} {τ : Nat → qS} (hR : RNN L τ) {A : Nat → List (Ms × Nat × Nat)} {ρ : Nat → qS × qS × qS} {B : Nat → List (Ms × Nat × Nat) × List (Ms × Nat × Nat) × List (Ms × Nat × Nat)} (h : ANC L s0 τ A ρ B) {Y : Nat → Prop} {s K : Nat} (h1 : s0 + 449 ≤ s) (h2 : s + K ≤ 7 * L) : ctq (fun b => ∃ v u, v < 6 ∧ s ≤ u ∧ u < s + K ∧ Y u ∧ AcA τ A ρ B v u b) (s - 448) K + ctq (fun b => ∃ v u, v < 6 ∧ s ≤ u ∧ u < s + K ∧ LSa τ A ρ B v u b) (s - 448) K ≤ ctq (fun u => Y u ∧ ∃ b, ACC τ A ρ B u b) s K + 2694 + (ctq (GNt τ A ρ B 0 (s - 449)) s K + ctq (GNt τ A ρ B 1 (s - 449)) s K + ctq (GNt τ A ρ B 2 (s - 449)) s K + ctq (GNt τ A ρ B 3 (s - 449)) s K + ctq (GNt τ A ρ B 4 (s - 449)) s K + ctq (GNt τ A ρ B 5 (s - 449)) s K) := by
  have al : ∀ v, v < 6 → ctq (fun b => ∃ u, s ≤ u ∧ u < s + K ∧ Y u ∧ AcA τ A ρ B v u b) (s - 448) K + ctq (fun b => ∃ u, s ≤ u ∧ u < s + K ∧ LSa τ A ρ B v u b) (s - 448) K ≤ ctq (fun u => Y u ∧ u % 7 = v ∧ ∃ b, ACC τ A ρ B u b) s K + 449 + ctq (GNt τ A ρ B v (s - 449)) s K := fun v hv => AL_v hR h (D := Y) hv (s := s) (K := K) (m := K) (by omega) (by omega)
  have x1 := ctq_x6 (P := fun v b => ∃ u, s ≤ u ∧ u < s + K ∧ Y u ∧ AcA τ A ρ B v u b) (s := s - 448) K
  have x2 := ctq_x6 (P := fun v b => ∃ u, s ≤ u ∧ u < s + K ∧ LSa τ A ρ B v u b) (s := s - 448) K
  have m1 := ctq_mo (P := fun b => ∃ v u, v < 6 ∧ s ≤ u ∧ u < s + K ∧ Y u ∧ AcA τ A ρ B v u b) (Q := fun b => ∃ v, v < 6 ∧ ∃ u, s ≤ u ∧ u < s + K ∧ Y u ∧ AcA τ A ρ B v u b) (s := s - 448) K (fun b _ _ ⟨v, u, v6, q⟩ => ⟨v, v6, u, q⟩)
  have m2 := ctq_mo (P := fun b => ∃ v u, v < 6 ∧ s ≤ u ∧ u < s + K ∧ LSa τ A ρ B v u b) (Q := fun b => ∃ v, v < 6 ∧ ∃ u, s ≤ u ∧ u < s + K ∧ LSa τ A ρ B v u b) (s := s - 448) K (fun b _ _ ⟨v, u, v6, q⟩ => ⟨v, v6, u, q⟩)
  have d6 := ctq_6v (P := fun v u => Y u ∧ u % 7 = v ∧ ∃ b, ACC τ A ρ B u b) (fun v u q => q.2.1) (s := s) K
  have dm := ctq_mo (P := fun u => ∃ v, v < 6 ∧ Y u ∧ u % 7 = v ∧ ∃ b, ACC τ A ρ B u b) (Q := fun u => Y u ∧ ∃ b, ACC τ A ρ B u b) (s := s) K (fun u _ _ ⟨v, _, q, _, r⟩ => ⟨q, r⟩)
  have a0 := al 0 (by omega)
  have a1 := al 1 (by omega)
  have a2 := al 2 (by omega)
  have a3 := al 3 (by omega)
  have a4 := al 4 (by omega)
  have a5 := al 5 (by omega)
  omega
theorem STE12 {L s0 : Nat} {τ : Nat → qS} (hR : RNN L τ) {A : Nat → List (Ms × Nat × Nat)} {ρ : Nat → qS × qS × qS} {B : Nat → List (Ms × Nat × Nat) × List (Ms × Nat × Nat) × List (Ms × Nat × Nat)} (h : ANC L s0 τ A ρ B) (h7 : 224 ≤ s0) {C Y : Nat → Prop} {s n K : Nat} (hK : K = n + 448) (h1 : s0 + 1500 ≤ s) (h2 : s + n + 1450 ≤ 7 * L) (hC : ∀ t, s ≤ t → t < s + n → C t → t % 7 < 6 ∧ 3 ≤ cn ((t % 7 : Nat) : Int) (ln (τ t))) (hY : ∀ t, s ≤ t → t < s + n → C t → Y t) (hY5 : ∀ b t i u, s ≤ t → t < s + n → i < 3 → C t → rdk τ A ρ B 5 t i b → ACC τ A ρ B u b → Y u) : 3 * ctq C s n ≤ ctq (RK τ A ρ B C (fun _ _ => True) 2 0) s n + ctq (RK τ A ρ B C (fun _ _ => True) 2 1) s n + ctq (RK τ A ρ B C (fun _ _ => True) 2 2) s n + ctq (fun u => Y u ∧ ∃ b, ACC τ A ρ B u b) s K + ctq (fun b => (∃ v u, v < 6 ∧ s ≤ u ∧ u < s + n ∧ C u ∧ AcA τ A ρ B v u b) ∧ ∃ t i, s ≤ t ∧ t < s + n ∧ i < 3 ∧ C t ∧ rdk τ A ρ B 5 t i b) (s - 448) K + ctq (fun b => (∃ v u, v < 6 ∧ s ≤ u ∧ u < s + K ∧ LSa τ A ρ B v u b) ∧ ∃ t i, s ≤ t ∧ t < s + n ∧ i < 3 ∧ C t ∧ rdk τ A ρ B 6 t i b) (s - 448) K + ctq (fun b => TOb τ ((b - 1) % 7) b ∧ ∃ t, s ≤ t ∧ t < s + n ∧ C t ∧ ACC τ A ρ B t b) (s - 448) K + ctq (fun b => TOb τ ((b - 1) % 7) b ∧ ¬ NAb L s0 τ A ρ B b ∧ ∃ t i, s ≤ t ∧ t < s + n ∧ i < 3 ∧ C t ∧ rdk τ A ρ B 5 t i b) (s - 448) K + ctq (fun b => NLb L s0 τ A ρ B s K b ∧ ∃ t i, s ≤ t ∧ t < s + n ∧ i < 3 ∧ C t ∧ rdk τ A ρ B 6 t i b) (s - 448) K + ctq (fun b => NLb L s0 τ A ρ B s K b ∧ ∃ t i, s ≤ t ∧ t < s + n ∧ i < 3 ∧ C t ∧ rdk τ A ρ B 5 t i b) (s - 448) K + (ctq (GNt τ A ρ B 0 (s - 449)) s K + ctq (GNt τ A ρ B 1 (s - 449)) s K + ctq (GNt τ A ρ B 2 (s - 449)) s K + ctq (GNt τ A ρ B 3 (s - 449)) s K + ctq (GNt τ A ρ B 4 (s - 449)) s K + ctq (GNt τ A ρ B 5 (s - 449)) s K) + 2694 := by
  have x := RDG hR h h7 (D := C) (s := s) (n := n) (by omega) (by omega) hC
  rw [← hK] at x
  have al := AL6 hR h (Y := Y) (s := s) (K := K) (by omega) (by omega)
  have s5 := ctq_or (P := fun b => NAb L s0 τ A ρ B b ∧ ∃ t i, s ≤ t ∧ t < s + n ∧ i < 3 ∧ C t ∧ rdk τ A ρ B 5 t i b) (Q := fun b => NLb L s0 τ A ρ B s K b ∧ ∃ t i, s ≤ t ∧ t < s + n ∧ i < 3 ∧ C t ∧ rdk τ A ρ B 5 t i b) (R := fun b => ∃ v u, v < 6 ∧ s ≤ u ∧ u < s + K ∧ LSa τ A ρ B v u b) (s := s - 448) K (fun b _ _ q => by
    by_cases c : ∃ v u, v < 6 ∧ s ≤ u ∧ u < s + K ∧ LSa τ A ρ B v u b
    · exact Or.inr c
    · exact Or.inl ⟨⟨q.1, c⟩, q.2⟩)
  have s6 := ctq_or (P := fun b => NAb L s0 τ A ρ B b ∧ ∃ t i, s ≤ t ∧ t < s + n ∧ i < 3 ∧ C t ∧ rdk τ A ρ B 6 t i b) (Q := fun b => NLb L s0 τ A ρ B s K b ∧ ∃ t i, s ≤ t ∧ t < s + n ∧ i < 3 ∧ C t ∧ rdk τ A ρ B 6 t i b) (R := fun b => (∃ v u, v < 6 ∧ s ≤ u ∧ u < s + K ∧ LSa τ A ρ B v u b) ∧ ∃ t i, s ≤ t ∧ t < s + n ∧ i < 3 ∧ C t ∧ rdk τ A ρ B 6 t i b) (s := s - 448) K (fun b _ _ q => by
    by_cases c : ∃ v u, v < 6 ∧ s ≤ u ∧ u < s + K ∧ LSa τ A ρ B v u b
    · exact Or.inr ⟨c, q.2⟩
    · exact Or.inl ⟨⟨q.1, c⟩, q.2⟩)
  have sa := ctq_or (P := fun b => ∃ t, s ≤ t ∧ t < s + n ∧ C t ∧ ACC τ A ρ B t b) (Q := fun b => TOb τ ((b - 1) % 7) b ∧ ∃ t, s ≤ t ∧ t < s + n ∧ C t ∧ ACC τ A ρ B t b) (R := fun b => ∃ v u, v < 6 ∧ s ≤ u ∧ u < s + n ∧ C u ∧ AcA τ A ρ B v u b) (s := s - 448) K (fun b b1 _ ⟨t, t1, t2, t3, t4⟩ => by
    obtain ⟨v, v6, v2, v3, v4, v5, -⟩ := ACC_tk h (by omega : s0 < b) (by omega) (by omega) t4
    by_cases c : CHG τ v (b - 1)
    · exact Or.inr ⟨v, t, v6, t1, t2, t3, ⟨v2, by omega, v4, c⟩, t4⟩
    · exact Or.inl ⟨by rw [v2]; exact ⟨v2, v4, c⟩, t, t1, t2, t3, t4⟩)
  have sr := ctq_or (P := fun b => ¬ NAb L s0 τ A ρ B b ∧ ∃ t i, s ≤ t ∧ t < s + n ∧ i < 3 ∧ C t ∧ rdk τ A ρ B 5 t i b) (Q := fun b => TOb τ ((b - 1) % 7) b ∧ ¬ NAb L s0 τ A ρ B b ∧ ∃ t i, s ≤ t ∧ t < s + n ∧ i < 3 ∧ C t ∧ rdk τ A ρ B 5 t i b) (R := fun b => (∃ v u, v < 6 ∧ s ≤ u ∧ u < s + K ∧ Y u ∧ AcA τ A ρ B v u b) ∧ ∃ t i, s ≤ t ∧ t < s + n ∧ i < 3 ∧ C t ∧ rdk τ A ρ B 5 t i b) (s := s - 448) K (fun b b1 _ ⟨hp, t, i, t1, t2, hi, hd, hr⟩ => by
    obtain ⟨t', t1', t2', ha⟩ : ∃ t', s0 ≤ t' ∧ t' < 7 * L ∧ ACC τ A ρ B t' b := by
      apply Classical.byContradiction
      intro m
      exact hp fun t' q1 q2 q3 => m ⟨t', q1, q2, q3⟩
    obtain ⟨v, v6, v2, v3, v4, v5, -⟩ := ACC_tk h (by omega : s0 < b) t1' t2' ha
    by_cases c : CHG τ v (b - 1)
    · obtain ⟨i6, hi6, hr6⟩ := ACC_rd ha
      have φt := rd56 h (by omega : s0 < b) (by omega) (by omega : t < 7 * L) t1' t2' hi6 hi hr hr6
      have q := rd5_b hR h h7 (by omega) (by omega) hi hr
      have b64 := (ACC_64 hR h h7 (t := t') (by omega) t2' ha).1
      exact Or.inr ⟨⟨v, t', v6, by omega, by omega, hY5 b t i t' t1 t2 hi hd hr ha, ⟨v2, by omega, v4, c⟩, ha⟩, t, i, t1, t2, hi, hd, hr⟩
    · exact Or.inl ⟨by rw [v2]; exact ⟨v2, v4, c⟩, hp, t, i, t1, t2, hi, hd, hr⟩)
  have ie := ctq_ie (P := fun b => ∃ v u, v < 6 ∧ s ≤ u ∧ u < s + n ∧ C u ∧ AcA τ A ρ B v u b) (Q := fun b => (∃ v u, v < 6 ∧ s ≤ u ∧ u < s + K ∧ Y u ∧ AcA τ A ρ B v u b) ∧ ∃ t i, s ≤ t ∧ t < s + n ∧ i < 3 ∧ C t ∧ rdk τ A ρ B 5 t i b) (s := s - 448) K
  have u1 := ctq_mo (P := fun b => (∃ v u, v < 6 ∧ s ≤ u ∧ u < s + n ∧ C u ∧ AcA τ A ρ B v u b) ∨ ((∃ v u, v < 6 ∧ s ≤ u ∧ u < s + K ∧ Y u ∧ AcA τ A ρ B v u b) ∧ ∃ t i, s ≤ t ∧ t < s + n ∧ i < 3 ∧ C t ∧ rdk τ A ρ B 5 t i b)) (Q := fun b => ∃ v u, v < 6 ∧ s ≤ u ∧ u < s + K ∧ Y u ∧ AcA τ A ρ B v u b) (s := s - 448) K (fun b _ _ q => by
    rcases q with ⟨v, u, v6, q1, q2, q3, q4⟩ | q
    · exact ⟨v, u, v6, q1, by omega, hY u q1 q2 q3, q4⟩
    · exact q.1)
  have u2 := ctq_mo (P := fun b => (∃ v u, v < 6 ∧ s ≤ u ∧ u < s + n ∧ C u ∧ AcA τ A ρ B v u b) ∧ ((∃ v u, v < 6 ∧ s ≤ u ∧ u < s + K ∧ Y u ∧ AcA τ A ρ B v u b) ∧ ∃ t i, s ≤ t ∧ t < s + n ∧ i < 3 ∧ C t ∧ rdk τ A ρ B 5 t i b)) (Q := fun b => (∃ v u, v < 6 ∧ s ≤ u ∧ u < s + n ∧ C u ∧ AcA τ A ρ B v u b) ∧ ∃ t i, s ≤ t ∧ t < s + n ∧ i < 3 ∧ C t ∧ rdk τ A ρ B 5 t i b) (s := s - 448) K (fun b _ _ q => ⟨q.1, q.2.2⟩)
  omega

