-- local ledger: E6 = left-behind names on the line, G6 = gains; the ledger over a window with E6 at both ends
noncomputable def E6 (τ : Nat → qS) (A : Nat → List (Ms × Nat × Nat)) (y : Nat) : Nat := ctq (AAl τ A 0 y) (y - 447) 448 + ctq (AAl τ A 1 y) (y - 447) 448 + ctq (AAl τ A 2 y) (y - 447) 448 + ctq (AAl τ A 3 y) (y - 447) 448 + ctq (AAl τ A 4 y) (y - 447) 448 + ctq (AAl τ A 5 y) (y - 447) 448
noncomputable def G6 (τ : Nat → qS) (A : Nat → List (Ms × Nat × Nat)) (ρ : Nat → qS × qS × qS) (B : Nat → List (Ms × Nat × Nat) × List (Ms × Nat × Nat) × List (Ms × Nat × Nat)) (s k : Nat) : Nat := ctq (GNt τ A ρ B 0 (s - 448)) s k + ctq (GNt τ A ρ B 1 (s - 448)) s k + ctq (GNt τ A ρ B 2 (s - 448)) s k + ctq (GNt τ A ρ B 3 (s - 448)) s k + ctq (GNt τ A ρ B 4 (s - 448)) s k + ctq (GNt τ A ρ B 5 (s - 448)) s k
theorem AL_w {L s0 : Nat} {τ : Nat → qS} (hR : RNN L τ) {A : Nat → List (Ms × Nat × Nat)} {ρ : Nat → qS × qS × qS} {B : Nat → List (Ms × Nat × Nat) × List (Ms × Nat × Nat) × List (Ms × Nat × Nat)} (h : ANC L s0 τ A ρ B) {D : Nat → Prop} {v : Nat} (hv : v < 6) {s K m : Nat} (hs : s0 + 449 ≤ s) (hl : s + K ≤ 7 * L) : ctq (AAl τ A v (s + K)) (s + K - 447) 448 + ctq (fun b => ∃ u, s ≤ u ∧ u < s + K ∧ D u ∧ AcA τ A ρ B v u b) (s - 447) m + ctq (fun b => ∃ u, s ≤ u ∧ u < s + K ∧ LSa τ A ρ B v u b) (s - 447) m ≤ ctq (fun u => D u ∧ u % 7 = v ∧ ∃ b, ACC τ A ρ B u b) s K + ctq (AAl τ A v s) (s - 447) 448 + ctq (GNt τ A ρ B v (s - 448)) s K := by
  obtain ⟨s1, hs1⟩ : ∃ s1, s1 = s - 447 := ⟨_, rfl⟩
  rw [← hs1]
  have a := lsm_n (ρ := ρ) (B := B) h.1 (v := v) (s := s1) (t := s) (by omega) (by omega) m K (by omega)
  have b := LBS3 hR h hv (s := s1) (t := s) (by omega) (by omega) K (by omega)
  rw [show s1 - 1 = s - 448 by omega, show s + 1 - s1 = 448 by omega] at b
  have i := ctq_in (P := AAl τ A v (s + K)) (x := s + K - 447) (m := 448) (x' := s1) (m' := s + K + 1 - s1) (by omega) (by omega)
  have d := ac_n h (D := D) (v := v) (s := s1) (t := s) (by omega) (by omega) m K (by omega)
  have e := ctq_mo (P := fun u => D u ∧ ∃ b, s1 ≤ b ∧ AcA τ A ρ B v u b) (Q := fun u => D u ∧ u % 7 = v ∧ ∃ b, ACC τ A ρ B u b) (s := s) K (fun u u1 u2 ⟨q1, b, b1, b2⟩ => by
    refine ⟨q1, ?_, b, b2.2⟩
    obtain ⟨w, w1, w2, w3, -⟩ := ACC_tk h (by omega : s0 < b) (by omega) (by omega) b2.2
    have := b2.1.1
    omega)
  omega
theorem AL7 {L s0 : Nat} {τ : Nat → qS} (hR : RNN L τ) {A : Nat → List (Ms × Nat × Nat)} {ρ : Nat → qS × qS × qS} {B : Nat → List (Ms × Nat × Nat) × List (Ms × Nat × Nat) × List (Ms × Nat × Nat)} (h : ANC L s0 τ A ρ B) {Y : Nat → Prop} {s K m : Nat} (h1 : s0 + 449 ≤ s) (h2 : s + K ≤ 7 * L) : E6 τ A (s + K) + ctq (fun b => ∃ v u, v < 6 ∧ s ≤ u ∧ u < s + K ∧ Y u ∧ AcA τ A ρ B v u b) (s - 447) m + ctq (fun b => ∃ v u, v < 6 ∧ s ≤ u ∧ u < s + K ∧ LSa τ A ρ B v u b) (s - 447) m ≤ ctq (fun u => Y u ∧ ∃ b, ACC τ A ρ B u b) s K + E6 τ A s + G6 τ A ρ B s K := by
  have al : ∀ v, v < 6 → ctq (AAl τ A v (s + K)) (s + K - 447) 448 + ctq (fun b => ∃ u, s ≤ u ∧ u < s + K ∧ Y u ∧ AcA τ A ρ B v u b) (s - 447) m + ctq (fun b => ∃ u, s ≤ u ∧ u < s + K ∧ LSa τ A ρ B v u b) (s - 447) m ≤ ctq (fun u => Y u ∧ u % 7 = v ∧ ∃ b, ACC τ A ρ B u b) s K + ctq (AAl τ A v s) (s - 447) 448 + ctq (GNt τ A ρ B v (s - 448)) s K := fun v hv => AL_w hR h (D := Y) hv h1 h2
  have x1 := ctq_x6 (P := fun v b => ∃ u, s ≤ u ∧ u < s + K ∧ Y u ∧ AcA τ A ρ B v u b) (s := s - 447) m
  have x2 := ctq_x6 (P := fun v b => ∃ u, s ≤ u ∧ u < s + K ∧ LSa τ A ρ B v u b) (s := s - 447) m
  have m1 := ctq_mo (P := fun b => ∃ v u, v < 6 ∧ s ≤ u ∧ u < s + K ∧ Y u ∧ AcA τ A ρ B v u b) (Q := fun b => ∃ v, v < 6 ∧ ∃ u, s ≤ u ∧ u < s + K ∧ Y u ∧ AcA τ A ρ B v u b) (s := s - 447) m (fun b _ _ ⟨v, u, v6, q⟩ => ⟨v, v6, u, q⟩)
  have m2 := ctq_mo (P := fun b => ∃ v u, v < 6 ∧ s ≤ u ∧ u < s + K ∧ LSa τ A ρ B v u b) (Q := fun b => ∃ v, v < 6 ∧ ∃ u, s ≤ u ∧ u < s + K ∧ LSa τ A ρ B v u b) (s := s - 447) m (fun b _ _ ⟨v, u, v6, q⟩ => ⟨v, v6, u, q⟩)
  have d6 := ctq_6v (P := fun v u => Y u ∧ u % 7 = v ∧ ∃ b, ACC τ A ρ B u b) (fun v u q => q.2.1) (s := s) K
  have dm := ctq_mo (P := fun u => ∃ v, v < 6 ∧ Y u ∧ u % 7 = v ∧ ∃ b, ACC τ A ρ B u b) (Q := fun u => Y u ∧ ∃ b, ACC τ A ρ B u b) (s := s) K (fun u _ _ ⟨v, _, q, _, r⟩ => ⟨q, r⟩)
  have a0 := al 0 (by omega)
  have a1 := al 1 (by omega)
  have a2 := al 2 (by omega)
  have a3 := al 3 (by omega)
  have a4 := al 4 (by omega)
  have a5 := al 5 (by omega)
  unfold E6 G6
  omega
-- GLE: the local form of GL
theorem GLE {L s0 : Nat} {τ : Nat → qS} (hR : RNN L τ) {A : Nat → List (Ms × Nat × Nat)} {ρ : Nat → qS × qS × qS} {B : Nat → List (Ms × Nat × Nat) × List (Ms × Nat × Nat) × List (Ms × Nat × Nat)} (h : ANC L s0 τ A ρ B) {Z : Nat → Prop} {s K m : Nat} (h1 : s0 + 449 ≤ s) (h2 : s + K ≤ 7 * L) (hZ : ∀ b u, s - 447 ≤ b → b < s - 447 + m → Z b → s0 ≤ u → u < 7 * L → ACC τ A ρ B u b → s ≤ u ∧ u < s + K) : E6 τ A (s + K) + ctq Z (s - 447) m ≤ ctq (fun u => ∃ b, Z b ∧ ACC τ A ρ B u b) s K + ctq (fun b => Z b ∧ (TOb τ ((b - 1) % 7) b ∨ NLb L s0 τ A ρ B s K b)) (s - 447) m + G6 τ A ρ B s K + E6 τ A s := by
  have al := AL7 hR h (Y := fun u => ∃ b, Z b ∧ ACC τ A ρ B u b) (s := s) (K := K) (m := m) h1 h2
  have y := ctq_mo (P := fun u => (∃ b, Z b ∧ ACC τ A ρ B u b) ∧ ∃ b, ACC τ A ρ B u b) (Q := fun u => ∃ b, Z b ∧ ACC τ A ρ B u b) (s := s) K (fun u _ _ q => q.1)
  have o1 := ctq_or (P := Z) (Q := fun b => Z b ∧ (TOb τ ((b - 1) % 7) b ∨ NLb L s0 τ A ρ B s K b)) (R := fun b => (∃ v u, v < 6 ∧ s ≤ u ∧ u < s + K ∧ LSa τ A ρ B v u b) ∨ (∃ v u, v < 6 ∧ s ≤ u ∧ u < s + K ∧ (∃ b, Z b ∧ ACC τ A ρ B u b) ∧ AcA τ A ρ B v u b)) (s := s - 447) m (fun b b1 b2 hz => by
    by_cases hp : NAb L s0 τ A ρ B b
    · by_cases c : ∃ v u, v < 6 ∧ s ≤ u ∧ u < s + K ∧ LSa τ A ρ B v u b
      · exact Or.inr (Or.inl c)
      · exact Or.inl ⟨hz, Or.inr ⟨hp, c⟩⟩
    · obtain ⟨t', t1', t2', ha⟩ : ∃ t', s0 ≤ t' ∧ t' < 7 * L ∧ ACC τ A ρ B t' b := by
        apply Classical.byContradiction
        intro m
        exact hp fun t' q1 q2 q3 => m ⟨t', q1, q2, q3⟩
      obtain ⟨r1, r2⟩ := hZ b t' b1 b2 hz t1' t2' ha
      obtain ⟨v, v6, v2, v3, v4, v5, -⟩ := ACC_tk h (by omega : s0 < b) t1' t2' ha
      by_cases c : CHG τ v (b - 1)
      · exact Or.inr (Or.inr ⟨v, t', v6, r1, r2, ⟨b, hz, ha⟩, ⟨v2, by omega, v4, c⟩, ha⟩)
      · exact Or.inl ⟨hz, Or.inl (by rw [v2]; exact ⟨v2, v4, c⟩)⟩)
  have o3 := ctq_or (P := fun b => (∃ v u, v < 6 ∧ s ≤ u ∧ u < s + K ∧ LSa τ A ρ B v u b) ∨ (∃ v u, v < 6 ∧ s ≤ u ∧ u < s + K ∧ (∃ b, Z b ∧ ACC τ A ρ B u b) ∧ AcA τ A ρ B v u b)) (Q := fun b => ∃ v u, v < 6 ∧ s ≤ u ∧ u < s + K ∧ LSa τ A ρ B v u b) (R := fun b => ∃ v u, v < 6 ∧ s ≤ u ∧ u < s + K ∧ (∃ b, Z b ∧ ACC τ A ρ B u b) ∧ AcA τ A ρ B v u b) (s := s - 447) m (fun b _ _ q => q)
  omega

