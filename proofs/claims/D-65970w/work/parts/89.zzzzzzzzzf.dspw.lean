-- the same with the freshness of the very worker: names that are read as FETCH while their worker is not fresh (FRw)
-- FETCHes that lie on the line at d0 and are read before d1
def FDw (L s0 : Nat) (τ : Nat → qS) (A : Nat → List (Ms × Nat × Nat)) (ρ : Nat → qS × qS × qS) (B : Nat → List (Ms × Nat × Nat) × List (Ms × Nat × Nat) × List (Ms × Nat × Nat)) (d0 d1 b : Nat) : Prop := F5b A d0 b ∧ ∃ φ i, d0 ≤ φ ∧ φ < d1 ∧ i < 3 ∧ rdk τ A ρ B 5 φ i b ∧ ¬ ∃ κ, FRw L s0 τ A B ((b - 1) % 7) κ φ
theorem FDw_ac {L s0 : Nat} {τ : Nat → qS} (hR : RNN L τ) (hs : ∀ t, t ≤ 7 * L → psame (τ 0) (τ t)) {A : Nat → List (Ms × Nat × Nat)} {ρ : Nat → qS × qS × qS} {B : Nat → List (Ms × Nat × Nat) × List (Ms × Nat × Nat) × List (Ms × Nat × Nat)} (h : ANC L s0 τ A ρ B) (h7 : 1000 ≤ s0) {d0 d1 : Nat} (h1 : s0 + 900 ≤ d0) (h2 : d1 + 1002 ≤ 7 * L) (dd : d0 ≤ d1) {s K : Nat} (k1 : s0 ≤ s) (k2 : s + K ≤ 7 * L) : ctq (fun u => ∃ b, FDw L s0 τ A ρ B d0 d1 b ∧ ACC τ A ρ B u b) s K ≤ ctq (fun b => PNk L s0 τ A ρ B b ∧ FDw L s0 τ A ρ B d0 d1 b) (d0 - 223) 224 + 6 := by
  obtain ⟨br, -⟩ := F5n hR h.1 (by omega) (t := d0) (by omega) (by omega)
  have a := AccN h (Z := FDw L s0 τ A ρ B d0 d1) (s := s) (K := K) (x := d0 - 223) (m := 224) (by omega) k1 k2 (fun b q => by
    have := br b q.1
    omega)
  have o6 := OWs_6 hR h (s := d0) (x := d0 - 223) (by omega) 224
  have o := ctq_or (P := fun b => FDw L s0 τ A ρ B d0 d1 b ∧ ∃ u, s ≤ u ∧ u < s + K ∧ ACC τ A ρ B u b) (Q := fun b => PNk L s0 τ A ρ B b ∧ FDw L s0 τ A ρ B d0 d1 b) (R := OWs L τ A ρ B d0) (s := d0 - 223) 224 (fun b b1 b2 ⟨q, u, u1, u2, ha⟩ => by
    obtain ⟨⟨y, y1, y5, yb⟩, φ, i, f1, f2, hi, hr, nf⟩ := q
    obtain ⟨q1, q2⟩ := br b ⟨y, y1, y5, yb⟩
    have pos : 1 ≤ tbc b (A d0) := by
      unfold tbc
      exact List.countP_pos_iff.mpr ⟨y, y1, by rw [(tokb_i y).mpr (Or.inl y5), decide_eq_true yb]; rfl⟩
    have late : ∀ T', s0 ≤ T' → T' < 7 * L → ACC τ A ρ B T' b → d0 ≤ T' := fun T' a1 a2 a3 => by
      apply Classical.byContradiction
      intro m
      have := (ANC_once h (by omega : s0 < b) a1 a2 a3).2.2 d0 (by omega) (by omega)
      omega
    obtain ⟨v, v6, v2, v3, -⟩ := ACC_tk h (by omega : s0 < b) (by omega : s0 ≤ u) (by omega) ha
    rcases DKw hR hs h h7 (by omega) (by omega) hi hr (by omega : s0 ≤ u) (by omega) ha with g | g | ⟨κ, g, -⟩
    · obtain ⟨t', a1, a2, a3, a4⟩ := g
      exact Or.inr ⟨q2, t', late t' a1 a2 a3, a2, a3, a4⟩
    · exact Or.inl ⟨g, ⟨y, y1, y5, yb⟩, φ, i, f1, f2, hi, hr, nf⟩
    · exact absurd ⟨κ, by rw [v2, ← v3]; exact g⟩ nf)
  omega
theorem FDw_tn {L s0 : Nat} {τ : Nat → qS} (hR : RNN L τ) {A : Nat → List (Ms × Nat × Nat)} {ρ : Nat → qS × qS × qS} {B : Nat → List (Ms × Nat × Nat) × List (Ms × Nat × Nat) × List (Ms × Nat × Nat)} (h : ANC L s0 τ A ρ B) (h7 : 1000 ≤ s0) {d0 d1 s K : Nat} (h1 : s0 + 900 ≤ d0) (ys : s ≤ d0) (yK : d0 + 448 < s + K) (yL : s + K ≤ 7 * L) : ctq (fun b => FDw L s0 τ A ρ B d0 d1 b ∧ (TOb τ ((b - 1) % 7) b ∨ NLb L s0 τ A ρ B s K b)) (d0 - 223) 224 ≤ 24 := by
  have t := TNL hR h (by omega) (s := s) (K := K) (y := d0) (x := d0 - 223) (n := 224) (k := 3) (by omega) (by omega) (by omega) ys (by omega) yK yL
  have m := ctq_mo (P := fun b => FDw L s0 τ A ρ B d0 d1 b ∧ (TOb τ ((b - 1) % 7) b ∨ NLb L s0 τ A ρ B s K b)) (Q := fun b => (TOb τ ((b - 1) % 7) b ∨ NLb L s0 τ A ρ B s K b) ∧ 1 ≤ tbc b (A d0)) (s := d0 - 223) 224 (fun b _ _ ⟨⟨⟨y, y1, y5, yb⟩, _⟩, q⟩ => ⟨q, by
    unfold tbc
    exact List.countP_pos_iff.mpr ⟨y, y1, by rw [(tokb_i y).mpr (Or.inl y5), decide_eq_true yb]; rfl⟩⟩)
  omega
-- DSP: A DEAD STRETCH [d0, d1) PAYS: names of FETCHes read in it less 30 and pending ones
theorem DSPw {L s0 : Nat} {τ : Nat → qS} (hR : RNN L τ) (hs : ∀ t, t ≤ 7 * L → psame (τ 0) (τ t)) {A : Nat → List (Ms × Nat × Nat)} {ρ : Nat → qS × qS × qS} {B : Nat → List (Ms × Nat × Nat) × List (Ms × Nat × Nat) × List (Ms × Nat × Nat)} (h : ANC L s0 τ A ρ B) (h7 : 1000 ≤ s0) {d0 d1 : Nat} (h1 : s0 + 900 ≤ d0) (h2 : d1 + 1002 ≤ 7 * L) (dd : d0 ≤ d1) {s K : Nat} (k1 : s0 + 449 ≤ s) (k3 : s ≤ d0) (k4 : d0 + 448 < s + K) (k2 : s + K ≤ 7 * L) : ctq (fun u => ∃ b, FDw L s0 τ A ρ B d0 d1 b ∧ ACC τ A ρ B u b) s K + ctq (fun b => FDw L s0 τ A ρ B d0 d1 b ∧ (TOb τ ((b - 1) % 7) b ∨ NLb L s0 τ A ρ B s K b)) (s - 448) K ≤ ctq (fun b => PNk L s0 τ A ρ B b ∧ FDw L s0 τ A ρ B d0 d1 b) (d0 - 223) 224 + 30 ∧ ctq (FDw L s0 τ A ρ B d0 d1) (d0 - 223) 224 ≤ ctq (FDw L s0 τ A ρ B d0 d1) (s - 448) K := by
  obtain ⟨br, -⟩ := F5n hR h.1 (by omega) (t := d0) (by omega) (by omega)
  have a := FDw_ac hR hs h h7 h1 h2 dd (s := s) (K := K) (by omega) k2
  have t := FDw_tn hR h h7 (d0 := d0) (d1 := d1) (s := s) (K := K) h1 k3 k4 k2
  have r := ctq_rg (P := fun b => FDw L s0 τ A ρ B d0 d1 b ∧ (TOb τ ((b - 1) % 7) b ∨ NLb L s0 τ A ρ B s K b)) (x := d0 - 223) (m := 224) (x' := s - 448) (m' := K) (fun b q => by
    have := br b q.1.1
    omega)
  have i := ctq_in (P := FDw L s0 τ A ρ B d0 d1) (x := d0 - 223) (m := 224) (x' := s - 448) (m' := K) (by omega) (by omega)
  exact ⟨by omega, i⟩

