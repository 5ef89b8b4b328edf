-- acceptance ticks are at most accepted names
theorem AccN {L s0 : Nat} {τ : Nat → qS} {A : Nat → List (Ms × Nat × Nat)} {ρ : Nat → qS × qS × qS} {B : Nat → List (Ms × Nat × Nat) × List (Ms × Nat × Nat) × List (Ms × Nat × Nat)} (h : ANC L s0 τ A ρ B) {Z : Nat → Prop} {s K x m : Nat} (hx : s0 < x) (h1 : s0 ≤ s) (h2 : s + K ≤ 7 * L) (hZ : ∀ b, Z b → x ≤ b ∧ b < x + m) : ctq (fun u => ∃ b, Z b ∧ ACC τ A ρ B u b) s K ≤ ctq (fun b => Z b ∧ ∃ u, s ≤ u ∧ u < s + K ∧ ACC τ A ρ B u b) x m := by
  have pick : ∀ u, ∃ b, (∃ b, Z b ∧ ACC τ A ρ B u b) → Z b ∧ ACC τ A ρ B u b := fun u => by
    by_cases c : ∃ b, Z b ∧ ACC τ A ρ B u b
    · obtain ⟨b, hb⟩ := c; exact ⟨b, fun _ => hb⟩
    · exact ⟨0, fun q => absurd q c⟩
  refine ctq_inj (f := fun u => Classical.choose (pick u)) K _ (fun u u1 u2 p => ?_) (fun u u' u1 u2 u1' u2' p p' e => ?_)
  · have q := Classical.choose_spec (pick u) p
    have r := hZ _ q.1
    exact ⟨r.1, r.2, q.1, u, u1, u2, q.2⟩
  · have q := Classical.choose_spec (pick u) p
    have q' := Classical.choose_spec (pick u') p'
    have e : Classical.choose (pick u) = Classical.choose (pick u') := e
    rw [← e] at q'
    have r := hZ _ q.1
    exact acc_1 h (by omega) (by omega) (by omega) (by omega) (by omega) q.2 q'.2
-- FETCHes that lie on the line at d0 and are read before d1
def FDz (τ : Nat → qS) (A : Nat → List (Ms × Nat × Nat)) (ρ : Nat → qS × qS × qS) (B : Nat → List (Ms × Nat × Nat) × List (Ms × Nat × Nat) × List (Ms × Nat × Nat)) (d0 d1 b : Nat) : Prop := F5b A d0 b ∧ ∃ φ i, d0 ≤ φ ∧ φ < d1 ∧ i < 3 ∧ rdk τ A ρ B 5 φ i b
theorem FD_ac {L s0 : Nat} {τ : Nat → qS} (hR : RNN L τ) (hs : ∀ t, t ≤ 7 * L → psame (τ 0) (τ t)) {A : Nat → List (Ms × Nat × Nat)} {ρ : Nat → qS × qS × qS} {B : Nat → List (Ms × Nat × Nat) × List (Ms × Nat × Nat) × List (Ms × Nat × Nat)} (h : ANC L s0 τ A ρ B) (h7 : 224 ≤ s0) {d0 d1 : Nat} (h1 : s0 + 900 ≤ d0) (h2 : d1 + 224 ≤ 7 * L) (dd : d0 ≤ d1) (hd : ∀ φ, d0 ≤ φ → φ < d1 → ¬ FRk L s0 τ A B φ) {s K : Nat} (k1 : s0 ≤ s) (k2 : s + K ≤ 7 * L) : ctq (fun u => ∃ b, FDz τ A ρ B d0 d1 b ∧ ACC τ A ρ B u b) s K ≤ ctq (fun b => PNk L s0 τ A ρ B b ∧ FDz τ A ρ B d0 d1 b) (d0 - 223) 224 + 6 := by
  obtain ⟨br, -⟩ := F5n hR h.1 h7 (t := d0) (by omega) (by omega)
  have a := AccN h (Z := FDz τ A ρ B d0 d1) (s := s) (K := K) (x := d0 - 223) (m := 224) (by omega) k1 k2 (fun b q => by
    have := br b q.1
    omega)
  have o6 := OWs_6 hR h (s := d0) (x := d0 - 223) (by omega) 224
  have o := ctq_or (P := fun b => FDz τ A ρ B d0 d1 b ∧ ∃ u, s ≤ u ∧ u < s + K ∧ ACC τ A ρ B u b) (Q := fun b => PNk L s0 τ A ρ B b ∧ FDz τ A ρ B d0 d1 b) (R := OWs L τ A ρ B d0) (s := d0 - 223) 224 (fun b b1 b2 ⟨q, u, u1, u2, ha⟩ => by
    obtain ⟨⟨y, y1, y5, yb⟩, φ, i, f1, f2, hi, hr⟩ := q
    obtain ⟨q1, q2⟩ := br b ⟨y, y1, y5, yb⟩
    have pos : 1 ≤ tbc b (A d0) := by
      unfold tbc
      exact List.countP_pos_iff.mpr ⟨y, y1, by rw [(tokb_i y).mpr (Or.inl y5), decide_eq_true yb]; rfl⟩
    have late : ∀ T', s0 ≤ T' → T' < 7 * L → ACC τ A ρ B T' b → d0 ≤ T' := fun T' a1 a2 a3 => by
      apply Classical.byContradiction
      intro m
      have := (ANC_once h (by omega : s0 < b) a1 a2 a3).2.2 d0 (by omega) (by omega)
      omega
    have na : ¬ NAb L s0 τ A ρ B b := fun q => q u (by omega) (by omega) ha
    rcases DKn hR hs h h7 (by omega) (by omega) hi hr na (hd φ f1 f2) with g | g
    · obtain ⟨t', a1, a2, a3, a4⟩ := g
      exact Or.inr ⟨q2, t', late t' a1 a2 a3, a2, a3, a4⟩
    · exact Or.inl ⟨g, ⟨y, y1, y5, yb⟩, φ, i, f1, f2, hi, hr⟩)
  omega
theorem FD_tn {L s0 : Nat} {τ : Nat → qS} (hR : RNN L τ) {A : Nat → List (Ms × Nat × Nat)} {ρ : Nat → qS × qS × qS} {B : Nat → List (Ms × Nat × Nat) × List (Ms × Nat × Nat) × List (Ms × Nat × Nat)} (h : ANC L s0 τ A ρ B) (h7 : 224 ≤ s0) {d0 d1 s K : Nat} (h1 : s0 + 900 ≤ d0) (ys : s ≤ d0) (yK : d0 + 448 < s + K) (yL : s + K ≤ 7 * L) : ctq (fun b => FDz τ A ρ B d0 d1 b ∧ (TOb τ ((b - 1) % 7) b ∨ NLb L s0 τ A ρ B s K b)) (d0 - 223) 224 ≤ 24 := by
  have t := TNL hR h h7 (s := s) (K := K) (y := d0) (x := d0 - 223) (n := 224) (k := 3) (by omega) (by omega) (by omega) ys (by omega) yK yL
  have m := ctq_mo (P := fun b => FDz τ A ρ B d0 d1 b ∧ (TOb τ ((b - 1) % 7) b ∨ NLb L s0 τ A ρ B s K b)) (Q := fun b => (TOb τ ((b - 1) % 7) b ∨ NLb L s0 τ A ρ B s K b) ∧ 1 ≤ tbc b (A d0)) (s := d0 - 223) 224 (fun b _ _ ⟨⟨⟨y, y1, y5, yb⟩, _⟩, q⟩ => ⟨q, by
    unfold tbc
    exact List.countP_pos_iff.mpr ⟨y, y1, by rw [(tokb_i y).mpr (Or.inl y5), decide_eq_true yb]; rfl⟩⟩)
  omega
-- a count in a range that holds all names is the count in a smaller one
theorem ctq_rg {P : Nat → Prop} {x m x' m' : Nat} (h : ∀ b, P b → x ≤ b ∧ b < x + m) : ctq P x' m' ≤ ctq P x m :=
  ctq_inj (f := fun b => b) m' P (fun b _ _ p => ⟨(h b p).1, (h b p).2, p⟩) (fun _ _ _ _ _ _ _ _ e => e)
-- DSP: A DEAD STRETCH [d0, d1) PAYS: names of FETCHes read in it less 30 and pending ones
theorem DSP {L s0 : Nat} {τ : Nat → qS} (hR : RNN L τ) (hs : ∀ t, t ≤ 7 * L → psame (τ 0) (τ t)) {A : Nat → List (Ms × Nat × Nat)} {ρ : Nat → qS × qS × qS} {B : Nat → List (Ms × Nat × Nat) × List (Ms × Nat × Nat) × List (Ms × Nat × Nat)} (h : ANC L s0 τ A ρ B) (h7 : 224 ≤ s0) {d0 d1 : Nat} (h1 : s0 + 900 ≤ d0) (h2 : d1 + 224 ≤ 7 * L) (dd : d0 ≤ d1) (hd : ∀ φ, d0 ≤ φ → φ < d1 → ¬ FRk L s0 τ A B φ) {s K : Nat} (k1 : s0 + 449 ≤ s) (k3 : s ≤ d0) (k4 : d0 + 448 < s + K) (k2 : s + K ≤ 7 * L) : ctq (fun u => ∃ b, FDz τ A ρ B d0 d1 b ∧ ACC τ A ρ B u b) s K + ctq (fun b => FDz τ A ρ B d0 d1 b ∧ (TOb τ ((b - 1) % 7) b ∨ NLb L s0 τ A ρ B s K b)) (s - 448) K ≤ ctq (fun b => PNk L s0 τ A ρ B b ∧ FDz τ A ρ B d0 d1 b) (d0 - 223) 224 + 30 ∧ ctq (FDz τ A ρ B d0 d1) (d0 - 223) 224 ≤ ctq (FDz τ A ρ B d0 d1) (s - 448) K := by
  obtain ⟨br, -⟩ := F5n hR h.1 h7 (t := d0) (by omega) (by omega)
  have a := FD_ac hR hs h h7 h1 h2 dd hd (s := s) (K := K) (by omega) k2
  have t := FD_tn hR h h7 (d0 := d0) (d1 := d1) (s := s) (K := K) h1 k3 k4 k2
  have r := ctq_rg (P := fun b => FDz τ A ρ B d0 d1 b ∧ (TOb τ ((b - 1) % 7) b ∨ NLb L s0 τ A ρ B s K b)) (x := d0 - 223) (m := 224) (x' := s - 448) (m' := K) (fun b q => by
    have := br b q.1.1
    omega)
  have i := ctq_in (P := FDz τ A ρ B d0 d1) (x := d0 - 223) (m := 224) (x' := s - 448) (m' := K) (by omega) (by omega)
  exact ⟨by omega, i⟩

