-- WCL: the window count (F2): letters read in full ticks of a window against the left-behind names at its ends
def FR5 (τ : Nat → qS) (A : Nat → List (Ms × Nat × Nat)) (ρ : Nat → qS × qS × qS) (B : Nat → List (Ms × Nat × Nat) × List (Ms × Nat × Nat) × List (Ms × Nat × Nat)) (C : Nat → Prop) (s n b : Nat) : Prop := ∃ t i, s ≤ t ∧ t < s + n ∧ i < 3 ∧ C t ∧ rdk τ A ρ B 5 t i b
theorem FR5_u {L s0 : Nat} {τ : Nat → qS} (hR : RNN L τ) {A : Nat → List (Ms × Nat × Nat)} {ρ : Nat → qS × qS × qS} {B : Nat → List (Ms × Nat × Nat) × List (Ms × Nat × Nat) × List (Ms × Nat × Nat)} (h : ANC2 L s0 τ A ρ B) (h7 : 224 ≤ s0) {C : Nat → Prop} {s n : Nat} (h1 : s0 + 449 ≤ s) (h2 : s + n ≤ 7 * L) {b u : Nat} (q : FR5 τ A ρ B C s n b) (u1 : s0 ≤ u) (u2 : u < 7 * L) (ha : ACC τ A ρ B u b) : s ≤ u := by
  obtain ⟨t, i, t1, t2, hi, -, hr⟩ := q
  have rb := rd5_b hR h.1 h7 (by omega) (by omega) hi hr
  obtain ⟨φ, j, f1, f2, hj, hf⟩ := RDE hR h h7 (by omega : s0 < b) u1 u2 ha
  have e := (rd_once h.1 (by omega : s0 < b) (Or.inl rfl) (by omega : s0 ≤ t) (by omega) (by omega : s0 ≤ φ) (by omega) hi hj hr hf).1
  omega
theorem FULL5 {L s0 : Nat} {τ : Nat → qS} (hR : RNN L τ) {A : Nat → List (Ms × Nat × Nat)} {ρ : Nat → qS × qS × qS} {B : Nat → List (Ms × Nat × Nat) × List (Ms × Nat × Nat) × List (Ms × Nat × Nat)} (h : ANC L s0 τ A ρ B) (h7 : 224 ≤ s0) {C : Nat → Prop} {s n : Nat} (h1 : s0 + 449 ≤ s) (h2 : s + n ≤ 7 * L) (hC : ∀ t, s ≤ t → t < s + n → C t → t % 7 < 6 ∧ 3 ≤ cn ((t % 7 : Nat) : Int) (ln (τ t))) : 3 * ctq C s n ≤ ctq (RK τ A ρ B C (fun _ _ => True) 2 0) s n + ctq (RK τ A ρ B C (fun _ _ => True) 2 1) s n + ctq (RK τ A ρ B C (fun _ _ => True) 2 2) s n + (ctq (RK τ A ρ B C (fun _ _ => True) 6 0) s n + ctq (RK τ A ρ B C (fun _ _ => True) 6 1) s n + ctq (RK τ A ρ B C (fun _ _ => True) 6 2) s n) + ctq (FR5 τ A ρ B C s n) (s - 447) (n + 447) := by
  have per : ∀ i, i < 3 → ctq C s n ≤ ctq (RK τ A ρ B C (fun _ _ => True) 2 i) s n + (ctq (RK τ A ρ B C (fun _ _ => True) 6 i) s n + ctq (RK τ A ρ B C (fun _ _ => True) 5 i) s n) := fun i hi => by
    have c1 : ctq C s n ≤ ctq (RK τ A ρ B C (fun _ _ => True) 2 i) s n + ctq (fun t => C t ∧ ∃ b, rdk τ A ρ B 5 t i b ∨ rdk τ A ρ B 6 t i b) s n := ctq_or n (fun t t1 t2 hd => by
      obtain ⟨q1, q2⟩ := hC t t1 t2 hd
      obtain ⟨b, hb⟩ := FULL3 hR h (by omega) (by omega) (by omega) q1 q2 hi
      rcases hb with hb | hb
      · exact Or.inl ⟨hd, b, hb, trivial⟩
      · exact Or.inr ⟨hd, b, hb⟩)
    have c2 : ctq (fun t => C t ∧ ∃ b, rdk τ A ρ B 5 t i b ∨ rdk τ A ρ B 6 t i b) s n ≤ ctq (RK τ A ρ B C (fun _ _ => True) 6 i) s n + ctq (RK τ A ρ B C (fun _ _ => True) 5 i) s n := ctq_or n (fun t _ _ ⟨hd, b, hb⟩ => by
      rcases hb with hb | hb
      · exact Or.inr ⟨hd, b, hb, trivial⟩
      · exact Or.inl ⟨hd, b, hb, trivial⟩)
    omega
  have p0 := per 0 (by omega)
  have p1 := per 1 (by omega)
  have p2 := per 2 (by omega)
  have a3 := RKn h (d := C) (P := fun _ _ => True) (Q := FR5 τ A ρ B C s n) (k := 5) (Or.inl rfl) (s := s) (n := n) (a := s - 447) (m := n + 447) (by omega) h2 (fun t i b t1 t2 hi hd hr _ => by
    have q := rd5_b hR h h7 (by omega) (by omega) hi hr
    exact ⟨by omega, by omega, by omega, t, i, t1, t2, hi, hd, hr⟩)
  omega
theorem WCL {L s0 : Nat} {τ : Nat → qS} (hR : RNN L τ) {A : Nat → List (Ms × Nat × Nat)} {ρ : Nat → qS × qS × qS} {B : Nat → List (Ms × Nat × Nat) × List (Ms × Nat × Nat) × List (Ms × Nat × Nat)} (h : ANC2 L s0 τ A ρ B) (h7 : 224 ≤ s0) {C : Nat → Prop} {s n : Nat} (h1 : s0 + 449 ≤ s) (h2 : s + n ≤ 7 * L) (hC : ∀ t, s ≤ t → t < s + n → C t → t % 7 < 6 ∧ 3 ≤ cn ((t % 7 : Nat) : Int) (ln (τ t))) : E6 τ A (s + n) + 3 * ctq C s n ≤ ctq (RK τ A ρ B C (fun _ _ => True) 2 0) s n + ctq (RK τ A ρ B C (fun _ _ => True) 2 1) s n + ctq (RK τ A ρ B C (fun _ _ => True) 2 2) s n + (ctq (RK τ A ρ B C (fun _ _ => True) 6 0) s n + ctq (RK τ A ρ B C (fun _ _ => True) 6 1) s n + ctq (RK τ A ρ B C (fun _ _ => True) 6 2) s n) + ctq (fun u => ∃ b, FR5 τ A ρ B C s n b ∧ ACC τ A ρ B u b) s n + ctq (fun b => FR5 τ A ρ B C s n b ∧ (TOb τ ((b - 1) % 7) b ∨ NLb L s0 τ A ρ B s n b)) (s - 447) (n + 447) + ctq (fun b => FR5 τ A ρ B C s n b ∧ ∃ u, s + n ≤ u ∧ u < 7 * L ∧ ACC τ A ρ B u b) (s - 447) (n + 447) + G6 τ A ρ B s n + E6 τ A s := by
  have f := FULL5 hR h.1 h7 h1 h2 hC
  have sp := ctq_or (P := FR5 τ A ρ B C s n) (Q := fun b => FR5 τ A ρ B C s n b ∧ ∀ u, s0 ≤ u → u < 7 * L → ACC τ A ρ B u b → u < s + n) (R := fun b => FR5 τ A ρ B C s n b ∧ ∃ u, s + n ≤ u ∧ u < 7 * L ∧ ACC τ A ρ B u b) (s := s - 447) (n + 447) (fun b _ _ q => by
    by_cases c : ∃ u, s + n ≤ u ∧ u < 7 * L ∧ ACC τ A ρ B u b
    · exact Or.inr ⟨q, c⟩
    · exact Or.inl ⟨q, fun u u1 u2 ha => by
        apply Classical.byContradiction
        intro nn
        exact c ⟨u, by omega, u2, ha⟩⟩)
  have g := GLE hR h.1 (Z := fun b => FR5 τ A ρ B C s n b ∧ ∀ u, s0 ≤ u → u < 7 * L → ACC τ A ρ B u b → u < s + n) (s := s) (K := n) (m := n + 447) h1 h2 (fun b u _ _ q u1 u2 ha => ⟨FR5_u hR h h7 h1 h2 q.1 u1 u2 ha, q.2 u u1 u2 ha⟩)
  have m1 := ctq_mo (P := fun u => ∃ b, (FR5 τ A ρ B C s n b ∧ ∀ u, s0 ≤ u → u < 7 * L → ACC τ A ρ B u b → u < s + n) ∧ ACC τ A ρ B u b) (Q := fun u => ∃ b, FR5 τ A ρ B C s n b ∧ ACC τ A ρ B u b) (s := s) n (fun u _ _ ⟨b, q, a⟩ => ⟨b, q.1, a⟩)
  have m2 := ctq_mo (P := fun b => (FR5 τ A ρ B C s n b ∧ ∀ u, s0 ≤ u → u < 7 * L → ACC τ A ρ B u b → u < s + n) ∧ (TOb τ ((b - 1) % 7) b ∨ NLb L s0 τ A ρ B s n b)) (Q := fun b => FR5 τ A ρ B C s n b ∧ (TOb τ ((b - 1) % 7) b ∨ NLb L s0 τ A ρ B s n b)) (s := s - 447) (n + 447) (fun b _ _ q => ⟨q.1.1, q.2⟩)
  omega

