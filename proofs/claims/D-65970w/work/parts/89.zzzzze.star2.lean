theorem T4x {L s0 : Nat} {τ : Nat → qS} (hR : RNN L τ) {A : Nat → List (Ms × Nat × Nat)} {ρ : Nat → qS × qS × qS} {B : Nat → List (Ms × Nat × Nat) × List (Ms × Nat × Nat) × List (Ms × Nat × Nat)} (h : ANC L s0 τ A ρ B) (h7 : 224 ≤ s0) {s n : Nat} (h1 : s0 + 900 ≤ s) (h2 : s + n ≤ 7 * L) (C : Nat → Prop) : ctq (fun b => ∃ t, s ≤ t ∧ t < s + n ∧ C t ∧ ACC τ A ρ B t b) (s - 448) (n + 448) + smq (ffq τ) s n + ctq (AXt τ A ρ B) s n ≤ ctq (fun t => C t ∧ ∃ b, ACC τ A ρ B t b) s n + ctq (fun b => ¬ NAb L s0 τ A ρ B b) (s - 448) (n + 448) := by
  have rng : ∀ {t b}, s ≤ t → t < s + n → ACC τ A ρ B t b → s - 448 ≤ b ∧ b < s - 448 + (n + 448) ∧ s0 < b := fun {t b} t1 t2 ha => by
    obtain ⟨i, hi, hr⟩ := ACC_rd ha
    have := rd6_b hR h h7 (by omega) (by omega) hi hr
    omega
  obtain ⟨r, hr⟩ : ∃ r : Nat → Nat, ∀ t, (∃ b, ACC τ A ρ B t b) → ACC τ A ρ B t (r t) := by
    have : ∀ t, ∃ b, (∃ b, ACC τ A ρ B t b) → ACC τ A ρ B t b := fun t => by
      by_cases c : ∃ b, ACC τ A ρ B t b
      · obtain ⟨b, hb⟩ := c; exact ⟨b, fun _ => hb⟩
      · exact ⟨0, fun q => absurd q c⟩
    exact ⟨fun t => Classical.choose (this t), fun t => Classical.choose_spec (this t)⟩
  have a := ctq_2 (P := fun b => ∃ t, s ≤ t ∧ t < s + n ∧ C t ∧ ACC τ A ρ B t b) (Q := fun b => ∃ t, s ≤ t ∧ t < s + n ∧ ¬ C t ∧ ACC τ A ρ B t b ∧ b = r t) (R := fun b => ¬ NAb L s0 τ A ρ B b) (s := s - 448) (n + 448) (fun b q1 q2 => ⟨fun ⟨t, t1, t2, _, ha⟩ q => q t (by omega) (by omega) ha, fun ⟨t, t1, t2, _, ha, _⟩ q => q t (by omega) (by omega) ha, fun ⟨⟨t, t1, t2, hc, ha⟩, t', t1', t2', hc', ha', _⟩ => by
    have e := acc_1 h (rng t1 t2 ha).2.2 (by omega) (by omega) (by omega) (by omega) ha ha'
    subst e
    exact hc' hc⟩)
  have c := ctq_inj (P := fun t => (∃ b, ACC τ A ρ B t b) ∧ ¬ C t) (f := r) (s := s) (a := s - 448) (m := n + 448) n (fun b => ∃ t, s ≤ t ∧ t < s + n ∧ ¬ C t ∧ ACC τ A ρ B t b ∧ b = r t) (fun t t1 t2 q => by
    have ha := hr t q.1
    have g := rng t1 t2 ha
    exact ⟨g.1, g.2.1, t, t1, t2, q.2, ha, rfl⟩) (fun t t' t1 t2 t1' t2' q q' e => by
    have ha := hr t q.1
    have ha' := hr t' q'.1
    rw [← e] at ha'
    exact acc_1 h (rng t1 t2 ha).2.2 (by omega) (by omega) (by omega) (by omega) ha ha')
  have d := ctq_add (P := fun t => ∃ b, ACC τ A ρ B t b) (Q := C) (s := s) n
  have d' := ctq_mo (P := fun t => (∃ b, ACC τ A ρ B t b) ∧ C t) (Q := fun t => C t ∧ ∃ b, ACC τ A ρ B t b) (s := s) n (fun t _ _ q => ⟨q.2, q.1⟩)
  have e0 := ctq_2 (P := fun t => ffq τ t = 1) (Q := AXt τ A ρ B) (R := fun t => ∃ b, ACC τ A ρ B t b) (s := s) n (fun t t1 t2 => ⟨fun q => ANC_ff hR h (by omega) (by omega) (by omega) q, fun q => q.1, fun q => q.2.2 q.1⟩)
  have e := ctq_sm (P := fun t => ffq τ t = 1) (f := ffq τ) (s := s) n (fun t t1 t2 => by
    have g := gq_b τ t
    have g' := gsq_b τ t
    exact ⟨by unfold ffq; omega, fun q => q⟩)
  omega
-- STAR2: C = chosen full ticks, D = dead chosen full ticks; all sums over n rounds
theorem STAR2 {L s0 : Nat} {τ : Nat → qS} (hR : RNN L τ) {A : Nat → List (Ms × Nat × Nat)} {ρ : Nat → qS × qS × qS} {B : Nat → List (Ms × Nat × Nat) × List (Ms × Nat × Nat) × List (Ms × Nat × Nat)} (h : ANC L s0 τ A ρ B) (h7 : 224 ≤ s0) {C D : Nat → Prop} {r0 n : Nat} (h1 : s0 + 900 ≤ 7 * r0) (h2 : r0 + n ≤ L) (hC : ∀ t, 7 * r0 ≤ t → t < 7 * r0 + 7 * n → C t → t % 7 < 6 ∧ 3 ≤ cn ((t % 7 : Nat) : Int) (ln (τ t))) (hD : ∀ t, 7 * r0 ≤ t → t < 7 * r0 + 7 * n → D t → T1t A t ∧ ¬ FRt L s0 τ A B t) :
    3 * ctq C (7 * r0) (7 * n) + 6 * ctq D (7 * r0) (7 * n) + smq (idq τ) (7 * r0) (7 * n) + 9 * smq (gtq τ) (7 * r0) (7 * n) + ctq (AXt τ A ρ B) (7 * r0) (7 * n) + 4 * ctq (fun b => gq τ (b - 1) = 1 ∧ NAb L s0 τ A ρ B b) (7 * r0 - 448) (7 * n + 448)
    ≤ 6 * n + 3 * smq (gsq τ) (7 * r0) (7 * n) + 2 * ctq (fun u => gtq τ u = 1 ∧ OWb L s0 τ A ρ B (u - 90)) (7 * r0) (7 * n)
      + (ctq (RK τ A ρ B C (fun _ _ => True) 2 0) (7 * r0) (7 * n) + ctq (RK τ A ρ B C (fun _ _ => True) 2 1) (7 * r0) (7 * n) + ctq (RK τ A ρ B C (fun _ _ => True) 2 2) (7 * r0) (7 * n))
      + 2 * (ctq (RK τ A ρ B D (fun _ _ => True) 2 0) (7 * r0) (7 * n) + ctq (RK τ A ρ B D (fun _ _ => True) 2 1) (7 * r0) (7 * n) + ctq (RK τ A ρ B D (fun _ _ => True) 2 2) (7 * r0) (7 * n))
      + ctq (fun t => C t ∧ ∃ b, ACC τ A ρ B t b) (7 * r0) (7 * n) + 2 * ctq (fun t => D t ∧ ∃ b, ACC τ A ρ B t b) (7 * r0) (7 * n)
      + (ctq (fun b => NAb L s0 τ A ρ B b ∧ ∃ t i, 7 * r0 ≤ t ∧ t < 7 * r0 + 7 * n ∧ i < 3 ∧ C t ∧ rdk τ A ρ B 6 t i b) (7 * r0 - 448) (7 * n + 448) + ctq (fun b => NAb L s0 τ A ρ B b ∧ ∃ t i, 7 * r0 ≤ t ∧ t < 7 * r0 + 7 * n ∧ i < 3 ∧ C t ∧ rdk τ A ρ B 5 t i b) (7 * r0 - 448) (7 * n + 448))
      + 2 * (ctq (fun b => NAb L s0 τ A ρ B b ∧ ∃ t i, 7 * r0 ≤ t ∧ t < 7 * r0 + 7 * n ∧ i < 3 ∧ D t ∧ rdk τ A ρ B 6 t i b) (7 * r0 - 448) (7 * n + 448) + ctq (fun b => NAb L s0 τ A ρ B b ∧ ∃ t i, 7 * r0 ≤ t ∧ t < 7 * r0 + 7 * n ∧ i < 3 ∧ D t ∧ rdk τ A ρ B 5 t i b) (7 * r0 - 448) (7 * n + 448))
      + 2 * ctq (fun b => PNb L s0 τ A ρ B b ∧ ∃ t i, 7 * r0 ≤ t ∧ t < 7 * r0 + 7 * n ∧ i < 3 ∧ D t ∧ rdk τ A ρ B 5 t i b) (7 * r0 - 448) (7 * n + 448) + 5468 := by
  have a := RDG hR h h7 (D := C) h1 (by omega) hC
  have b := DEADR hR h h7 (D := D) h1 (by omega) (fun t t1 t2 q => ⟨(hD t t1 t2 q).1.1, T1f h.1 (by omega) (by omega) (hD t t1 t2 q).1, (hD t t1 t2 q).2⟩)
  have c := T4x hR h h7 h1 (by omega : 7 * r0 + 7 * n ≤ 7 * L) C
  have d := T4x hR h h7 h1 (by omega : 7 * r0 + 7 * n ≤ 7 * L) D
  have e := T3 h (n := 7 * n) h1
  have f := gq_sum τ (7 * r0) (7 * n)
  have g := LEDX τ (r0 := r0) n
  have m := ctq_mo (P := fun b => ¬ NAb L s0 τ A ρ B b ∧ ∃ t i, 7 * r0 ≤ t ∧ t < 7 * r0 + 7 * n ∧ i < 3 ∧ C t ∧ rdk τ A ρ B 5 t i b) (Q := fun b => ¬ NAb L s0 τ A ρ B b) (s := 7 * r0 - 448) (7 * n + 448) (fun b _ _ q => q.1)
  have o := OWCt hR h h7 (D := D) h1 (by omega : 7 * r0 + 7 * n ≤ 7 * L) (fun t t1 t2 q => (hD t t1 t2 q).1)
  have sl := SLT hR (s := 7 * r0) (k := 7 * n) (by omega) (by omega)
  have sp := ctq_or (P := fun b => (OWb L s0 τ A ρ B b ∨ PNb L s0 τ A ρ B b) ∧ ∃ t i, 7 * r0 ≤ t ∧ t < 7 * r0 + 7 * n ∧ i < 3 ∧ D t ∧ rdk τ A ρ B 5 t i b) (Q := fun b => OWb L s0 τ A ρ B b ∧ ∃ t i, 7 * r0 ≤ t ∧ t < 7 * r0 + 7 * n ∧ i < 3 ∧ D t ∧ rdk τ A ρ B 5 t i b) (R := fun b => PNb L s0 τ A ρ B b ∧ ∃ t i, 7 * r0 ≤ t ∧ t < 7 * r0 + 7 * n ∧ i < 3 ∧ D t ∧ rdk τ A ρ B 5 t i b) (s := 7 * r0 - 448) (7 * n + 448) (fun b _ _ q => by
    rcases q.1 with p | p
    · exact Or.inl ⟨p, q.2⟩
    · exact Or.inr ⟨p, q.2⟩)
  omega

