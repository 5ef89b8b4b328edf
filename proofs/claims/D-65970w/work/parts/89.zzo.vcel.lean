def EF (τ s1 s2 : Nat → qS) (t : Nat) : Prop := t % 7 = 6 ∧ ¬ ((∀ b, isdn (clk (τ t)) b ≠ 0 → isdn (s1 t) b ≠ 0) ∧ (∀ b, isdn (s1 t) b ≠ 0 → isdn (s2 t) b ≠ 0) ∧ ∀ b, isdn (s2 t) b ≠ 0 → isdn (τ (t + 1)) b ≠ 0)
noncomputable def elc (τ s1 s2 : Nat → qS) : Nat → Nat
  | 0 => 0
  | t + 1 => elc τ s1 s2 t + (@ite Nat (EF τ s1 s2 t) (Classical.propDecidable _) 1 0)
theorem elc_m (τ s1 s2 : Nat → qS) (a : Nat) : ∀ k, elc τ s1 s2 a ≤ elc τ s1 s2 (a + k)
  | 0 => Nat.le_refl _
  | k + 1 => by
    have := elc_m τ s1 s2 a k
    rw [show a + (k + 1) = a + k + 1 by omega]
    simp only [elc]
    omega
theorem elc_e {τ s1 s2 : Nat → qS} {a b : Nat} (h : elc τ s1 s2 b = elc τ s1 s2 a) {t : Nat} (h1 : a ≤ t) (h2 : t < b) : ¬ EF τ s1 s2 t := fun hl => by
  have m1 := elc_m τ s1 s2 a (t - a)
  have m2 := elc_m τ s1 s2 (t + 1) (b - (t + 1))
  rw [show a + (t - a) = t by omega] at m1
  rw [show t + 1 + (b - (t + 1)) = b by omega] at m2
  have e : elc τ s1 s2 (t + 1) = elc τ s1 s2 t + 1 := by
    simp only [elc]
    rw [if_pos hl]
  omega
theorem np_el {V Q R B : Nat} (hR : R = 4400000100) (hQ : 32 + 39 * (4445 * R) ≤ Q) (hV : (B + 1) * Q ≤ V) (h : ∀ (τ s1 s2 : Nat → qS), RNN V τ → CHN V τ s1 s2 → (∀ t, t ≤ 7 * V → psame (τ 0) (τ t)) → elc τ s1 s2 (7 * V) ≤ B) : NP V := fun τ h1 h2 => by
  obtain ⟨s1, s2, hc⟩ := CHN_ex h1
  have hb := h τ s1 s2 h1 hc h2
  have mo : ∀ a, a ≤ B → elc τ s1 s2 (7 * (a * Q)) ≤ elc τ s1 s2 (7 * ((a + 1) * Q)) := fun a ha => by
    have e : (a + 1) * Q = a * Q + Q := Nat.succ_mul a Q
    have := elc_m τ s1 s2 (7 * (a * Q)) (7 * Q)
    rw [show 7 * (a * Q) + 7 * Q = 7 * ((a + 1) * Q) by omega] at this
    exact this
  have hB : elc τ s1 s2 (7 * ((B + 1) * Q)) ≤ elc τ s1 s2 (7 * 0) + B := by
    have := elc_m τ s1 s2 (7 * ((B + 1) * Q)) (7 * V - 7 * ((B + 1) * Q))
    rw [show 7 * ((B + 1) * Q) + (7 * V - 7 * ((B + 1) * Q)) = 7 * V by omega] at this
    omega
  obtain ⟨p, p1, p2⟩ := pigeon (V := Q) (fun n => elc τ s1 s2 (7 * n)) B mo hB
  have l : (p + 1) * Q ≤ (B + 1) * Q := Nat.mul_le_mul_right Q (by omega)
  have e : (p + 1) * Q = p * Q + Q := Nat.succ_mul p Q
  obtain ⟨a, ha⟩ : ∃ a, a = p * Q := ⟨_, rfl⟩
  rw [e, ← ha] at p2
  have a1 : a + Q ≤ V := by omega
  refine SQW (L := Q) (V := R) (τ := fun t => τ (7 * a + t)) (s1 := fun t => s1 (7 * a + t)) (s2 := fun t => s2 (7 * a + t)) (RNN_sh h1 a1) (fun t ht => ?_) (fun t t1 t2 => ?_) (fun t t1 t2 => ?_) hR hQ
  · have p0 := h2 (7 * a) (by omega)
    have p1 := h2 (7 * a + t) (by omega)
    refine ⟨fun i hi => ?_, fun i hi => ?_, fun i hi => ?_, ?_⟩
    · show kb (τ (7 * a + t)) i = kb (τ (7 * a + 0)) i
      rw [p1.1 i hi, Nat.add_zero, p0.1 i hi]
    · show eb (τ (7 * a + t)) i = eb (τ (7 * a + 0)) i
      rw [p1.2.1 i hi, Nat.add_zero, p0.2.1 i hi]
    · show db (τ (7 * a + t)) i = db (τ (7 * a + 0)) i
      rw [p1.2.2.1 i hi, Nat.add_zero, p0.2.2.1 i hi]
    · show τ (7 * a + t) 31 = τ (7 * a + 0) 31
      rw [p1.2.2.2, Nat.add_zero, p0.2.2.2]
  · exact hc (7 * a + t) (by omega) (by omega)
  · have ne := elc_e p2 (t := 7 * a + t) (by omega) (by omega)
    apply Classical.byContradiction
    intro hq
    exact ne ⟨by omega, hq⟩
theorem vc_el {B : Nat} (h : ∀ (V : Nat) (τ s1 s2 : Nat → qS), RNN V τ → CHN V τ s1 s2 → (∀ t, t ≤ 7 * V → psame (τ 0) (τ t)) → elc τ s1 s2 (7 * V) ≤ B) : Claimed_1_1 ∧ Claimed_1_2 := by
  obtain ⟨R, hR⟩ : ∃ R : Nat, R = 4400000100 := ⟨_, rfl⟩
  exact vc_np (V := (B + 1) * (32 + 39 * (4445 * R))) (np_el hR (Nat.le_refl _) (Nat.le_refl _) (h _))

