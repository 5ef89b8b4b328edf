def LRP (V Q : Nat) : Prop := ∀ τ : Nat → qS, RNN V τ → (∀ t, t ≤ 7 * V → psame (τ 0) (τ t)) → ∃ a, a + Q ≤ V ∧ ∀ t, 7 * a ≤ t → t < 7 * (a + Q) → t % 7 < 6 → ¬ LKs (τ (t + 1)) ((t % 7 : Nat) : Int)
theorem np_lr {V Q R : Nat} (hR : R = 4400000100) (hQ : 32 + 39 * (4445 * R) ≤ Q) (h : LRP V Q) : NP V := fun τ h1 h2 => by
  obtain ⟨a, a1, a2⟩ := h τ h1 h2
  refine QW (L := Q) (V := R) (τ := fun t => τ (7 * a + t)) (RNN_sh h1 a1) (fun t ht => ?_) (fun t t1 t2 => ?_) hR hQ
  · have p0 := h2 (7 * a) (by omega)
    have p1 := h2 (7 * a + t) (by omega)
    refine ⟨fun i hi => ?_, fun i hi => ?_, fun i hi => ?_, ?_⟩
    · show kb (τ (7 * a + t)) i = kb (τ (7 * a + 0)) i
      rw [p1.1 i hi, Nat.add_zero, p0.1 i hi]
    · show eb (τ (7 * a + t)) i = eb (τ (7 * a + 0)) i
      rw [p1.2.1 i hi, Nat.add_zero, p0.2.1 i hi]
    · show db (τ (7 * a + t)) i = db (τ (7 * a + 0)) i
      rw [p1.2.2.1 i hi, Nat.add_zero, p0.2.2.1 i hi]
    · show τ (7 * a + t) 31 = τ (7 * a + 0) 31
      rw [p1.2.2.2, Nat.add_zero, p0.2.2.2]
  · have := a2 (7 * a + t) (by omega) (by omega) (by omega)
    rw [show (7 * a + t) % 7 = t % 7 by omega] at this
    exact this
noncomputable def lkc (τ : Nat → qS) : Nat → Nat
  | 0 => 0
  | t + 1 => lkc τ t + (@ite Nat (t % 7 < 6 ∧ LKs (τ (t + 1)) ((t % 7 : Nat) : Int)) (Classical.propDecidable _) 1 0)
theorem lkc_m (τ : Nat → qS) (a : Nat) : ∀ k, lkc τ a ≤ lkc τ (a + k)
  | 0 => Nat.le_refl _
  | k + 1 => by
    have := lkc_m τ a k
    rw [show a + (k + 1) = a + k + 1 by omega]
    simp only [lkc]
    omega
theorem lkc_e {τ : Nat → qS} {a b : Nat} (h : lkc τ b = lkc τ a) {t : Nat} (h1 : a ≤ t) (h2 : t < b) (h3 : t % 7 < 6) : ¬ LKs (τ (t + 1)) ((t % 7 : Nat) : Int) := fun hl => by
  have m1 := lkc_m τ a (t - a)
  have m2 := lkc_m τ (t + 1) (b - (t + 1))
  rw [show a + (t - a) = t by omega] at m1
  rw [show t + 1 + (b - (t + 1)) = b by omega] at m2
  have e : lkc τ (t + 1) = lkc τ t + 1 := by
    simp only [lkc]
    rw [if_pos ⟨h3, hl⟩]
  omega
theorem lr_b {V Q B : Nat} (hV : (B + 1) * Q ≤ V) (h : ∀ τ : Nat → qS, RNN V τ → (∀ t, t ≤ 7 * V → psame (τ 0) (τ t)) → lkc τ (7 * V) ≤ B) : LRP V Q := fun τ h1 h2 => by
  have hb := h τ h1 h2
  have mo : ∀ a, a ≤ B → lkc τ (7 * (a * Q)) ≤ lkc τ (7 * ((a + 1) * Q)) := fun a ha => by
    have e : (a + 1) * Q = a * Q + Q := Nat.succ_mul a Q
    have := lkc_m τ (7 * (a * Q)) (7 * Q)
    rw [show 7 * (a * Q) + 7 * Q = 7 * ((a + 1) * Q) by omega] at this
    exact this
  have hB : lkc τ (7 * ((B + 1) * Q)) ≤ lkc τ (7 * 0) + B := by
    have := lkc_m τ (7 * ((B + 1) * Q)) (7 * V - 7 * ((B + 1) * Q))
    rw [show 7 * ((B + 1) * Q) + (7 * V - 7 * ((B + 1) * Q)) = 7 * V by omega] at this
    omega
  obtain ⟨a, a1, a2⟩ := pigeon (V := Q) (fun n => lkc τ (7 * n)) B mo hB
  have l : (a + 1) * Q ≤ (B + 1) * Q := Nat.mul_le_mul_right Q (by omega)
  have e : (a + 1) * Q = a * Q + Q := Nat.succ_mul a Q
  refine ⟨a * Q, by omega, fun t t1 t2 t3 => lkc_e a2 t1 (by omega) t3⟩
theorem vc_lk {B : Nat} (h : ∀ (V : Nat) (τ : Nat → qS), RNN V τ → (∀ t, t ≤ 7 * V → psame (τ 0) (τ t)) → lkc τ (7 * V) ≤ B) : Claimed_1_1 ∧ Claimed_1_2 := by
  obtain ⟨R, hR⟩ : ∃ R : Nat, R = 4400000100 := ⟨_, rfl⟩
  exact vc_np (V := (B + 1) * (32 + 39 * (4445 * R))) (np_lr hR (Nat.le_refl _) (lr_b (B := B) (Nat.le_refl _) (h _)))

