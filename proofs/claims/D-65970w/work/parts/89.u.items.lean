theorem gd_le {L : Nat} {τ : Nat → qS} {S : Nat → List Ms} (h : RNN L τ) (hS : SNC L τ S) {b : Int} (hb : 0 ≤ b) (t0 : Nat) : ∀ k, t0 + k ≤ 7 * L → (sns S t0 k).countP (isD (τ 0 31 0) b) + (gk (τ (t0 + k)) b + bk (τ (t0 + k)) b) ≤ gk (τ t0) b + bk (τ t0) b + (sns S t0 k).countP (isG (τ 0 31 0) b)
  | 0, _ => by simp [sns]
  | k + 1, hk => by
    have ih := gd_le h hS hb t0 k (by omega)
    obtain ⟨-, c, -⟩ := hS (t0 + k) (by omega)
    have c' := c b hb
    rw [run_era h (by omega)] at c'
    simp only [sns, List.countP_append]
    rw [show t0 + (k + 1) = t0 + k + 1 by omega]
    omega
theorem bk_6 (σ : qS) (k : Int) : bk σ k ≤ 6 := by
  have h : ∀ v, b1 σ k v ≤ 1 := fun v => by unfold b1; split <;> omega
  have h0 := h 0
  have h1 := h 1
  have h2 := h 2
  have h3 := h 3
  have h4 := h 4
  have h5 := h 5
  unfold bk; omega
theorem itm_2 {σ : qS} {b : Int} : ∀ M : List Ms, M.countP (itm σ b) ≤ M.countP (isD (σ 31 0) b) + M.countP (isG (σ 31 0) b)
  | [] => by simp
  | x :: M => by
    have ih := itm_2 (σ := σ) (b := b) M
    rw [List.countP_cons, List.countP_cons, List.countP_cons]
    by_cases c : itm σ b x = true
    · rw [if_pos c]
      unfold itm at c
      obtain ⟨c1, c2⟩ := of_decide_eq_true c
      rcases c2 with ⟨a1, a2⟩ | ⟨a1, a2⟩
      · have : isD (σ 31 0) b x = true := by unfold isD; exact decide_eq_true ⟨c1, a1, a2⟩
        rw [if_pos this]; omega
      · have : isG (σ 31 0) b x = true := by unfold isG; exact decide_eq_true ⟨c1, a1, a2⟩
        rw [if_pos this]; omega
    · rw [if_neg c]; omega
theorem itm_le {L : Nat} {τ : Nat → qS} {S : Nat → List Ms} (h : RNN L τ) (hS : SNC L τ S) {b : Int} (hb : 0 ≤ b) {t : Nat} (h1 : 448 ≤ t) (h2 : t ≤ 7 * L) : (ln (τ t)).countP (itm (τ t) b) ≤ (sns S (t - 448) 448).countP (isG (τ 0 31 0) b) + 6 := by
  have i1 := itm_2 (σ := τ t) (b := b) (ln (τ t))
  rw [run_era h (by omega)] at i1
  have s1 := old_gone h (SNC_d hS) (t - 224) 224 (by omega) (by omega)
  rw [show t - 224 + 224 = t by omega] at s1
  have i2 := s1.countP_le (p := isD (τ 0 31 0) b)
  have i3 := gd_le h hS hb (t - 224) 224 (by omega)
  rw [show t - 224 + 224 = t by omega] at i3
  have s2 := old_gone h (SNC_d hS) (t - 448) 224 (by omega) (by omega)
  rw [show t - 448 + 224 = t - 224 by omega] at s2
  have i4 := s2.countP_le (p := isG (τ 0 31 0) b)
  have i5 := bk_6 (τ (t - 224)) b
  have e1 : gk (τ (t - 224)) b = (ln (τ (t - 224))).countP (isG (τ 0 31 0) b) := by unfold gk; rw [run_era h (by omega)]
  have e2 : gk (τ t) b = (ln (τ t)).countP (isG (τ 0 31 0) b) := by unfold gk; rw [run_era h (by omega)]
  have e3 := sns_add S (t - 448) 224 224
  rw [show t - 448 + 224 = t - 224 by omega] at e3
  rw [show 448 = 224 + 224 by omega, e3, List.countP_append]
  omega

