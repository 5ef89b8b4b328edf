def SNC (L : Nat) (τ : Nat → qS) (S : Nat → List Ms) : Prop := ∀ t, t < 7 * L → TC ((t % 7 : Nat) : Int) (τ t) (τ (t + 1)) (S t)
theorem SNC_d {L : Nat} {τ : Nat → qS} {S : Nat → List Ms} (h : SNC L τ S) : SND L τ S := fun t ht => (h t ht).1
theorem run_era {L : Nat} {τ : Nat → qS} (h : RNN L τ) {t : Nat} (ht : t ≤ 7 * L) : τ t 31 = τ 0 31 := by
  have := (run_pm h 0 t (by omega)).2.2.2
  rw [Nat.zero_add] at this
  exact this
theorem sns_add (S : Nat → List Ms) (t0 a : Nat) : ∀ b, sns S t0 (a + b) = sns S t0 a ++ sns S (t0 + a) b
  | 0 => by simp [sns]
  | b + 1 => by
    rw [show a + (b + 1) = (a + b) + 1 by omega]
    simp only [sns]
    rw [sns_add S t0 a b, List.append_assoc, Nat.add_assoc]
theorem cA_t {L : Nat} {τ : Nat → qS} {S : Nat → List Ms} (h : RNN L τ) (hS : SNC L τ S) {v : Nat} (hv : v < 6) {t : Nat} (ht : t < 7 * L) : (S t).countP (isA (τ 0 31 0) v) ≤ 1 ∧ ((S t).countP (isA (τ 0 31 0) v) ≠ 0 → t % 7 = v ∧ AK v (τ (t + 1))) := by
  obtain ⟨-, -, c1, c2, -⟩ := hS t ht
  rw [run_era h (by omega)] at c1
  by_cases e : t % 7 = 6
  · have z : (S t).countP (isA (τ 0 31 0) v) = 0 := by
      rw [List.countP_eq_zero]
      intro x hx hp
      have h1 := c2 (by omega) x hx
      have h2 := (of_decide_eq_true hp).2.1
      omega
    exact ⟨by omega, fun e => absurd z e⟩
  · rcases (c1 (by omega)).2 v with z | ⟨z1, z2, z3⟩
    · exact ⟨by omega, fun e => absurd z e⟩
    · refine ⟨z1, fun _ => ⟨by omega, ?_⟩⟩
      rw [z2]; exact z3
theorem asks14 {L : Nat} {τ : Nat → qS} {S : Nat → List Ms} (h : RNN L τ) (hS : SNC L τ S) {v : Nat} (hv : v < 6) (t0 : Nat) : ∀ k, t0 + 7 + k ≤ 7 * L → (sns S t0 k).countP (isA (τ 0 31 0) v) + (sns S (t0 + 7) k).countP (isA (τ 0 31 0) v) ≤ ntk v t0 k
  | 0, _ => by simp [sns, ntk]
  | k + 1, hk => by
    have ih := asks14 h hS hv t0 k (by omega)
    simp only [sns, ntk, List.countP_append]
    obtain ⟨a1, a2⟩ := cA_t h hS hv (t := t0 + k) (by omega)
    obtain ⟨b1, b2⟩ := cA_t h hS hv (t := t0 + 7 + k) (by omega)
    have e : t0 + 7 + k = t0 + k + 7 := by omega
    rw [e] at b1 b2
    rw [e]
    by_cases c : (t0 + k) % 7 = v
    · rw [if_pos c]
      by_cases x1 : (S (t0 + k)).countP (isA (τ 0 31 0) v) = 0
      · omega
      · by_cases x2 : (S (t0 + k + 7)).countP (isA (τ 0 31 0) v) = 0
        · omega
        · have y1 := (a2 x1).2
          have y2 := (b2 x2).2
          rw [show t0 + k + 7 + 1 = t0 + k + 8 by omega] at y2
          exact absurd y2 (ak_sp h hv c (by omega) y1)
    · rw [if_neg c]
      have x1 : (S (t0 + k)).countP (isA (τ 0 31 0) v) = 0 := by
        by_cases x : (S (t0 + k)).countP (isA (τ 0 31 0) v) = 0
        · exact x
        · exact absurd (a2 x).1 c
      have x2 : (S (t0 + k + 7)).countP (isA (τ 0 31 0) v) = 0 := by
        by_cases x : (S (t0 + k + 7)).countP (isA (τ 0 31 0) v) = 0
        · exact x
        · have := (b2 x).1; omega
      omega
theorem asks_le {L : Nat} {τ : Nat → qS} {S : Nat → List Ms} (h : RNN L τ) (hS : SNC L τ S) {v : Nat} (hv : v < 6) (t0 : Nat) : ∀ r, t0 + 14 * r ≤ 7 * L → (sns S t0 (14 * r)).countP (isA (τ 0 31 0) v) ≤ r
  | 0, _ => by simp [sns]
  | r + 1, hr => by
    have ih := asks_le h hS hv t0 r (by omega)
    have h1 := asks14 h hS hv (t0 + 14 * r) 7 (by omega)
    have h2 := ntk_r v (t0 + 14 * r) (by omega) 1
    rw [show 7 * 1 = 7 by omega] at h2
    rw [show 14 * (r + 1) = 14 * r + (7 + 7) by omega, sns_add, sns_add, List.countP_append, List.countP_append]
    omega
theorem ca_le {L : Nat} {τ : Nat → qS} {S : Nat → List Ms} (h : RNN L τ) (hS : SNC L τ S) {v : Nat} (hv : v < 6) {t : Nat} (h1 : 224 ≤ t) (h2 : t ≤ 7 * L) : ca (τ t) v ≤ 16 := by
  have hs := old_gone h (SNC_d hS) (t - 224) 224 (by omega) (by omega)
  rw [show t - 224 + 224 = t by omega] at hs
  have h3 := hs.countP_le (p := isA (τ 0 31 0) v)
  have h4 := asks_le h hS hv (t - 224) 16 (by omega)
  rw [show 14 * 16 = 224 by omega] at h4
  unfold ca
  rw [run_era h (by omega)]
  omega
theorem gv_le {L : Nat} {τ : Nat → qS} {S : Nat → List Ms} (h : RNN L τ) (hS : SNC L τ S) {v : Nat} (hv : v < 6) (t0 : Nat) : ∀ k, t0 + k ≤ 7 * L → ca (τ (t0 + k)) v + (sns (fun t => if t % 7 = 6 then S t else []) t0 k).countP (isT (τ 0 31 0) v) ≤ ca (τ t0) v + (sns S t0 k).countP (isA (τ 0 31 0) v)
  | 0, _ => by simp [sns]
  | k + 1, hk => by
    have ih := gv_le h hS hv t0 k (by omega)
    obtain ⟨-, -, -, -, c⟩ := hS (t0 + k) (by omega)
    have c' := c v
    rw [run_era h (by omega)] at c'
    simp only [sns, List.countP_append]
    by_cases e : (t0 + k) % 7 = 6
    · rw [if_pos e]
      rw [if_pos (by omega)] at c'
      rw [show t0 + (k + 1) = t0 + k + 1 by omega]
      omega
    · rw [if_neg e, List.countP_nil]
      rw [if_neg (by omega)] at c'
      rw [show t0 + (k + 1) = t0 + k + 1 by omega]
      omega

