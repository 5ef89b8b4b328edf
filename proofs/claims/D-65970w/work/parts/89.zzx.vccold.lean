theorem elc_7 (τ s1 s2 : Nat → qS) (a : Nat) : ∀ k, elc τ s1 s2 (a + k) + a / 7 ≤ elc τ s1 s2 a + (a + k) / 7
  | 0 => Nat.le_refl _
  | k + 1 => by
    have ih := elc_7 τ s1 s2 a k
    rw [show a + (k + 1) = a + k + 1 by omega]
    simp only [elc]
    by_cases c : EF τ s1 s2 (a + k)
    · rw [if_pos c]
      have := c.1
      omega
    · rw [if_neg c]
      omega
theorem ivt {f : Nat → Nat} (hs : ∀ n, f (n + 1) ≤ f n + 1) {c : Nat} (h0 : f 0 ≤ c) : ∀ n, c ≤ f n → ∃ m, m ≤ n ∧ f m = c
  | 0, h => ⟨0, Nat.le_refl _, by omega⟩
  | n + 1, h => by
    by_cases e : c ≤ f n
    · obtain ⟨m, m1, m2⟩ := ivt hs h0 n e
      exact ⟨m, by omega, m2⟩
    · have := hs n
      exact ⟨n + 1, Nat.le_refl _, by omega⟩
theorem cold_r {L : Nat} {τ s1 s2 : Nat → qS} (h : RNN L τ) (hc : CHN L τ s1 s2) (hs : ∀ t, t ≤ 7 * L → psame (τ 0) (τ t)) {n : Nat} (hn : 146 + n + 4 ≤ L) (he : elc τ s1 s2 (7 * 146) + 6096 ≤ elc τ s1 s2 (7 * (146 + n))) : ∃ r, 147 ≤ r ∧ r ≤ L ∧ mq (ln (τ (7 * r))) = [] ∧ elc τ s1 s2 (7 * r) ≤ elc τ s1 s2 (7 * 146) + 6096 := by
  obtain ⟨m, m1, m2⟩ := ivt (f := fun n => elc τ s1 s2 (7 * (146 + n))) (fun n => by
    have := elc_7 τ s1 s2 (7 * (146 + n)) 7
    show elc τ s1 s2 (7 * (146 + (n + 1))) ≤ elc τ s1 s2 (7 * (146 + n)) + 1
    rw [show 7 * (146 + (n + 1)) = 7 * (146 + n) + 7 by omega]
    omega) (c := elc τ s1 s2 (7 * 146) + 6096) (by show elc τ s1 s2 (7 * (146 + 0)) ≤ _; rw [Nat.add_zero]; omega) n he
  have m2' : elc τ s1 s2 (7 * (146 + m)) = elc τ s1 s2 (7 * 146) + 6096 := m2
  obtain ⟨i, i1, i2⟩ := cold_ex h hc hs (r0 := 146) (n := m) (Nat.le_refl _) (by omega) (by omega)
  refine ⟨146 + i + 1, by omega, by omega, ?_, ?_⟩
  · rcases h.2 (7 * (146 + i) + 6) (by omega) with ⟨hw, -⟩ | ⟨-, hm⟩
    · exfalso; omega
    · have a := (MT_q (run_95 h (by omega) (by omega) (by omega)) hm).1
      rw [show 7 * (146 + i + 1) = 7 * (146 + i) + 6 + 1 by omega, a]
      apply List.drop_eq_nil_of_le
      rw [mq_len]
      omega
  · have mo := elc_m τ s1 s2 (7 * (146 + i + 1)) (7 * (146 + m) - 7 * (146 + i + 1))
    rw [show 7 * (146 + i + 1) + (7 * (146 + m) - 7 * (146 + i + 1)) = 7 * (146 + m) by omega] at mo
    omega
theorem vc_cold {B : Nat} (h : ∀ (V : Nat) (τ s1 s2 : Nat → qS), RNN V τ → CHN V τ s1 s2 → (∀ t, t ≤ 7 * V → psame (τ 0) (τ t)) → ∀ r, 147 ≤ r → r ≤ V → mq (ln (τ (7 * r))) = [] → elc τ s1 s2 (7 * V) ≤ elc τ s1 s2 (7 * r) + B) : Claimed_1_1 ∧ Claimed_1_2 := by
  refine vc_el (B := 6500 + B) (fun V τ s1 s2 h1 h2 h3 => ?_)
  have e0 : elc τ s1 s2 0 = 0 := rfl
  by_cases c : 150 ≤ V
  · have a := elc_7 τ s1 s2 0 (7 * 146)
    have b := elc_7 τ s1 s2 (7 * (146 + (V - 150))) 28
    rw [show 7 * (146 + (V - 150)) + 28 = 7 * V by omega] at b
    rw [Nat.zero_add] at a
    by_cases d : elc τ s1 s2 (7 * 146) + 6096 ≤ elc τ s1 s2 (7 * (146 + (V - 150)))
    · obtain ⟨r, r1, r2, r3, r4⟩ := cold_r h1 h2 h3 (n := V - 150) (by omega) d
      have := h V τ s1 s2 h1 h2 h3 r r1 r2 r3
      omega
    · omega
  · have a := elc_7 τ s1 s2 0 (7 * V)
    rw [Nat.zero_add] at a
    omega

