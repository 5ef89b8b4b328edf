theorem ACT_kl {w : Int} {σ σ' : qS} (hsp : spl σ ≤ 38) (h : ACT w σ σ') (ht : 38 ≤ σ 62 w) : σ' 62 w = -1 ∨ σ' 62 w = σ 62 w := by
  obtain ⟨-, -, -, c⟩ := h
  rcases c with ⟨c0, -⟩ | ⟨c0, -⟩ | ⟨-, c⟩
  · omega
  · omega
  · rcases c with ⟨-, -, f, -⟩ | ⟨-, -, -, -, f, -⟩ | ⟨-, -, -, -, -, -, c, -⟩ | ⟨-, -, -, -, -, c, -⟩ | ⟨-, -, f, -⟩
    · exact Or.inl f.1
    · exact Or.inl f.1
    · exact Or.inr c
    · exact Or.inr c
    · exact Or.inl f.1
theorem KL_m1 {L : Nat} {τ : Nat → qS} (hR : RNN L τ) {v κ : Nat} (hv : v < 6) (h2 : κ < 7 * L) (hk : KLt τ v κ) : τ (κ + 1) 62 (v : Int) = -1 := by
  obtain ⟨k1, k2, k3⟩ := hk
  rcases hR.2 κ h2 with ⟨h6, s⟩ | ⟨e6, -⟩
  · rw [k1] at s
    obtain ⟨σ1, σ2, σ3, r1, r2, r3, a, ⟨-, -, j3, -⟩, -⟩ := s
    have e1 := RD_tk r1 (by omega)
    have e2 := RD_tk r2 (by omega)
    have e3 := RD_tk r3 (by omega)
    rcases ACT_kl (spl_b j3.1).2 a (by omega) with q | q
    · exact q
    · omega
  · omega
def H7t (τ : Nat → qS) (t : Nat) : Prop := t % 7 = 6 ∧ c7 (τ (t + 1)) + 1 ≤ c7 (τ t)
theorem CEB {L s0 : Nat} {τ : Nat → qS} (hR : RNN L τ) (hs : ∀ t, t ≤ 7 * L → psame (τ 0) (τ t)) (hJ : ∀ t, t ≤ 7 * L → JOm (τ t) ≠ none) {A : Nat → List (Ms × Nat × Nat)} (h : ANR L s0 τ A) {s : Nat} (h7 : 7 ≤ s) (h1 : s0 ≤ s) : ∀ k, s + k ≤ 7 * L → ctq (fun c => CEv τ A c ∧ ∃ v κ, v < 6 ∧ 7 ≤ κ ∧ KLt τ v κ ∧ κ < c ∧ ∀ u, κ < u → u < c → ¬ MPt A u) s k ≤ ctq (H7t τ) s k ∨ (ctq (fun c => CEv τ A c ∧ ∃ v κ, v < 6 ∧ 7 ≤ κ ∧ KLt τ v κ ∧ κ < c ∧ ∀ u, κ < u → u < c → ¬ MPt A u) s k ≤ ctq (H7t τ) s k + 1 ∧ ∃ c, c < s + k ∧ MPt A c ∧ ∀ u, c < u → u ≤ s + k → mapd (τ u))
  | 0, _ => Or.inl (by simp [ctq])
  | k + 1, hl => by
    have ih := CEB hR hs hJ h h7 h1 k (by omega)
    have e1 : s + (k + 1) = s + k + 1 := by omega
    rw [e1]
    simp only [ctq]
    by_cases ce : CEv τ A (s + k) ∧ ∃ v κ, v < 6 ∧ 7 ≤ κ ∧ KLt τ v κ ∧ κ < s + k ∧ ∀ u, κ < u → u < s + k → ¬ MPt A u
    · rw [if_pos ce]
      have hne : ¬ ∃ c, c < s + k ∧ MPt A c ∧ ∀ u, c < u → u ≤ s + k → mapd (τ u) := fun ⟨c, c1, c2, c3⟩ => by
        obtain ⟨-, v, κ, v6, k7, kl, k1, k2⟩ := ce
        rcases Nat.lt_trichotomy κ c with q | q | q
        · exact k2 c q c1 c2
        · have := c2.1
          have := kl.1
          omega
        · have m := c3 κ q (by omega)
          have e := KL_m1 hR v6 (by omega) kl
          exact (kil_1 hR hs hJ v6 k7 (by omega) kl.1 kl.2.1 e).1 m
      have ih1 : ctq (fun c => CEv τ A c ∧ ∃ v κ, v < 6 ∧ 7 ≤ κ ∧ KLt τ v κ ∧ κ < c ∧ ∀ u, κ < u → u < c → ¬ MPt A u) s k ≤ ctq (H7t τ) s k := by
        rcases ih with q | ⟨-, q⟩
        · exact q
        · exact absurd q hne
      rcases MP_m hR h (by omega) (by omega) (by omega : s + k < 7 * L) ce.1.1 with m | m
      · right
        refine ⟨?_, s + k, by omega, ce.1.1, fun u u1 u2 => ?_⟩
        · split <;> omega
        · have : u = s + k + 1 := by omega
          rw [this]; exact m
      · left
        rw [if_pos (show H7t τ (s + k) from ⟨ce.1.1.1, m⟩)]
        omega
    · rw [if_neg ce]
      rcases ih with q | ⟨q, c, c1, c2, c3⟩
      · left
        split <;> omega
      · rcases mp_st hR (by omega : s + k < 7 * L) (c3 (s + k) c1 (Nat.le_refl _)) with m | m
        · right
          refine ⟨?_, c, by omega, c2, fun u u1 u2 => ?_⟩
          · split <;> omega
          · by_cases e : u = s + k + 1
            · rw [e]; exact m
            · exact c3 u u1 (by omega)
        · left
          rw [if_pos (show H7t τ (s + k) from m)]
          omega
theorem H7B {L : Nat} {τ : Nat → qS} (hR : RNN L τ) {s : Nat} : ∀ k, s + k ≤ 7 * L → ctq (H7t τ) s k + c7 (τ (s + k)) + lkc τ s ≤ c7 (τ s) + lkc τ (s + k)
  | 0, _ => by simp [ctq]
  | k + 1, hl => by
    have ih := H7B hR k (s := s) (by omega)
    have b := c7_t hR (t := s + k) (by omega)
    rw [show s + (k + 1) = s + k + 1 by omega]
    simp only [ctq]
    by_cases c : H7t τ (s + k)
    · rw [if_pos c]
      have e : lkc τ (s + k + 1) = lkc τ (s + k) := by
        simp only [lkc]
        rw [if_neg (fun q => by have := c.1; omega)]
        rfl
      have := c.2
      omega
    · rw [if_neg c]
      omega

