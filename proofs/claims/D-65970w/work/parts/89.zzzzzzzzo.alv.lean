-- as long as the token of a sample is on the line every round but one has an XK tick
theorem tb_al {L s0 : Nat} {τ : Nat → qS} (hR : RNN L τ) {A : Nat → List (Ms × Nat × Nat)} {ρ : Nat → qS × qS × qS} {B : Nat → List (Ms × Nat × Nat) × List (Ms × Nat × Nat) × List (Ms × Nat × Nat)} (h : ANC2 L s0 τ A ρ B) {s : Nat} (hs : s0 ≤ s) : ∀ d k, s + (k + d) ≤ 7 * L → 1 ≤ tbc s (A (s + (k + d))) → 1 ≤ tbc s (A (s + k))
  | 0, k, _, q => q
  | d + 1, k, hl, q => by
    have a := tb_al hR h hs d (k + 1) (by omega) (by rw [show k + 1 + d = k + (d + 1) by omega]; exact q)
    apply Classical.byContradiction
    intro n
    have z := tb_dn hR h (T := s + k) (s := s) (by omega) (by omega) (by omega) (by omega)
    rw [show s + (k + 1) = s + k + 1 by omega] at a
    omega
theorem ALV {L s0 : Nat} {τ : Nat → qS} (hR : RNN L τ) {A : Nat → List (Ms × Nat × Nat)} {ρ : Nat → qS × qS × qS} {B : Nat → List (Ms × Nat × Nat) × List (Ms × Nat × Nat) × List (Ms × Nat × Nat)} (h : ANC2 L s0 τ A ρ B) (h7 : 224 ≤ s0) {w : Nat} (hw : w < 6) {t : Nat} (ht : t % 7 = w) (h1 : 7 * 145 ≤ t) (h2 : t + 1 ≤ 7 * L) (hl : LKs (τ (t + 1)) w) {j : Nat} (j1 : 1 ≤ j) (j2 : j ≤ 143) {s : Nat} (es : s = t + 1 - 7 * j) (js : s0 < s) (ha : τ s 65 (w : Int) = 1) {K : Nat} (hK : s + K ≤ t + 1) (hal : 1 ≤ tbc s (A (s + K))) : ∃ b k0 : Nat, b < 6 ∧ τ s 33 (τ s 64 (w : Int)) = (b : Int) ∧ (∀ k, k < K → k < k0 → (s + k) % 7 = b → XK A B s s (s + k)) ∧ ∀ k, k0 + 1 ≤ k → k < K → (s + k) % 7 = w → XK A B s (s + k0 + 1) (s + k) := by
  obtain ⟨-, v1, -⟩ := lk_wait hR hw ht h1 h2 hl (j - 1) (by omega)
  rw [show j - 1 + 1 = j by omega, ← es] at v1
  obtain ⟨u, eu⟩ : ∃ u, s = u + 1 := ⟨s - 1, by omega⟩
  have u7 : u % 7 = w := by omega
  have fe1 : fe (τ s) (w : Int) = 1 := by unfold fe; exact if_pos ⟨v1, ha⟩
  obtain ⟨y, y1, y5, yw, ya, ys, yb⟩ := BIRTH2 h (u := u) (by omega) (by omega) (by omega) (by rw [u7, ← eu]; exact fe1)
  rw [u7] at yw ya
  rw [← eu] at y1 ya ys yb
  have e0 := h.1.1.2.1 s (by omega) (by omega)
  have ym : y.1 ∈ ln (τ s) := by rw [← e0]; exact List.mem_map_of_mem (KA_mem y1)
  obtain ⟨b1, b2⟩ := lt5_b hR (by omega) (by omega) ym y5
  have hbn : ((y.1.1).toNat : Int) = y.1.1 := Int.toNat_of_nonneg b1
  have y6 : y.1.1 ≠ 6 := by omega
  have al : ∀ k, k ≤ K → ¬ tbc s (A (s + k)) = 0 := fun k hk z => by
    have := tb_al hR h (s := s) (by omega) (K - k) k (by omega) (by rw [show k + (K - k) = K by omega]; exact hal)
    omega
  have sm := fun k a => SMPm hR h h7 hw ht h1 h2 hl j1 j2 es js y5 yw yb y6 (KA_mem y1) k a
  have cv : ∀ k, k < K → (∀ i, i ≤ k → ¬ rdY A B (s + i) y) → (s + k) % 7 = (y.1.1).toNat → XK A B s s (s + k) := fun k kK nr kb => by
    rcases sm k (by omega) with ⟨-, g⟩ | ⟨k0, g1, -, g3, -⟩ | g
    · exact ⟨by omega, y, g, by rw [kb, hbn], fun i hi c => nr k (Nat.le_refl _) ⟨by omega, i, hi, c⟩, ys, yb⟩
    · exact absurd g3 (nr k0 (by omega))
    · exact absurd g (al k (by omega))
  by_cases c : ∃ k, k < K ∧ rdY A B (s + k) y
  · obtain ⟨k0, c3⟩ : ∃ k0, (k0 < K ∧ rdY A B (s + k0) y) ∧ ∀ i, i < k0 → ¬ (i < K ∧ rdY A B (s + i) y) := by
      obtain ⟨k, c1, c2⟩ := c
      obtain ⟨q, -, q2, q3, q4⟩ := fst_P (P := fun k => rdY A B (s + k) y) (a := 0) K ⟨k, by omega, by omega, c2⟩
      exact ⟨q, ⟨by omega, q3⟩, fun i hi p => q4 i (by omega) hi p.2⟩
    obtain ⟨⟨c1, c2⟩, c3⟩ := c3
    refine ⟨(y.1.1).toNat, k0, by omega, by rw [hbn, ya], fun k kK kk kb => cv k kK (fun i hi q => ?_) kb, fun k kk kK kw => ?_⟩
    · exact c3 i (by omega) ⟨by omega, q⟩
    · rcases sm k (by omega) with ⟨g, -⟩ | ⟨k1, g1, g2, g3, z, z1, z2, z3, z4, z5⟩ | g
      · exact absurd c2 (g k0 (by omega))
      · have e : k1 = k0 := by
          rcases (by omega : k1 < k0 ∨ k1 = k0 ∨ k0 < k1) with q | q | q
          · exact absurd ⟨by omega, g3⟩ (c3 k1 q)
          · exact q
          · exact absurd c2 (g2 k0 q)
        subst e
        exact ⟨by omega, z, z1, by rw [kw, z5], fun i hi q => NRD hR h.1 h7 hw ht h1 h2 hl j1 j2 (by omega) (T := s + k) (by omega) (by omega) (by omega) hi q z4 (by rw [z2, es]), z3, z2⟩
      · exact absurd g (al k (by omega))
  · refine ⟨(y.1.1).toNat, K, by omega, by rw [hbn, ya], fun k kK _ kb => cv k kK (fun i hi q => c ⟨i, by omega, q⟩) kb, fun k kk kK _ => by omega⟩
theorem ALVc {L s0 : Nat} {τ : Nat → qS} (hR : RNN L τ) {A : Nat → List (Ms × Nat × Nat)} {ρ : Nat → qS × qS × qS} {B : Nat → List (Ms × Nat × Nat) × List (Ms × Nat × Nat) × List (Ms × Nat × Nat)} (h : ANC2 L s0 τ A ρ B) (h7 : 224 ≤ s0) {w : Nat} (hw : w < 6) {t : Nat} (ht : t % 7 = w) (h1 : 7 * 145 ≤ t) (h2 : t + 1 ≤ 7 * L) (hl : LKs (τ (t + 1)) w) {j : Nat} (j1 : 1 ≤ j) (j2 : j ≤ 143) {s : Nat} (es : s = t + 1 - 7 * j) (js : s0 < s) (ha : τ s 65 (w : Int) = 1) {n K : Nat} (eK : K = 7 * n + 6) (hK : s + K ≤ t + 1) (hal : 1 ≤ tbc s (A (s + K))) : ∃ T, n ≤ ctq (CXr A B s T) (s / 7 + 1) n + 1 := by
  obtain ⟨b, k0, b6, -, c1, c2⟩ := ALV hR h h7 hw ht h1 h2 hl j1 j2 es js ha hK hal
  have e7 : s % 7 = w + 1 := by omega
  refine ⟨s + k0 + 1, ctq_gap0 (r1 := (s + k0) / 7) (fun r r1 r2 r3 => ?_)⟩
  rcases r3 with r3 | r3
  · obtain ⟨k, ek⟩ : ∃ k, s + k = 7 * r + b := ⟨7 * r + b - s, by omega⟩
    exact ⟨b, b6, Or.inl (by rw [← ek]; exact c1 k (by omega) (by omega) (by omega))⟩
  · obtain ⟨k, ek⟩ : ∃ k, s + k = 7 * r + w := ⟨7 * r + w - s, by omega⟩
    exact ⟨w, hw, Or.inr (by rw [← ek]; exact c2 k (by omega) (by omega) (by omega))⟩

