theorem lt5_b {L : Nat} {τ : Nat → qS} (hR : RNN L τ) {t : Nat} (h0 : 224 ≤ t) (h2 : t ≤ 7 * L) {x : Ms} (hx : x ∈ ln (τ t)) (x5 : xw x 0 = 5) : 0 ≤ x.1 ∧ x.1 < 6 := by
  have gs := hR.1 t h2
  have er := run_ER hR h0 h2
  have hL := (gs.1.2.2.2.2.2.2.2.1 _ hx).2 (er x hx)
  rcases hL with ⟨-, g⟩ | ⟨g0, -⟩
  · rcases g with ⟨g, -⟩ | ⟨g, -⟩ | ⟨g, -⟩ | ⟨g, -⟩ <;> omega
  · exact g0
-- coverage of a sample of a LACKS wait
theorem SMP {L s0 : Nat} {τ : Nat → qS} (hR : RNN L τ) {A : Nat → List (Ms × Nat × Nat)} {ρ : Nat → qS × qS × qS} {B : Nat → List (Ms × Nat × Nat) × List (Ms × Nat × Nat) × List (Ms × Nat × Nat)} (h : ANC2 L s0 τ A ρ B) (h7 : 224 ≤ s0) {w : Nat} (hw : w < 6) {t : Nat} (ht : t % 7 = w) (h1 : 7 * 145 ≤ t) (h2 : t + 1 ≤ 7 * L) (hl : LKs (τ (t + 1)) w) {j : Nat} (j1 : 1 ≤ j) (j2 : j ≤ 143) {s : Nat} (es : s = t + 1 - 7 * j) (js : s0 < s) (ha : τ s 65 (w : Int) = 1) {K : Nat} (hK : s + K ≤ t + 1) (hF : zF (τ s) + osm false τ s K ≤ 93) : ∃ b k0 : Nat, b < 6 ∧ τ s 33 (τ s 64 (w : Int)) = (b : Int) ∧ (∀ k, 14 ≤ k → k < K → k < k0 → (s + k) % 7 = b → T1t A (s + k)) ∧ ∀ k, k0 + 15 ≤ k → k < K → (s + k) % 7 = w → T1t A (s + k) := by
  obtain ⟨-, v1, -⟩ := lk_wait hR hw ht h1 h2 hl (j - 1) (by omega)
  rw [show j - 1 + 1 = j by omega, ← es] at v1
  obtain ⟨u, eu⟩ : ∃ u, s = u + 1 := ⟨s - 1, by omega⟩
  have u7 : u % 7 = w := by omega
  have fe1 : fe (τ s) (w : Int) = 1 := by unfold fe; exact if_pos ⟨v1, ha⟩
  obtain ⟨y, y1, y5, yw, ya, ys, yb⟩ := BIRTH2 h (u := u) (by omega) (by omega) (by omega) (by rw [u7, ← eu]; exact fe1)
  rw [u7] at yw ya
  rw [← eu] at y1 ya ys yb
  have e0 := h.1.1.2.1 s (by omega) (by omega)
  have ym : y.1 ∈ ln (τ s) := by rw [← e0]; exact List.mem_map_of_mem (KA_mem y1)
  obtain ⟨b1, b2⟩ := lt5_b hR (by omega) (by omega) ym y5
  have hbn : ((y.1.1).toNat : Int) = y.1.1 := Int.toNat_of_nonneg b1
  have y6 : y.1.1 ≠ 6 := by omega
  have sm := fun k a b => SMPs hR h h7 hw ht h1 h2 hl j1 j2 es js y5 yw yb y6 y1 k a b
  have mo : ∀ k, k ≤ K → zF (τ s) + osm false τ s k ≤ 93 := fun k hk => by
    have := osm_m false τ s k (K - k)
    rw [show k + (K - k) = K by omega] at this
    omega
  have cv : ∀ k, 14 ≤ k → k < K → (∀ i, i ≤ k → ¬ rdY A B (s + i) y) → (s + k) % 7 = (y.1.1).toNat → T1t A (s + k) := fun k k14 kK nr kb => by
    rcases sm k (by omega) (mo k (by omega)) with ⟨-, g⟩ | ⟨k0, g1, -, g3, -⟩
    · refine COV hR h.1 (by omega) (by omega) (by omega) (by omega) (KA_mem g) (by rw [kb, hbn]) (by omega) (fun i hi c => nr k (Nat.le_refl _) ⟨by omega, i, hi, c⟩)
    · exact absurd g3 (nr k0 (by omega))
  by_cases c : ∃ k, k < K ∧ rdY A B (s + k) y
  · obtain ⟨k0, c3⟩ : ∃ k0, (k0 < K ∧ rdY A B (s + k0) y) ∧ ∀ i, i < k0 → ¬ (i < K ∧ rdY A B (s + i) y) := by
      obtain ⟨k, c1, c2⟩ := c
      obtain ⟨q, -, q2, q3, q4⟩ := fst_P (P := fun k => rdY A B (s + k) y) (a := 0) K ⟨k, by omega, by omega, c2⟩
      exact ⟨q, ⟨by omega, q3⟩, fun i hi p => q4 i (by omega) hi p.2⟩
    obtain ⟨⟨c1, c2⟩, c3⟩ := c3
    refine ⟨(y.1.1).toNat, k0, by omega, by rw [hbn, ya], fun k k14 kK kk kb => cv k k14 kK (fun i hi q => ?_) kb, fun k kk kK kw => ?_⟩
    · exact c3 i (by omega) ⟨by omega, q⟩
    · rcases sm k (by omega) (mo k (by omega)) with ⟨g, -⟩ | ⟨k1, g1, g2, g3, z, z1, z2, z3, z4, z5⟩
      · exact absurd c2 (g k0 (by omega))
      · have e : k1 = k0 := by
          rcases (by omega : k1 < k0 ∨ k1 = k0 ∨ k0 < k1) with q | q | q
          · exact absurd ⟨by omega, g3⟩ (c3 k1 q)
          · exact q
          · exact absurd c2 (g2 k0 q)
        subst e
        exact COV hR h.1 (by omega) (by omega) (by omega) (by omega) (KA_mem z1) (by rw [kw, z5]) (by omega) (fun i hi q => NRD hR h.1 h7 hw ht h1 h2 hl j1 j2 (by omega) (T := s + k) (by omega) (by omega) (by omega) hi q z4 (by rw [z2, es]))
  · refine ⟨(y.1.1).toNat, K, by omega, by rw [hbn, ya], fun k k14 kK _ kb => cv k k14 kK (fun i hi q => c ⟨i, by omega, q⟩) kb, fun k kk kK _ => by omega⟩

