-- the number of ticks grows
theorem ntk_ge (w t0 k : Nat) : ∀ j, ntk w t0 k ≤ ntk w t0 (k + j)
  | 0 => Nat.le_refl _
  | j + 1 => by
    have ih := ntk_ge w t0 k j
    rw [show k + (j + 1) = k + j + 1 by omega]
    simp only [ntk]
    omega
theorem ntk_d (w t0 k : Nat) (hw : w < 7) : k / 7 ≤ ntk w t0 k := by
  have a := ntk_r w t0 hw (k / 7)
  have b := ntk_ge w t0 (7 * (k / 7)) (k - 7 * (k / 7))
  rw [show 7 * (k / 7) + (k - 7 * (k / 7)) = k by omega] at b
  omega
-- LDI: if the inbox of the owner at s and that of the waiter later are short, 94 letters were sent in m rounds
theorem LDI {L s0 : Nat} {τ : Nat → qS} (hR : RNN L τ) {A : Nat → List (Ms × Nat × Nat)} {ρ : Nat → qS × qS × qS} {B : Nat → List (Ms × Nat × Nat) × List (Ms × Nat × Nat) × List (Ms × Nat × Nat)} (h : ANC2 L s0 τ A ρ B) (h7 : 224 ≤ s0) {w : Nat} (hw : w < 6) {t : Nat} (ht : t % 7 = w) (h1 : 7 * 145 ≤ t) (h2 : t + 1 ≤ 7 * L) (hl : LKs (τ (t + 1)) w) {j : Nat} (j1 : 1 ≤ j) (j2 : j ≤ 143) {s : Nat} (es : s = t + 1 - 7 * j) (js : s0 < s) (ha : τ s 65 (w : Int) = 1) {m : Nat} (m1 : 1 ≤ m) (hm : s + 7 * m ≤ t + 1) (hI : ∀ (T b : Nat), s ≤ T → T ≤ s + 7 * m → b < 6 → cn (b : Int) (ln (τ s)) + cn (w : Int) (ln (τ T)) ≤ 3 * (m - 1) + 1) : 94 ≤ zF (τ s) + osm false τ s (7 * m) := by
  apply Classical.byContradiction
  intro nF
  obtain ⟨-, v1, -⟩ := lk_wait hR hw ht h1 h2 hl (j - 1) (by omega)
  rw [show j - 1 + 1 = j by omega, ← es] at v1
  obtain ⟨u, eu⟩ : ∃ u, s = u + 1 := ⟨s - 1, by omega⟩
  have u7 : u % 7 = w := by omega
  have fe1 : fe (τ s) (w : Int) = 1 := by unfold fe; exact if_pos ⟨v1, ha⟩
  obtain ⟨y, y1, y5, yw, ya, ys, yb⟩ := BIRTH2 h (u := u) (by omega) (by omega) (by omega) (by rw [u7, ← eu]; exact fe1)
  rw [u7] at yw ya
  rw [← eu] at y1 ya ys yb
  have e0 := h.1.1.2.1 s (by omega) (by omega)
  have ym : y.1 ∈ ln (τ s) := by rw [← e0]; exact List.mem_map_of_mem (KA_mem y1)
  obtain ⟨b1, b2⟩ := lt5_b hR (by omega) (by omega) ym y5
  have hbn : ((y.1.1).toNat : Int) = y.1.1 := Int.toNat_of_nonneg b1
  have y6 : y.1.1 ≠ 6 := by omega
  have sm := fun k a b => SMPs hR h h7 hw ht h1 h2 hl j1 j2 es js y5 yw yb y6 y1 k a b
  have mo : ∀ k, k ≤ 7 * m → zF (τ s) + osm false τ s k ≤ 93 := fun k hk => by
    have := osm_m false τ s k (7 * m - k)
    rw [show k + (7 * m - k) = 7 * m by omega] at this
    omega
  have bl : (y.1.1).toNat < 6 := by omega
  have ocs : oc s y.1.1 (A s) ≤ cn y.1.1 (ln (τ s)) := by
    have := oc_le s y.1.1 (A s)
    rw [e0] at this
    exact this
  have one : ∀ k, s + k ≤ 7 * L → y ∈ A (s + k) → 1 + 3 * (k / 7) ≤ cn (((y.1.1).toNat : Nat) : Int) (ln (τ s)) := fun k kl ym => by
    have o := ANR_oc h.1.1 (t0 := s) (by omega) (v := (y.1.1).toNat) bl k kl
    have n := ntk_d (y.1.1).toNat s k (by omega)
    have p : 0 < oc s y.1.1 (A (s + k)) := by
      unfold oc
      exact List.countP_pos_iff.mpr ⟨y, ym, decide_eq_true ⟨by omega, rfl⟩⟩
    rw [hbn] at o ⊢
    omega
  rcases sm (7 * m) (by omega) (mo (7 * m) (Nat.le_refl _)) with ⟨-, g⟩ | ⟨k0, g1, g2, g3, z, z1, z2, z3, z6, zw⟩
  · have a := one (7 * m) (by omega) (KA_mem g)
    have b := hI s (y.1.1).toNat (Nat.le_refl _) (by omega) bl
    rw [show 7 * m / 7 = m by omega] at a
    omega
  · have yk : y ∈ A (s + k0) := by
      rcases sm k0 (by omega) (mo k0 (by omega)) with ⟨-, g⟩ | ⟨k1, q1, -, q3, -⟩
      · exact KA_mem g
      · exact absurd q3 (g2 k1 q1)
    have a := one k0 (by omega) yk
    have o := ANR_oc h.1.1 (t0 := s + k0 + 1) (by omega) (v := w) hw (7 * m - k0 - 1) (by omega)
    rw [show s + k0 + 1 + (7 * m - k0 - 1) = s + 7 * m by omega] at o
    have n := ntk_d w (s + k0 + 1) (7 * m - k0 - 1) (by omega)
    have p : 0 < oc (s + k0 + 1) (w : Int) (A (s + 7 * m)) := by
      unfold oc
      exact List.countP_pos_iff.mpr ⟨z, KA_mem z1, decide_eq_true ⟨by omega, zw⟩⟩
    have c : oc (s + k0 + 1) (w : Int) (A (s + k0 + 1)) ≤ cn (w : Int) (ln (τ (s + k0 + 1))) := by
      have := oc_le (s + k0 + 1) (w : Int) (A (s + k0 + 1))
      rw [h.1.1.2.1 (s + k0 + 1) (by omega) (by omega)] at this
      exact this
    have b := hI (s + k0 + 1) (y.1.1).toNat (by omega) (by omega) bl
    have e : m - 1 ≤ k0 / 7 + (7 * m - k0 - 1) / 7 := by omega
    omega

