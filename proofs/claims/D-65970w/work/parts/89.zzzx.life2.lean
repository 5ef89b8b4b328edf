theorem LIFE_F {L s0 : Nat} {τ : Nat → qS} (hR : RNN L τ) {A : Nat → List (Ms × Nat × Nat)} (h : ANR L s0 τ A) (h7 : 7 ≤ s0) {c o r : Nat} (hc : s0 < c) (ho : o < 6) (ad : adb L s0 A c (o : Int)) (hr : cn (o : Int) (ln (τ c)) ≤ 3 * r) (hl : c + 7 * r ≤ 7 * L) : fbc c (A (c + 7 * r)) = 0 := by
  have ag := AGE hR h (t0 := c) (by omega) (by omega) (v := o) ho (r := r) hr hl
  have fs := ANR_fs h (c + 7 * r - s0) (by omega)
  rw [show s0 + (c + 7 * r - s0) = c + 7 * r by omega] at fs
  unfold fbc
  rw [List.countP_eq_zero]
  intro x hx px
  rw [Bool.and_eq_true] at px
  have x5 := of_decide_eq_true px.1
  have xb := of_decide_eq_true px.2
  have xo := ad (c + 7 * r) (by omega) hl x hx x5 xb
  have s := ag x hx xo
  have e := fs x hx x5
  omega
theorem LIFE_S {L s0 : Nat} {τ : Nat → qS} (hR : RNN L τ) {A : Nat → List (Ms × Nat × Nat)} {ρ : Nat → qS × qS × qS} {B : Nat → List (Ms × Nat × Nat) × List (Ms × Nat × Nat) × List (Ms × Nat × Nat)} (h : ANC L s0 τ A ρ B) (h7 : 7 ≤ s0) {c o r : Nat} (hc : s0 < c) (ho : o < 6) (ad : adb L s0 A c (o : Int)) (hr : cn (o : Int) (ln (τ c)) ≤ 3 * r) {t i : Nat} (h1 : s0 ≤ t) (h2 : t < 7 * L) (h6 : t % 7 < 6) (hi : i ≤ 3) {z : Ms × Nat × Nat} (hz : z ∈ stA A B t i) (zk : tokb z = true) (zb : z.2.2 = c) : z.2.1 ≤ c + 7 * r := by
  by_cases q : t < c + 7 * r
  · have s := (st_srt h h1 h2 h6 i hi).2 z hz
    omega
  · have f := LIFE_F hR h.1 h7 hc ho ad hr (by omega)
    have np := ANR_np h.1 (b := c) (g := c + 7 * r) (by omega) (by omega) f (t - (c + 7 * r)) (by omega)
    rw [show c + 7 * r + (t - (c + 7 * r)) = t by omega] at np
    exact (st_np h h1 h2 h6 i hi np).2 z hz zk zb
theorem LIFE_P {L s0 : Nat} {τ : Nat → qS} (hR : RNN L τ) {A : Nat → List (Ms × Nat × Nat)} {ρ : Nat → qS × qS × qS} {B : Nat → List (Ms × Nat × Nat) × List (Ms × Nat × Nat) × List (Ms × Nat × Nat)} (h : ANC L s0 τ A ρ B) (h7 : 7 ≤ s0) {v : Nat} (hv : v < 6) {t i : Nat} (h1 : s0 ≤ t) (h2 : t < 7 * L) (h6 : t % 7 < 6) (hi : i ≤ 3) {z : Ms × Nat × Nat} (hz : z ∈ stA A B t i) (zv : z.1.1 = (v : Int)) (zs : s0 ≤ z.2.1) {r : Nat} (hr : cn (v : Int) (ln (τ z.2.1)) ≤ 3 * r) : t < z.2.1 + 7 * r := by
  apply Classical.byContradiction
  intro n
  have ag := AGE hR h.1 (t0 := z.2.1) zs (by omega) (v := v) hv (r := r) hr (by omega)
  have lb : lbv (z.2.1 + 1) (v : Int) (A (z.2.1 + 7 * r)) := fun y hy e => ag y hy e
  have tr : 1 ≤ r ∨ r = 0 := by omega
  have l1 := ANR_lb h.1 (t := z.2.1 + 7 * r) (s := z.2.1 + 1) (by omega) (by omega) lb (t - (z.2.1 + 7 * r)) (by omega)
  rw [show z.2.1 + 7 * r + (t - (z.2.1 + 7 * r)) = t by omega] at l1
  have l2 := st_lb h h1 h2 h6 (s := z.2.1 + 1) (by omega) i 0 (by omega) l1
  rw [Nat.zero_add] at l2
  have := l2 z hz zv
  omega
theorem ACC_st {τ : Nat → qS} {A : Nat → List (Ms × Nat × Nat)} {ρ : Nat → qS × qS × qS} {B : Nat → List (Ms × Nat × Nat) × List (Ms × Nat × Nat) × List (Ms × Nat × Nat)} {t c : Nat} (ha : ACC τ A ρ B t c) : t % 7 < 6 ∧ ∃ i, i < 3 ∧ ∃ z, hdA ((t % 7 : Nat) : Int) (stA A B t i) z ∧ z.2.2 = c ∧ xw z.1 0 = 6 := by
  obtain ⟨h6, z, zb, q⟩ := ha
  rcases q with ⟨a, -, b, -⟩ | ⟨a, -, b, -⟩ | ⟨a, -, b, -⟩
  · exact ⟨h6, 0, by omega, z, a, zb, b⟩
  · exact ⟨h6, 1, by omega, z, a, zb, b⟩
  · exact ⟨h6, 2, by omega, z, a, zb, b⟩
theorem LIFE2 {L s0 : Nat} {τ : Nat → qS} (hR : RNN L τ) {A : Nat → List (Ms × Nat × Nat)} {ρ : Nat → qS × qS × qS} {B : Nat → List (Ms × Nat × Nat) × List (Ms × Nat × Nat) × List (Ms × Nat × Nat)} (h : ANC L s0 τ A ρ B) (h7 : 7 ≤ s0) {c o r : Nat} (hc : s0 < c) (ho : o < 6) (ad : adb L s0 A c (o : Int)) (hr : cn (o : Int) (ln (τ c)) ≤ 3 * r) {t : Nat} (h1 : s0 ≤ t) (h2 : t < 7 * L) (ha : ACC τ A ρ B t c) : ∃ φ, c ≤ φ ∧ φ ≤ c + 7 * r ∧ φ ≤ t + 1 ∧ ∀ q, cn ((t % 7 : Nat) : Int) (ln (τ φ)) ≤ 3 * q → t < φ + 7 * q := by
  obtain ⟨h6, i, hi, z, z1, zb, z6⟩ := ACC_st ha
  have m := hd_mem z1
  have zk : tokb z = true := (tokb_i z).mpr (Or.inr z6)
  have s1 := LIFE_S hR h h7 hc ho ad hr h1 h2 h6 (by omega) m.1 zk zb
  have s2 := (st_srt h h1 h2 h6 i (by omega)).2 z m.1
  have tk : c ≤ z.2.1 := by
    have t0 := ANR_tk h.1 (t - s0) (by omega)
    rw [show s0 + (t - s0) = t by omega] at t0
    have key : ∀ i, i ≤ 3 → TKa s0 τ t (stA A B t i) := fun i => by
      induction i with
      | zero => intro _; exact t0
      | succ i ih => intro q; exact RDn_tk (st_rd h h1 h2 h6 (i := i) (by omega)) (ih (by omega))
    have := (key i (by omega) z m.1 zk (by omega)).2.1
    omega
  exact ⟨z.2.1, tk, s1, s2, fun q hq => LIFE_P hR h h7 (by omega) h1 h2 h6 (by omega) m.1 m.2 (by omega) hq⟩

