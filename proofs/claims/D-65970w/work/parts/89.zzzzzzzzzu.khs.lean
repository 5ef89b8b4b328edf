-- MUN, KHs: between the stamp of a GIVE of a part and a later time with an undone split a LACKS is heard
theorem MUN {L : Nat} {τ : Nat → qS} (hR : RNN L τ) {T : Nat} (hm : mapd (τ T)) : ∀ k, T + k ≤ 7 * L → ¬ mapd (τ (T + k)) → ∃ t, T ≤ t ∧ t < T + k ∧ H7t τ t
  | 0, _, n => absurd hm n
  | k + 1, hl, n => by
    by_cases c : mapd (τ (T + k))
    · rcases mp_st hR (t := T + k) (by omega) c with m | m
      · exact absurd m n
      · exact ⟨T + k, by omega, by omega, m⟩
    · obtain ⟨t, t1, t2, t3⟩ := MUN hR hm k (by omega) c
      exact ⟨t, t1, by omega, t3⟩
theorem KHs {L s0 : Nat} {τ : Nat → qS} (hR : RNN L τ) {A : Nat → List (Ms × Nat × Nat)} {ρ : Nat → qS × qS × qS} {B : Nat → List (Ms × Nat × Nat) × List (Ms × Nat × Nat) × List (Ms × Nat × Nat)} (h : ANC L s0 τ A ρ B) {v x i κ : Nat} {y : Ms × Nat × Nat} (hv : v < 6) (x0 : s0 ≤ x) (xl : x < 7 * L) (xv : x % 7 = v) (hi : i < 3) (hy : hdA v (stA A B x i) y) (y2 : xw y.1 0 = 2) (yp : 38 ≤ xw y.1 2) (yg : s0 + 8 ≤ y.2.1) (yκ : y.2.1 ≤ κ) (kl : κ ≤ 7 * L) (nm : ¬ mapd (τ κ)) : ∃ t, y.2.1 ≤ t + 1 ∧ t < κ ∧ H7t τ t := by
  have mA := st_gv h x0 xl (by omega) i (by omega) y (hd_mem hy).1 y2
  have q := GVs h.1 (x - s0) (by omega) y (by rw [show s0 + (x - s0) = x by omega]; exact mA) y2 (by omega)
  have mp : MPt A (y.2.1 - 1) := ⟨by omega, y, by rw [show y.2.1 - 1 + 1 = y.2.1 by omega]; exact q.2.2, y2, yp, by omega⟩
  rcases MP_m hR h.1 (c := y.2.1 - 1) (by omega) (by omega) (by omega) mp with m | m
  · rw [show y.2.1 - 1 + 1 = y.2.1 by omega] at m
    obtain ⟨t, t1, t2, t3⟩ := MUN hR m (κ - y.2.1) (by omega) (by rw [show y.2.1 + (κ - y.2.1) = κ by omega]; exact nm)
    exact ⟨t, by omega, by omega, t3⟩
  · exact ⟨y.2.1 - 1, by omega, by omega, mp.1, m⟩

