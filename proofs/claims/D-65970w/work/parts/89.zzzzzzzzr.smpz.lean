-- how a sample in dead rounds pays: XK ticks in all rounds but one, or lost names
theorem tb_pos {s : Nat} {C : List (Ms × Nat × Nat)} {y : Ms × Nat × Nat} (hy : y ∈ C) (ty : tokb y = true) (yb : y.2.2 = s) : 1 ≤ tbc s C := by
  unfold tbc
  exact List.countP_pos_iff.mpr ⟨y, hy, by rw [ty, decide_eq_true yb]; rfl⟩
theorem SMPz {L s0 : Nat} {τ : Nat → qS} (hR : RNN L τ) (hs : ∀ t, t ≤ 7 * L → psame (τ 0) (τ t)) {A : Nat → List (Ms × Nat × Nat)} {ρ : Nat → qS × qS × qS} {B : Nat → List (Ms × Nat × Nat) × List (Ms × Nat × Nat) × List (Ms × Nat × Nat)} (h : ANC2 L s0 τ A ρ B) (h7 : 224 ≤ s0) {w : Nat} (hw : w < 6) {t : Nat} (ht : t % 7 = w) (h1 : 7 * 145 ≤ t) (h2 : t + 300 ≤ 7 * L) (hl : LKs (τ (t + 1)) w) {i s : Nat} (i1 : 1 ≤ i) (i2 : i ≤ 11) (es : s = t + 1 - 91 * i) (js : s0 + 900 ≤ s) {n m : Nat} (em : m = n + 1) (hn : n ≤ 12) (hd : ∀ φ, s ≤ φ → φ < s + 7 * m → ¬ FRk L s0 τ A B φ) : (∃ T, n ≤ ctq (CXr A B s T) (s / 7 + 1) n + 1) ∨ 87 ≤ ctq (fun b => NAb L s0 τ A ρ B b ∧ F5b A s b) (s - 223) 224 + ctq (fun b => PNk L s0 τ A ρ B b ∧ F5b A s b) (s - 223) 224 + 3 * m + (ctq (OWv τ 0) s (7 * m) + ctq (OWv τ 1) s (7 * m) + ctq (OWv τ 2) s (7 * m) + ctq (OWv τ 3) s (7 * m) + ctq (OWv τ 4) s (7 * m) + ctq (OWv τ 5) s (7 * m)) + ctq (LKt τ) s (7 * m) := by
  rcases SMPdx hR h h7 hw ht h1 (by omega) hl i1 i2 es (by omega) em hn with a | a
  · exact Or.inl a
  have ha : τ s 65 (w : Int) = 1 := by rw [es]; exact lk_age hR hw ht h1 (by omega) hl i1 i2
  have es' : s = t + 1 - 7 * (13 * i) := by omega
  obtain ⟨-, v1, -⟩ := lk_wait hR hw ht h1 (by omega) hl (13 * i - 1) (by omega)
  rw [show 13 * i - 1 + 1 = 13 * i by omega, ← es'] at v1
  obtain ⟨u, eu⟩ : ∃ u, s = u + 1 := ⟨s - 1, by omega⟩
  have u7 : u % 7 = w := by omega
  have fe1 : fe (τ s) (w : Int) = 1 := by unfold fe; exact if_pos ⟨v1, ha⟩
  obtain ⟨y, y1, y5, yw, ya, ys, yb⟩ := BIRTH2 h (u := u) (by omega) (by omega) (by omega) (by rw [u7, ← eu]; exact fe1)
  rw [u7] at yw ya
  rw [← eu] at y1 ya ys yb
  have e0 := h.1.1.2.1 s (by omega) (by omega)
  have ym : y.1 ∈ ln (τ s) := by rw [← e0]; exact List.mem_map_of_mem (KA_mem y1)
  obtain ⟨b1, b2⟩ := lt5_b hR (by omega) (by omega) ym y5
  have y6 : y.1.1 ≠ 6 := by omega
  have sm := SMPm2 hR h h7 hw ht h1 (by omega) hl (j := 13 * i) (by omega) (by omega) es' (by omega) y5 yw yb ys y6 (KA_mem y1) (7 * n + 6) (by omega)
  rcases sm with ⟨-, g⟩ | ⟨k0, -, -, -, z, z1, z2, z3, z4, z5⟩ | g
  · exact Or.inl (ALVc hR h h7 hw ht h1 (by omega) hl (j := 13 * i) (by omega) (by omega) es' (by omega) ha rfl (by omega) (tb_pos g ((tokb_i y).mpr (Or.inl y5)) yb))
  · exact Or.inl (ALVc hR h h7 hw ht h1 (by omega) hl (j := 13 * i) (by omega) (by omega) es' (by omega) ha rfl (by omega) (tb_pos z1 ((tokb_i z).mpr (Or.inr z4)) z2))
  · right
    have f := F5Y hR hs h h7 (t := s) (by omega) (by omega) (y0 := s + (7 * n + 6)) (by omega) g (fun φ p1 p2 => hd φ p1 (by omega))
    omega

