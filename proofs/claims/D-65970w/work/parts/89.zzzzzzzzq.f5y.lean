-- the FETCH letters of a sample whose token is dropped in dead rounds: all but own and pending ones are never accepted
theorem lb_up {L s0 : Nat} {τ : Nat → qS} (hR : RNN L τ) {A : Nat → List (Ms × Nat × Nat)} {ρ : Nat → qS × qS × qS} {B : Nat → List (Ms × Nat × Nat) × List (Ms × Nat × Nat) × List (Ms × Nat × Nat)} (h : ANC2 L s0 τ A ρ B) {s y : Nat} (T0 : s0 ≤ y) (hs : s ≤ y) (h0 : lbS s (A y)) : ∀ d, y + d ≤ 7 * L → lbS s (A (y + d))
  | 0, _ => h0
  | d + 1, hl => lb_dn hR h (T := y + d) (by omega) (by omega) (by omega) (lb_up hR h T0 hs h0 d (by omega))
theorem F5Y {L s0 : Nat} {τ : Nat → qS} (hR : RNN L τ) (hs : ∀ t, t ≤ 7 * L → psame (τ 0) (τ t)) {A : Nat → List (Ms × Nat × Nat)} {ρ : Nat → qS × qS × qS} {B : Nat → List (Ms × Nat × Nat) × List (Ms × Nat × Nat) × List (Ms × Nat × Nat)} (h2c : ANC2 L s0 τ A ρ B) (h7 : 224 ≤ s0) {t : Nat} (h1 : s0 + 900 ≤ t) (h2 : t + 224 ≤ 7 * L) {y0 : Nat} (hy0 : t ≤ y0) (lb : lbS t (A y0)) (hd : ∀ φ, t ≤ φ → φ < y0 → ¬ FRk L s0 τ A B φ) : zF (τ t) ≤ ctq (fun b => NAb L s0 τ A ρ B b ∧ F5b A t b) (t - 223) 224 + ctq (fun b => PNk L s0 τ A ρ B b ∧ F5b A t b) (t - 223) 224 + 7 := by
  have h := h2c.1
  obtain ⟨br, f⟩ := F5n hR h.1 h7 (t := t) (by omega) (by omega)
  have o6 := OWs_6 hR h (s := t) (x := t - 223) (by omega) 224
  have c1 := ctq_or (P := F5b A t) (Q := fun b => (NAb L s0 τ A ρ B b ∧ F5b A t b)) (R := fun b => (((PNk L s0 τ A ρ B b ∧ F5b A t b) ∨ OWs L τ A ρ B t b) ∨ b = t)) (s := t - 223) 224 (fun b b1 b2 q => by
    by_cases c : NAb L s0 τ A ρ B b
    · exact Or.inl ⟨c, q⟩
    right
    obtain ⟨T, T1, T2, ha⟩ : ∃ T, s0 ≤ T ∧ T < 7 * L ∧ ACC τ A ρ B T b := by
      apply Classical.byContradiction
      intro m
      exact c fun t' q1 q2 q3 => m ⟨t', q1, q2, q3⟩
    obtain ⟨y, y1, y5, yb⟩ := q
    obtain ⟨q1, q2⟩ := br b ⟨y, y1, y5, yb⟩
    have t0 := ANR_tb h.1 (b := b) (by omega) (t - s0) (by omega)
    rw [show s0 + (t - s0) = t by omega] at t0
    have pos : 1 ≤ tbc b (A t) := by
      unfold tbc
      exact List.countP_pos_iff.mpr ⟨y, y1, by rw [(tokb_i y).mpr (Or.inl y5), decide_eq_true yb]; rfl⟩
    have late : ∀ T', s0 ≤ T' → T' < 7 * L → ACC τ A ρ B T' b → t ≤ T' := fun T' a1 a2 a3 => by
      apply Classical.byContradiction
      intro m
      have := (ANC_once h (by omega : s0 < b) a1 a2 a3).2.2 t (by omega) (by omega)
      omega
    have af := AF_1 (b := b) (A := A t) (by split at t0 <;> omega) y1 y5 yb
    obtain ⟨φ, i, f1, f2, hi, hr⟩ := F5R hR h h7 (t := t) (b := b) (T := T) (by omega) (by omega) q2 af (late T T1 T2 ha) T2 ha
    have rb := rd5_b hR h h7 (by omega) (by omega) hi hr
    by_cases cφ : φ < y0
    · left
      rcases DKn hR hs h h7 (by omega) (by omega) hi hr c (hd φ f1 cφ) with g | g
      · obtain ⟨t', a1, a2, a3, a4⟩ := g
        exact Or.inr ⟨q2, t', late t' a1 a2 a3, a2, a3, a4⟩
      · exact Or.inl ⟨g, y, y1, y5, yb⟩
    · right
      have lφ := lb_up hR h2c (s := t) (y := y0) (by omega) (by omega) lb (φ - y0) (by omega)
      rw [show y0 + (φ - y0) = φ by omega] at lφ
      obtain ⟨f6, x, xb, xh, -, x5⟩ := hr
      have xA := st_f5 h (by omega) (by omega) f6 i (by omega) x (hd_mem xh).1 x5
      have fs := ANR_fs h.1 (φ - s0) (by omega)
      rw [show s0 + (φ - s0) = φ by omega] at fs
      have e := fs x xA x5
      have l := lφ x xA
      omega)
  have c3 := ctq_or (P := fun b => (((PNk L s0 τ A ρ B b ∧ F5b A t b) ∨ OWs L τ A ρ B t b) ∨ b = t)) (Q := fun b => ((PNk L s0 τ A ρ B b ∧ F5b A t b) ∨ OWs L τ A ρ B t b)) (R := fun b => b = t) (s := t - 223) 224 (fun b _ _ q => q)
  have c4 := ctq_one (P := fun b => b = t) (s := t - 223) 224 (fun b b' _ _ _ _ e e' => by omega)
  have c2 := ctq_or (P := fun b => ((PNk L s0 τ A ρ B b ∧ F5b A t b) ∨ OWs L τ A ρ B t b)) (Q := fun b => (PNk L s0 τ A ρ B b ∧ F5b A t b)) (R := OWs L τ A ρ B t) (s := t - 223) 224 (fun b _ _ q => q)
  omega

