theorem AF_1 {b : Nat} {A : List (Ms × Nat × Nat)} (h : tbc b A ≤ 1) {y : Ms × Nat × Nat} (hy : y ∈ A) (y5 : xw y.1 0 = 5) (yb : y.2.2 = b) : AF b A := fun x hx xb x6 => by
  obtain ⟨p, q, e⟩ := List.append_of_mem hy
  have py : (tokb y && decide (y.2.2 = b)) = true := by rw [(tokb_i y).mpr (Or.inl y5), decide_eq_true yb]; rfl
  have px : (tokb x && decide (x.2.2 = b)) = true := by rw [(tokb_i x).mpr (Or.inr x6), decide_eq_true xb]; rfl
  unfold tbc at h
  rw [e, List.countP_append, List.countP_cons, if_pos py] at h
  rw [e, List.mem_append, List.mem_cons] at hx
  rcases hx with hx | hx | hx
  · have := List.countP_pos_iff (p := fun x : Ms × Nat × Nat => tokb x && decide (x.2.2 = b)) |>.mpr ⟨x, hx, px⟩
    omega
  · rw [hx] at x6; omega
  · have := List.countP_pos_iff (p := fun x : Ms × Nat × Nat => tokb x && decide (x.2.2 = b)) |>.mpr ⟨x, hx, px⟩
    omega
-- the FETCH letters of a line that is followed by 32 dead rounds: all but own and pending ones are never accepted
theorem F5Z {L s0 : Nat} {τ : Nat → qS} (hR : RNN L τ) (hs : ∀ t, t ≤ 7 * L → psame (τ 0) (τ t)) {A : Nat → List (Ms × Nat × Nat)} {ρ : Nat → qS × qS × qS} {B : Nat → List (Ms × Nat × Nat) × List (Ms × Nat × Nat) × List (Ms × Nat × Nat)} (h : ANC L s0 τ A ρ B) (h7 : 224 ≤ s0) {t : Nat} (h1 : s0 + 900 ≤ t) (h2 : t + 224 ≤ 7 * L) (hd : ∀ φ, t ≤ φ → φ < t + 224 → ¬ FRk L s0 τ A B φ) : zF (τ t) ≤ ctq (fun b => NAb L s0 τ A ρ B b ∧ F5b A t b) (t - 223) 224 + ctq (fun b => PNk L s0 τ A ρ B b ∧ F5b A t b) (t - 223) 224 + 6 := by
  obtain ⟨br, f⟩ := F5n hR h.1 h7 (t := t) (by omega) (by omega)
  have o6 := OWs_6 hR h (s := t) (x := t - 223) (by omega) 224
  have c1 := ctq_or (P := F5b A t) (Q := fun b => (NAb L s0 τ A ρ B b ∧ F5b A t b)) (R := fun b => ((PNk L s0 τ A ρ B b ∧ F5b A t b) ∨ OWs L τ A ρ B t b)) (s := t - 223) 224 (fun b b1 b2 q => by
    by_cases c : NAb L s0 τ A ρ B b
    · exact Or.inl ⟨c, q⟩
    right
    obtain ⟨T, T1, T2, ha⟩ : ∃ T, s0 ≤ T ∧ T < 7 * L ∧ ACC τ A ρ B T b := by
      apply Classical.byContradiction
      intro m
      exact c fun t' q1 q2 q3 => m ⟨t', q1, q2, q3⟩
    obtain ⟨y, y1, y5, yb⟩ := q
    obtain ⟨q1, q2⟩ := br b ⟨y, y1, y5, yb⟩
    have t0 := ANR_tb h.1 (b := b) (by omega) (t - s0) (by omega)
    rw [show s0 + (t - s0) = t by omega] at t0
    have pos : 1 ≤ tbc b (A t) := by
      unfold tbc
      exact List.countP_pos_iff.mpr ⟨y, y1, by rw [(tokb_i y).mpr (Or.inl y5), decide_eq_true yb]; rfl⟩
    have late : ∀ T', s0 ≤ T' → T' < 7 * L → ACC τ A ρ B T' b → t ≤ T' := fun T' a1 a2 a3 => by
      apply Classical.byContradiction
      intro m
      have := (ANC_once h (by omega : s0 < b) a1 a2 a3).2.2 t (by omega) (by omega)
      omega
    have af := AF_1 (b := b) (A := A t) (by split at t0 <;> omega) y1 y5 yb
    obtain ⟨φ, i, f1, f2, hi, hr⟩ := F5R hR h h7 (t := t) (b := b) (T := T) (by omega) (by omega) q2 af (late T T1 T2 ha) T2 ha
    have rb := rd5_b hR h h7 (by omega) (by omega) hi hr
    rcases DKn hR hs h h7 (by omega) (by omega) hi hr c (hd φ f1 (by omega)) with g | g
    · obtain ⟨t', a1, a2, a3, a4⟩ := g
      exact Or.inr ⟨q2, t', late t' a1 a2 a3, a2, a3, a4⟩
    · exact Or.inl ⟨g, y, y1, y5, yb⟩)
  have c2 := ctq_or (P := fun b => ((PNk L s0 τ A ρ B b ∧ F5b A t b) ∨ OWs L τ A ρ B t b)) (Q := fun b => (PNk L s0 τ A ρ B b ∧ F5b A t b)) (R := OWs L τ A ρ B t) (s := t - 223) 224 (fun b _ _ q => q)
  omega

