theorem ctq_one {P : Nat → Prop} {s : Nat} : ∀ k, (∀ t t', s ≤ t → t < s + k → s ≤ t' → t' < s + k → P t → P t' → t = t') → ctq P s k ≤ 1
  | 0, _ => by simp [ctq]
  | k + 1, h => by
    have ih := ctq_one k (fun t t' a b c d => h t t' a (by omega) c (by omega))
    simp only [ctq]
    by_cases c : P (s + k)
    · rw [if_pos c]
      have z : ctq P s k = 0 := by
        apply Classical.byContradiction
        intro n
        have key : ∀ j, j ≤ k → ctq P s j ≠ 0 → ∃ x, s ≤ x ∧ x < s + j ∧ P x := fun j => by
          induction j with
          | zero => intro _ q; exact absurd rfl q
          | succ j ij =>
            intro p q
            simp only [ctq] at q
            by_cases e : P (s + j)
            · exact ⟨s + j, by omega, by omega, e⟩
            · rw [if_neg e] at q
              obtain ⟨x, x1, x2, x3⟩ := ij (by omega) (by omega)
              exact ⟨x, x1, by omega, x3⟩
        obtain ⟨x, x1, x2, x3⟩ := key k (Nat.le_refl _) n
        have := h x (s + k) x1 (by omega) (by omega) (by omega) x3 c
        omega
      omega
    · rw [if_neg c]
      omega
theorem KTOT {L s0 : Nat} {τ : Nat → qS} (hR : RNN L τ) {A : Nat → List (Ms × Nat × Nat)} {ρ : Nat → qS × qS × qS} {B : Nat → List (Ms × Nat × Nat) × List (Ms × Nat × Nat) × List (Ms × Nat × Nat)} (h : ANC L s0 τ A ρ B) (h7 : 224 ≤ s0) {v : Nat} (hv : v < 6) {s1 Λ y R0 : Nat} (hs : s0 ≤ s1) (sy : s1 + 448 < y) (hy : RUNL L τ v y) (hL : ∀ t b, s1 < b → t < 7 * L → t % 7 = v → ACC τ A ρ B t b → t ≤ b + Λ) (hR0 : ∀ r a, s1 < r → r ≤ a → y - 447 ≤ a → a ≤ y → a ≤ r + Λ * ctq (SPk τ v) r (a - r) → R0 ≤ r) (hRy : R0 ≤ y) : (A y).countP (fun z => decide (tokb z = true ∧ asr z.1 = v)) ≤ 1 + ctq (RTq τ A ρ B v s1) R0 (y - R0) + ctq (TOb τ v) (y - 447) 448 := by
  have yl := hy.1
  have tk := ANR_tk h.1 (y - s0) (by omega)
  rw [show s0 + (y - s0) = y by omega] at tk
  have born : ∀ z ∈ A y, (decide (tokb z = true ∧ asr z.1 = v)) = true → y - 447 ≤ z.2.2 ∧ z.2.2 < y - 447 + 448 := fun z hz hp => by
    have p := of_decide_eq_true hp
    have li := LIFE64 hR h.1 h7 (by omega) (by omega) hz p.1
    have b1 := (tk z hz p.1 (by omega)).1
    omega
  have a := cp_rng (fun z => decide (tokb z = true ∧ asr z.1 = v)) (s := y - 447) (k := 448) (A y) born
  have c := ctq_sm (P := fun b => 1 ≤ tbc b (A y) ∧ (b - 1) % 7 = v ∧ fe (τ b) (v : Int) = 1) (f := fun b => (A y).countP (fun z => decide (tokb z = true ∧ asr z.1 = v) && decide (z.2.2 = b))) (s := y - 447) 448 (fun b b1 b2 => by
    have le : (A y).countP (fun z => decide (tokb z = true ∧ asr z.1 = v) && decide (z.2.2 = b)) ≤ tbc b (A y) := by
      unfold tbc
      refine List.countP_mono_left (fun z _ hh => ?_)
      rw [Bool.and_eq_true] at hh ⊢
      exact ⟨(of_decide_eq_true hh.1).1, hh.2⟩
    have tb := ANR_tb h.1 (b := b) (by omega) (y - s0) (by omega)
    rw [show s0 + (y - s0) = y by omega] at tb
    have t1 : tbc b (A y) ≤ 1 := by
      split at tb <;> omega
    refine ⟨by show (A y).countP (fun z => decide (tokb z = true ∧ asr z.1 = v) && decide (z.2.2 = b)) ≤ 1; omega, fun e => ?_⟩
    have e' : (A y).countP (fun z => decide (tokb z = true ∧ asr z.1 = v) && decide (z.2.2 = b)) = 1 := e
    obtain ⟨z, hz, hp⟩ := List.countP_pos_iff.mp (by omega : 0 < (A y).countP (fun z => decide (tokb z = true ∧ asr z.1 = v) && decide (z.2.2 = b)))
    rw [Bool.and_eq_true] at hp
    have p := of_decide_eq_true hp.1
    have eb := of_decide_eq_true hp.2
    obtain ⟨-, -, -, u, u1, u2, u3, -, u5⟩ := tk z hz p.1 (by omega)
    rw [p.2] at u3
    have uv : u = v := by omega
    subst uv
    rw [eb] at u2 u5
    exact ⟨by omega, u2, u5⟩)
  have o1 := ctq_or (P := fun b => 1 ≤ tbc b (A y) ∧ (b - 1) % 7 = v ∧ fe (τ b) (v : Int) = 1) (Q := TOb τ v) (R := fun b => ATk τ v b ∧ 1 ≤ tbc b (A y)) (s := y - 447) 448 (fun b b1 b2 hp => by
    by_cases cg : CHG τ v (b - 1)
    · exact Or.inr ⟨⟨hp.2.1, by omega, hp.2.2, cg⟩, hp.1⟩
    · exact Or.inl ⟨hp.2.1, hp.2.2, cg⟩)
  have o2 := ctq_or (P := fun b => ATk τ v b ∧ 1 ≤ tbc b (A y)) (Q := AAl τ A v y) (R := fun b => ATk τ v b ∧ STY τ v b y) (s := y - 447) 448 (fun b b1 b2 hp => by
    by_cases st : STY τ v b y
    · exact Or.inr ⟨hp.1, st⟩
    · exact Or.inl ⟨hp.1, hp.2, st⟩)
  have o3 := ctq_one (P := fun b => ATk τ v b ∧ STY τ v b y) (s := y - 447) 448 (fun t t' q1 q2 q3 q4 p p' => sty_2 p.1 p'.1 p.2 p'.2 (by omega) (by omega))
  have k := KARR hR h hv (s2 := y - 447) hs (by omega) (by omega) hy hL hR0 hRy
  rw [show y + 1 - (y - 447) = 448 by omega] at k
  omega

