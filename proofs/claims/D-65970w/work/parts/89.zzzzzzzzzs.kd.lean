-- K32d: tokens of a worker after a GIVE whose stamp is d rounds after its last FETCH tick: at most 32 - d
theorem K32d {L s0 : Nat} {τ : Nat → qS} (hR : RNN L τ) {A : Nat → List (Ms × Nat × Nat)} {ρ : Nat → qS × qS × qS} {B : Nat → List (Ms × Nat × Nat) × List (Ms × Nat × Nat) × List (Ms × Nat × Nat)} (h : ANC L s0 τ A ρ B) (h7 : 224 ≤ s0) {v : Nat} (hv : v < 6) {S i : Nat} (h1 : s0 ≤ S) (h2 : S < 7 * L) (hS : S % 7 = v) (hi : i < 3) {y : Ms × Nat × Nat} (hy : hdA v (stA A B S i) y) (y2 : xw y.1 0 = 2) (yg : s0 + 224 ≤ y.2.1) {T : Nat} (hT : S < T) (hl : T ≤ 7 * L) {d : Nat} (d32 : d ≤ 32) (hd : ∀ b, y.2.1 < b + 7 * d → b ≤ y.2.1 → fe (τ b) (v : Int) = 0) : kvg v y.2.1 (A T) ≤ 32 - d := by
  have tk := ANR_tk h.1 (T - s0) (by omega)
  rw [show s0 + (T - s0) = T by omega] at tk
  have born : ∀ z ∈ A T, (decide (tokb z = true ∧ asr z.1 = v ∧ z.2.2 ≤ y.2.1)) = true → y.2.1 - 223 ≤ z.2.2 ∧ z.2.2 < y.2.1 - 223 + 7 * (32 - d) := fun z hz hp => by
    have hp' := of_decide_eq_true hp
    have b := TKborn hR h h7 hv h1 h2 hS hi hy y2 yg hT hl hz hp'.1 hp'.2.1 hp'.2.2
    obtain ⟨-, -, -, u, u1, u2, u3, u4⟩ := tk z hz hp'.1 (by omega)
    have ev : (u : Int) = (v : Int) := by rw [← u3]; exact hp'.2.1
    refine ⟨by omega, ?_⟩
    apply Classical.byContradiction
    intro nn
    have z0 := hd z.2.2 (by omega) hp'.2.2
    rw [← ev] at z0
    omega
  have a := cp_rng (fun z => decide (tokb z = true ∧ asr z.1 = v ∧ z.2.2 ≤ y.2.1)) (s := y.2.1 - 223) (k := 7 * (32 - d)) (A T) born
  have one : ∀ b, s0 < b → (A T).countP (fun z => decide (tokb z = true ∧ asr z.1 = v ∧ z.2.2 ≤ y.2.1) && decide (z.2.2 = b)) ≤ 1 := fun b c => by
    have t1 := ANR_tb h.1 c (T - s0) (by omega)
    rw [show s0 + (T - s0) = T by omega] at t1
    have le : (A T).countP (fun z => decide (tokb z = true ∧ asr z.1 = v ∧ z.2.2 ≤ y.2.1) && decide (z.2.2 = b)) ≤ tbc b (A T) := by
      unfold tbc
      refine List.countP_mono_left (fun z _ hh => ?_)
      rw [Bool.and_eq_true] at hh ⊢
      exact ⟨(of_decide_eq_true hh.1).1, hh.2⟩
    have : tbc b (A T) ≤ 1 := by
      split at t1 <;> omega
    omega
  have oth : ∀ b, (b - 1) % 7 ≠ v → s0 < b → (A T).countP (fun z => decide (tokb z = true ∧ asr z.1 = v ∧ z.2.2 ≤ y.2.1) && decide (z.2.2 = b)) = 0 := fun b hb c => by
    rw [List.countP_eq_zero]
    intro z hz hh
    rw [Bool.and_eq_true] at hh
    have p := of_decide_eq_true hh.1
    have e := of_decide_eq_true hh.2
    obtain ⟨-, -, -, u, u1, u2, u3, -⟩ := tk z hz p.1 (by omega)
    rw [p.2.1] at u3
    rw [e] at u2
    exact hb (by omega)
  have b := smq_7 (f := fun b => if s0 < b then (A T).countP (fun z => decide (tokb z = true ∧ asr z.1 = v ∧ z.2.2 ≤ y.2.1) && decide (z.2.2 = b)) else 0) (v := v) (by omega) (fun b => by
    show (if s0 < b then _ else 0) ≤ 1
    by_cases c : s0 < b
    · rw [if_pos c]; exact one b c
    · rw [if_neg c]; omega) (fun b hb => by
    show (if s0 < b then _ else 0) = 0
    by_cases c : s0 < b
    · rw [if_pos c]; exact oth b hb c
    · rw [if_neg c]) (32 - d) (y.2.1 - 223) (by omega)
  have c := smq_le (f := fun b => (A T).countP (fun z => decide (tokb z = true ∧ asr z.1 = v ∧ z.2.2 ≤ y.2.1) && decide (z.2.2 = b))) (g := fun b => if s0 < b then (A T).countP (fun z => decide (tokb z = true ∧ asr z.1 = v ∧ z.2.2 ≤ y.2.1) && decide (z.2.2 = b)) else 0) (s := y.2.1 - 223) (7 * (32 - d)) (fun i hi => by
    show (A T).countP (fun z => decide (tokb z = true ∧ asr z.1 = v ∧ z.2.2 ≤ y.2.1) && decide (z.2.2 = y.2.1 - 223 + i)) ≤ (if s0 < y.2.1 - 223 + i then _ else 0)
    rw [if_pos (by omega)]
    exact Nat.le_refl _)
  unfold kvg
  omega

