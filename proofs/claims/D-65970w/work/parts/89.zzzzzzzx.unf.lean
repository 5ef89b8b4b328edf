theorem cp_or {p q r : Ms × Nat × Nat → Bool} : ∀ A : List (Ms × Nat × Nat), (∀ y ∈ A, p y = true → q y = true ∨ r y = true) → A.countP p ≤ A.countP q + A.countP r
  | [], _ => Nat.zero_le _
  | y :: A, h => by
    have ih := cp_or A (fun x hx => h x (List.mem_cons_of_mem _ hx))
    rw [List.countP_cons, List.countP_cons, List.countP_cons]
    by_cases c : p y = true
    · rw [if_pos c]
      rcases h y List.mem_cons_self c with d | d
      · rw [if_pos d]; omega
      · rw [if_pos d]; omega
    · rw [if_neg c]; omega
-- a round that is not covered has few FETCH letters
theorem UNF {L s0 : Nat} {τ : Nat → qS} (hR : RNN L τ) {A : Nat → List (Ms × Nat × Nat)} {ρ : Nat → qS × qS × qS} {B : Nat → List (Ms × Nat × Nat) × List (Ms × Nat × Nat) × List (Ms × Nat × Nat)} (h : ANC2 L s0 τ A ρ B) (h7 : 224 ≤ s0) {r : Nat} (h1 : s0 + 224 ≤ 7 * r) (h2 : 7 * r + 7 ≤ 7 * L) (hc : ¬ CVr A r) : zF (τ (7 * r)) ≤ 26 + (ow (τ (7 * r + 1)) 0 + ow (τ (7 * r + 2)) 1 + ow (τ (7 * r + 3)) 2 + ow (τ (7 * r + 4)) 3 + ow (τ (7 * r + 5)) 4 + ow (τ (7 * r + 6)) 5) := by
  have o := OLD hR h (r := r) (by omega) (by omega) h2 hc
  obtain ⟨t, et⟩ : ∃ t, t = 7 * r := ⟨_, rfl⟩
  rw [← et] at o ⊢
  have e0 := h.1.1.2.1 t (by omega) (by omega)
  have fs := ANR_fs h.1.1 (t - s0) (by omega)
  rw [show s0 + (t - s0) = t by omega] at fs
  have sr := ANR_srt h.1.1 (t - s0) (by omega)
  rw [show s0 + (t - s0) = t by omega] at sr
  have z : zF (τ t) = f5A (A t) := by rw [f5_pr, e0]; rfl
  have c := cp_or (p := fun y => t5 y.1) (q := fun y => decide (y.2.1 ≤ t - 14 ∧ ((0 : Nat) : Int) ≤ y.1.1 ∧ y.1.1 < 6)) (r := fun y => decide (xw y.1 0 = 5 ∧ t - 14 < y.2.1)) (A t) (fun y hy p5 => by
    have y5 := (t5_i y.1).mp p5
    have a := lt5_b hR (t := t) (by omega) (by omega) (by rw [← e0]; exact List.mem_map_of_mem hy) y5
    by_cases d : y.2.1 ≤ t - 14
    · exact Or.inl (decide_eq_true ⟨d, a.1, a.2⟩)
    · exact Or.inr (decide_eq_true ⟨y5, by omega⟩))
  have a := cp_rng (fun y => decide (xw y.1 0 = 5 ∧ t - 14 < y.2.1)) (s := t - 13) (k := 14) (A t) (fun y hy q => by
    obtain ⟨q1, q2⟩ := of_decide_eq_true q
    have := fs y hy q1
    have := sr.2 y hy
    omega)
  have b := ctq_sm (P := fun _ => True) (f := fun b => (A t).countP (fun y => decide (xw y.1 0 = 5 ∧ t - 14 < y.2.1) && decide (y.2.2 = b))) (s := t - 13) 14 (fun b b1 b2 => by
    refine ⟨?_, fun _ => trivial⟩
    have t1 := ANR_tb h.1.1 (b := b) (by omega) (t - s0) (by omega)
    rw [show s0 + (t - s0) = t by omega] at t1
    have le : (A t).countP (fun y => decide (xw y.1 0 = 5 ∧ t - 14 < y.2.1) && decide (y.2.2 = b)) ≤ tbc b (A t) := by
      unfold tbc
      refine List.countP_mono_left (fun y _ hh => ?_)
      rw [Bool.and_eq_true] at hh ⊢
      exact ⟨(tokb_i y).mpr (Or.inl (of_decide_eq_true hh.1).1), hh.2⟩
    have : tbc b (A t) ≤ 1 := by
      split at t1 <;> omega
    show (A t).countP (fun y => decide (xw y.1 0 = 5 ∧ t - 14 < y.2.1) && decide (y.2.2 = b)) ≤ 1
    omega)
  have l := ctq_le (P := fun _ => True) (s := t - 13) 14
  unfold oW at o
  unfold f5A at z
  omega

