-- the names of the FETCH letters on the line
def F5b (A : Nat → List (Ms × Nat × Nat)) (t b : Nat) : Prop := ∃ y ∈ A t, xw y.1 0 = 5 ∧ y.2.2 = b
theorem F5n {L s0 : Nat} {τ : Nat → qS} (hR : RNN L τ) {A : Nat → List (Ms × Nat × Nat)} (h : ANR L s0 τ A) (h7 : 224 ≤ s0) {t : Nat} (ht : s0 + 224 ≤ t) (hl : t ≤ 7 * L) : (∀ b, F5b A t b → t - 223 ≤ b ∧ b ≤ t) ∧ zF (τ t) ≤ ctq (F5b A t) (t - 223) 224 := by
  have fs := ANR_fs h (t - s0) (by omega)
  rw [show s0 + (t - s0) = t by omega] at fs
  have sr := ANR_srt h (t - s0) (by omega)
  rw [show s0 + (t - s0) = t by omega] at sr
  have e0 := h.2.1 t (by omega) hl
  have born : ∀ y ∈ A t, t5 y.1 = true → t - 223 ≤ y.2.2 ∧ y.2.2 < t - 223 + 224 := fun y hy hp => by
    have hp' := (t5_i y.1).mp hp
    obtain ⟨w1, w2⟩ := lt5_b hR (by omega) hl (by rw [← e0]; exact List.mem_map_of_mem hy) hp'
    have l := run_95 hR (by omega) (by omega : 7 ≤ t - 224) (by omega)
    have cl : cn ((y.1.1.toNat : Nat) : Int) (ln (τ (t - 224))) ≤ 3 * 32 := by
      have : cn ((y.1.1.toNat : Nat) : Int) (ln (τ (t - 224))) ≤ (ln (τ (t - 224))).length := List.countP_le_length
      omega
    have ag := AGE hR h (t0 := t - 224) (by omega) (by omega) (v := y.1.1.toNat) (by omega) (r := 32) cl (by omega)
    rw [show t - 224 + 7 * 32 = t by omega] at ag
    have st := ag y hy (by omega)
    have e := fs y hy hp'
    have m := sr.2 y hy
    omega
  refine ⟨fun b ⟨y, y1, y2, y3⟩ => ?_, ?_⟩
  · have := born y y1 ((t5_i y.1).mpr y2)
    omega
  · have z : zF (τ t) = f5A (A t) := by rw [f5_pr, e0]; rfl
    rw [z]
    have a := cp_rng (fun y => t5 y.1) (s := t - 223) (k := 224) (A t) born
    have b := ctq_sm (P := F5b A t) (f := fun b => (A t).countP (fun y => t5 y.1 && decide (y.2.2 = b))) (s := t - 223) 224 (fun b b1 b2 => by
      refine ⟨?_, fun e => ?_⟩
      · have t1 := ANR_tb h (b := b) (by omega) (t - s0) (by omega)
        rw [show s0 + (t - s0) = t by omega] at t1
        have le : (A t).countP (fun y => t5 y.1 && decide (y.2.2 = b)) ≤ tbc b (A t) := by
          unfold tbc
          refine List.countP_mono_left (fun y _ hh => ?_)
          rw [Bool.and_eq_true] at hh ⊢
          exact ⟨(tokb_i y).mpr (Or.inl ((t5_i y.1).mp hh.1)), hh.2⟩
        have : tbc b (A t) ≤ 1 := by
          split at t1 <;> omega
        show (A t).countP (fun y => t5 y.1 && decide (y.2.2 = b)) ≤ 1
        omega
      · have e' : (A t).countP (fun y => t5 y.1 && decide (y.2.2 = b)) = 1 := e
        obtain ⟨y, y1, y2⟩ := List.countP_pos_iff.mp (by omega : 0 < (A t).countP (fun y => t5 y.1 && decide (y.2.2 = b)))
        rw [Bool.and_eq_true] at y2
        exact ⟨y, y1, (t5_i y.1).mp y2.1, of_decide_eq_true y2.2⟩)
    unfold f5A
    omega

