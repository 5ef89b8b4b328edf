-- a round that is not covered has few FETCH letters (sharper)
theorem UNF2 {L s0 : Nat} {τ : Nat → qS} (hR : RNN L τ) {A : Nat → List (Ms × Nat × Nat)} {ρ : Nat → qS × qS × qS} {B : Nat → List (Ms × Nat × Nat) × List (Ms × Nat × Nat) × List (Ms × Nat × Nat)} (h : ANC2 L s0 τ A ρ B) (h7 : 224 ≤ s0) {r : Nat} (h1 : s0 + 224 ≤ 7 * r) (h2 : 7 * r + 7 ≤ 7 * L) (hc : ¬ CVr A r) : zF (τ (7 * r)) ≤ 24 + (ow (τ (7 * r + 1)) 0 + ow (τ (7 * r + 2)) 1 + ow (τ (7 * r + 3)) 2 + ow (τ (7 * r + 4)) 3 + ow (τ (7 * r + 5)) 4 + ow (τ (7 * r + 6)) 5) := by
  have o := OLD hR h (r := r) (by omega) (by omega) h2 hc
  obtain ⟨t, et⟩ : ∃ t, t = 7 * r := ⟨_, rfl⟩
  rw [← et] at o ⊢
  have e0 := h.1.1.2.1 t (by omega) (by omega)
  have fs := ANR_fs h.1.1 (t - s0) (by omega)
  rw [show s0 + (t - s0) = t by omega] at fs
  have sr := ANR_srt h.1.1 (t - s0) (by omega)
  rw [show s0 + (t - s0) = t by omega] at sr
  have z : zF (τ t) = f5A (A t) := by rw [f5_pr, e0]; rfl
  have c := cp_or (p := fun y => t5 y.1) (q := fun y => decide (y.2.1 ≤ t - 14 ∧ ((0 : Nat) : Int) ≤ y.1.1 ∧ y.1.1 < 6)) (r := fun y => decide (xw y.1 0 = 5 ∧ t - 14 < y.2.1)) (A t) (fun y hy p5 => by
    have y5 := (t5_i y.1).mp p5
    have a := lt5_b hR (t := t) (by omega) (by omega) (by rw [← e0]; exact List.mem_map_of_mem hy) y5
    by_cases d : y.2.1 ≤ t - 14
    · exact Or.inl (decide_eq_true ⟨d, a.1, a.2⟩)
    · exact Or.inr (decide_eq_true ⟨y5, by omega⟩))
  have a := cp_rng (fun y => decide (xw y.1 0 = 5 ∧ t - 14 < y.2.1)) (s := t - 13) (k := 14) (A t) (fun y hy q => by
    obtain ⟨q1, q2⟩ := of_decide_eq_true q
    have := fs y hy q1
    have := sr.2 y hy
    omega)
  have b := ctq_sm (P := fun b => (b - 1) % 7 < 6) (f := fun b => (A t).countP (fun y => decide (xw y.1 0 = 5 ∧ t - 14 < y.2.1) && decide (y.2.2 = b))) (s := t - 13) 14 (fun b b1 b2 => by
    refine ⟨?_, fun e1 => ?_⟩
    rotate_left
    · have e2 : (A t).countP (fun y => decide (xw y.1 0 = 5 ∧ t - 14 < y.2.1) && decide (y.2.2 = b)) = 1 := e1
      obtain ⟨y, y1, y2⟩ := List.countP_pos_iff.mp (by omega : 0 < (A t).countP (fun y => decide (xw y.1 0 = 5 ∧ t - 14 < y.2.1) && decide (y.2.2 = b)))
      rw [Bool.and_eq_true] at y2
      have y3 := of_decide_eq_true y2.2
      have tk := ANR_tk h.1.1 (t - s0) (by omega)
      rw [show s0 + (t - s0) = t by omega] at tk
      obtain ⟨-, -, -, w, w6, wb, -⟩ := tk y y1 ((tokb_i y).mpr (Or.inl (of_decide_eq_true y2.1).1)) (by omega)
      show (b - 1) % 7 < 6
      rw [← y3]
      omega
    have t1 := ANR_tb h.1.1 (b := b) (by omega) (t - s0) (by omega)
    rw [show s0 + (t - s0) = t by omega] at t1
    have le : (A t).countP (fun y => decide (xw y.1 0 = 5 ∧ t - 14 < y.2.1) && decide (y.2.2 = b)) ≤ tbc b (A t) := by
      unfold tbc
      refine List.countP_mono_left (fun y _ hh => ?_)
      rw [Bool.and_eq_true] at hh ⊢
      exact ⟨(tokb_i y).mpr (Or.inl (of_decide_eq_true hh.1).1), hh.2⟩
    have : tbc b (A t) ≤ 1 := by
      split at t1 <;> omega
    show (A t).countP (fun y => decide (xw y.1 0 = 5 ∧ t - 14 < y.2.1) && decide (y.2.2 = b)) ≤ 1
    omega)
  have l : ctq (fun b => (b - 1) % 7 < 6) (t - 13) 14 ≤ 12 := by
    have l2 := ctq_2 (P := fun b => (b - 1) % 7 < 6) (Q := fun b => b = t - 7 ∨ b = t) (R := fun _ => True) (s := t - 13) 14 (fun b b1 b2 => ⟨fun _ => trivial, fun _ => trivial, fun ⟨p, q⟩ => by omega⟩)
    have l3 := ctq_le (P := fun _ => True) (s := t - 13) 14
    have l4 := ctq_inj (P := fun _ => True) (f := fun b => if b = 0 then t - 7 else t) (s := 0) (a := t - 13) (m := 14) 2 (fun b => b = t - 7 ∨ b = t) (fun b b1 b2 _ => by
      show t - 13 ≤ (if b = 0 then t - 7 else t) ∧ (if b = 0 then t - 7 else t) < t - 13 + 14 ∧ ((if b = 0 then t - 7 else t) = t - 7 ∨ (if b = 0 then t - 7 else t) = t)
      split <;> omega) (fun b b' b1 b2 b1' b2' _ _ e => by
      have e' : (if b = 0 then t - 7 else t) = (if b' = 0 then t - 7 else t) := e
      split at e' <;> split at e' <;> omega)
    have l5 := ctq_all (P := fun _ => True) (s := 0) 2 (fun _ _ _ => trivial)
    omega
  unfold oW at o
  unfold f5A at z
  omega
theorem zF_j {L : Nat} {τ : Nat → qS} (hR : RNN L τ) {s : Nat} (h1 : 224 ≤ s) : ∀ j, s + j ≤ 7 * L → zF (τ (s + j)) ≤ zF (τ s) + j
  | 0, _ => Nat.le_refl _
  | j + 1, hl => by
    have ih := zF_j hR h1 j (by omega)
    obtain ⟨a2, a5, a6, hr⟩ := RCq_ex hR
    have q := (hr (s + j) (by omega) (by omega)).1
    have g := gq_b τ (s + j)
    rw [show s + (j + 1) = s + j + 1 by omega]
    omega
-- at most one own letter for each tick, two for a LACKS
theorem ow_l (τ : Nat → qS) (t v : Nat) (hv : t % 7 = v) (v6 : v < 6) : ow (τ (t + 1)) (v : Int) ≤ 1 + ctq (LKt τ) t 1 := by
  by_cases c : LKs (τ (t + 1)) (v : Int)
  · have o := ow_2 (τ (t + 1)) (v : Int)
    have p := ctq_pt (P := LKt τ) (s := t) (x := t) 1 (by omega) (by omega) ⟨by omega, by rw [hv]; exact c⟩
    omega
  · have := ow_1 c
    omega
theorem ow_r (τ : Nat → qS) (r : Nat) : ow (τ (7 * r + 1)) 0 + ow (τ (7 * r + 2)) 1 + ow (τ (7 * r + 3)) 2 + ow (τ (7 * r + 4)) 3 + ow (τ (7 * r + 5)) 4 + ow (τ (7 * r + 6)) 5 ≤ 6 + ctq (LKt τ) (7 * r) 6 := by
  have a0 : ow (τ (7 * r + 1)) 0 ≤ _ := ow_l τ (7 * r) 0 (by omega) (by omega)
  have a1 : ow (τ (7 * r + 2)) 1 ≤ _ := ow_l τ (7 * r + 1) 1 (by omega) (by omega)
  have a2 : ow (τ (7 * r + 3)) 2 ≤ _ := ow_l τ (7 * r + 2) 2 (by omega) (by omega)
  have a3 : ow (τ (7 * r + 4)) 3 ≤ _ := ow_l τ (7 * r + 3) 3 (by omega) (by omega)
  have a4 : ow (τ (7 * r + 5)) 4 ≤ _ := ow_l τ (7 * r + 4) 4 (by omega) (by omega)
  have a5 : ow (τ (7 * r + 6)) 5 ≤ _ := ow_l τ (7 * r + 5) 5 (by omega) (by omega)
  have j1 : ctq (LKt τ) (7 * r) 2 = ctq (LKt τ) (7 * r) 1 + ctq (LKt τ) (7 * r + 1) 1 := ctq_jn (P := LKt τ) (s := 7 * r) 1 1
  have j2 : ctq (LKt τ) (7 * r) 3 = ctq (LKt τ) (7 * r) 2 + ctq (LKt τ) (7 * r + 2) 1 := ctq_jn (P := LKt τ) (s := 7 * r) 2 1
  have j3 : ctq (LKt τ) (7 * r) 4 = ctq (LKt τ) (7 * r) 3 + ctq (LKt τ) (7 * r + 3) 1 := ctq_jn (P := LKt τ) (s := 7 * r) 3 1
  have j4 : ctq (LKt τ) (7 * r) 5 = ctq (LKt τ) (7 * r) 4 + ctq (LKt τ) (7 * r + 4) 1 := ctq_jn (P := LKt τ) (s := 7 * r) 4 1
  have j5 : ctq (LKt τ) (7 * r) 6 = ctq (LKt τ) (7 * r) 5 + ctq (LKt τ) (7 * r + 5) 1 := ctq_jn (P := LKt τ) (s := 7 * r) 5 1
  omega
-- FETCH letters at a sample whose round is not covered
theorem UNFs {L s0 : Nat} {τ : Nat → qS} (hR : RNN L τ) {A : Nat → List (Ms × Nat × Nat)} {ρ : Nat → qS × qS × qS} {B : Nat → List (Ms × Nat × Nat) × List (Ms × Nat × Nat) × List (Ms × Nat × Nat)} (h : ANC2 L s0 τ A ρ B) (h7 : 224 ≤ s0) {s : Nat} (h1 : s0 + 231 ≤ s) (h2 : s + 7 ≤ 7 * L) (hc : ¬ CVr A (s / 7)) : zF (τ s) ≤ 30 + s % 7 + ctq (LKt τ) (7 * (s / 7)) 6 := by
  have a := UNF2 hR h h7 (r := s / 7) (by omega) (by omega) hc
  have b := ow_r τ (s / 7)
  have c := zF_j hR (s := 7 * (s / 7)) (by omega) (s % 7) (by omega)
  rw [show 7 * (s / 7) + s % 7 = s by omega] at c
  omega
def zA (σ : qS) : Nat := (ln σ).countP t1
theorem zQ_s (σ : qS) : zQ σ ≤ zF σ + zA σ := by
  unfold zQ zF zA
  generalize ln σ = l
  induction l with
  | nil => exact Nat.zero_le _
  | cons x l ih =>
    rw [List.countP_cons, List.countP_cons, List.countP_cons]
    by_cases c : qa true x = true
    · rw [if_pos c]
      have d : t1 x = true ∨ t5 x = true := by
        unfold qa at c
        simpa using c
      rcases d with d | d
      · rw [if_pos d]; omega
      · rw [if_pos d]; omega
    · rw [if_neg c]; omega
-- a sample of a LACKS wait: its round is covered, or n - 5 of the next n rounds, or many ASKs lie on the line or many letters are sent
theorem SMPe {L s0 : Nat} {τ : Nat → qS} (hR : RNN L τ) {A : Nat → List (Ms × Nat × Nat)} {ρ : Nat → qS × qS × qS} {B : Nat → List (Ms × Nat × Nat) × List (Ms × Nat × Nat) × List (Ms × Nat × Nat)} (h : ANC2 L s0 τ A ρ B) (h7 : 224 ≤ s0) {w : Nat} (hw : w < 6) {t : Nat} (ht : t % 7 = w) (h1 : 7 * 145 ≤ t) (h2 : t + 7 ≤ 7 * L) (hl : LKs (τ (t + 1)) w) {i s : Nat} (i1 : 1 ≤ i) (i2 : i ≤ 11) (es : s = t + 1 - 91 * i) (js : s0 + 231 ≤ s) {n m : Nat} (em : m = n + 1) (hn : n ≤ 12) : CVr A (s / 7) ∨ n ≤ ctq (CVr A) (s / 7 + 1) n + 5 ∨ 58 ≤ min (3 * m) (zA (τ s)) + (ctq (OWv τ 0) s (7 * m) + ctq (OWv τ 1) s (7 * m) + ctq (OWv τ 2) s (7 * m) + ctq (OWv τ 3) s (7 * m) + ctq (OWv τ 4) s (7 * m) + ctq (OWv τ 5) s (7 * m)) + ctq (LKt τ) s (7 * m) + ctq (LKt τ) (7 * (s / 7)) 6 := by
  by_cases c : CVr A (s / 7)
  · exact Or.inl c
  · right
    have u := UNFs hR h h7 (s := s) js (by omega) c
    rcases SMPd hR h h7 hw ht h1 (by omega) hl i1 i2 es (by omega) em hn with a | a
    · exact Or.inl a
    rcases SMPdq hR h h7 hw ht h1 (by omega) hl i1 i2 es (by omega) em hn with b | b
    · exact Or.inl b
    right
    have z := zQ_s (τ s)
    omega

