-- left-behind tokens are tokens on the line
theorem cp_smq (p : Ms × Nat × Nat → Bool) {s : Nat} (C : List (Ms × Nat × Nat)) : ∀ k, smq (fun b => C.countP (fun y => p y && decide (y.2.2 = b))) s k ≤ C.countP (fun y => p y && decide (y.2.2 < s + k))
  | 0 => Nat.zero_le _
  | k + 1 => by
    have ih := cp_smq p (s := s) C k
    have e : smq (fun b => C.countP (fun y => p y && decide (y.2.2 = b))) s (k + 1) = smq (fun b => C.countP (fun y => p y && decide (y.2.2 = b))) s k + C.countP (fun y => p y && decide (y.2.2 = s + k)) := rfl
    have d : ∀ D : List (Ms × Nat × Nat), D.countP (fun y => p y && decide (y.2.2 < s + k)) + D.countP (fun y => p y && decide (y.2.2 = s + k)) ≤ D.countP (fun y => p y && decide (y.2.2 < s + (k + 1))) := fun D => by
      induction D with
      | nil => simp
      | cons a D id =>
        simp only [List.countP_cons]
        by_cases c : p a = true
        · by_cases c1 : a.2.2 < s + k
          · rw [if_pos (by rw [c, decide_eq_true c1]; rfl), if_neg (by rw [decide_eq_false (by omega : ¬ a.2.2 = s + k)]; simp), if_pos (by rw [c, decide_eq_true (by omega : a.2.2 < s + (k + 1))]; rfl)]
            omega
          · by_cases c2 : a.2.2 = s + k
            · rw [if_neg (by rw [decide_eq_false c1]; simp), if_pos (by rw [c, decide_eq_true c2]; rfl), if_pos (by rw [c, decide_eq_true (by omega : a.2.2 < s + (k + 1))]; rfl)]
              omega
            · rw [if_neg (by rw [decide_eq_false c1]; simp), if_neg (by rw [decide_eq_false c2]; simp)]
              omega
        · have c' : p a = false := by revert c; cases p a <;> simp
          rw [if_neg (by rw [c']; simp), if_neg (by rw [c']; simp)]
          omega
    have := d C
    omega
theorem E_tk {L s0 : Nat} {τ : Nat → qS} (hR : RNN L τ) {A : Nat → List (Ms × Nat × Nat)} {ρ : Nat → qS × qS × qS} {B : Nat → List (Ms × Nat × Nat) × List (Ms × Nat × Nat) × List (Ms × Nat × Nat)} (h : ANC L s0 τ A ρ B) {v : Nat} (hv : v < 6) {r : Nat} (sr : s0 + 448 < r) (rl : r ≤ 7 * L) : ctq (AAl τ A v r) (r - 447) 448 ≤ tkc v (A r) := by
  have tk := ANR_tk h.1 (r - s0) (by omega)
  rw [show s0 + (r - s0) = r by omega] at tk
  have a := ctq_sm' (P := AAl τ A v r) (f := fun b => (A r).countP (fun z => decide (tokb z = true ∧ asr z.1 = v) && decide (z.2.2 = b))) (s := r - 447) 448 (fun b b1 b2 q => by
    obtain ⟨at', t1, -⟩ := q
    obtain ⟨z, hz, pz⟩ := List.countP_pos_iff.mp (by unfold tbc at t1; omega : 0 < (A r).countP (fun x => tokb x && decide (x.2.2 = b)))
    rw [Bool.and_eq_true] at pz
    have zb := of_decide_eq_true pz.2
    obtain ⟨-, -, -, u, u6, u2, u3, -⟩ := tk z hz pz.1 (by omega)
    rw [zb] at u2
    have e := at'.1
    have uv : u = v := by omega
    subst uv
    exact List.countP_pos_iff.mpr ⟨z, hz, by rw [decide_eq_true (⟨pz.1, u3⟩ : tokb z = true ∧ asr z.1 = u), decide_eq_true zb]; rfl⟩)
  have b := cp_smq (fun z => decide (tokb z = true ∧ asr z.1 = v)) (s := r - 447) (A r) 448
  have c : (A r).countP (fun y => decide (tokb y = true ∧ asr y.1 = v) && decide (y.2.2 < r - 447 + 448)) ≤ tkc v (A r) := by
    unfold tkc
    refine List.countP_mono_left (fun y _ hh => ?_)
    rw [Bool.and_eq_true] at hh
    exact hh.1
  omega
theorem tk_sum : ∀ C : List (Ms × Nat × Nat), tkc 0 C + tkc 1 C + tkc 2 C + tkc 3 C + tkc 4 C + tkc 5 C ≤ C.countP tokb
  | [] => by simp [tkc]
  | a :: C => by
    have ih := tk_sum C
    unfold tkc at ih ⊢
    simp only [List.countP_cons]
    by_cases c : tokb a = true
    · rw [if_pos c]
      have one : ∀ v w : Int, v ≠ w → ¬ ((decide (tokb a = true ∧ asr a.1 = v)) = true ∧ (decide (tokb a = true ∧ asr a.1 = w)) = true) := fun v w ne ⟨p, q⟩ => by
        have p := (of_decide_eq_true p).2
        have q := (of_decide_eq_true q).2
        omega
      have z01 := one 0 1 (by omega)
      have z02 := one 0 2 (by omega)
      have z03 := one 0 3 (by omega)
      have z04 := one 0 4 (by omega)
      have z05 := one 0 5 (by omega)
      have z12 := one 1 2 (by omega)
      have z13 := one 1 3 (by omega)
      have z14 := one 1 4 (by omega)
      have z15 := one 1 5 (by omega)
      have z23 := one 2 3 (by omega)
      have z24 := one 2 4 (by omega)
      have z25 := one 2 5 (by omega)
      have z34 := one 3 4 (by omega)
      have z35 := one 3 5 (by omega)
      have z45 := one 4 5 (by omega)
      by_cases e0 : (decide (tokb a = true ∧ asr a.1 = 0)) = true
      · rw [if_pos e0, if_neg (fun q => z01 ⟨e0, q⟩), if_neg (fun q => z02 ⟨e0, q⟩), if_neg (fun q => z03 ⟨e0, q⟩), if_neg (fun q => z04 ⟨e0, q⟩), if_neg (fun q => z05 ⟨e0, q⟩)]; omega
      · by_cases e1 : (decide (tokb a = true ∧ asr a.1 = 1)) = true
        · rw [if_neg e0, if_pos e1, if_neg (fun q => z12 ⟨e1, q⟩), if_neg (fun q => z13 ⟨e1, q⟩), if_neg (fun q => z14 ⟨e1, q⟩), if_neg (fun q => z15 ⟨e1, q⟩)]; omega
        · by_cases e2 : (decide (tokb a = true ∧ asr a.1 = 2)) = true
          · rw [if_neg e0, if_neg e1, if_pos e2, if_neg (fun q => z23 ⟨e2, q⟩), if_neg (fun q => z24 ⟨e2, q⟩), if_neg (fun q => z25 ⟨e2, q⟩)]; omega
          · by_cases e3 : (decide (tokb a = true ∧ asr a.1 = 3)) = true
            · rw [if_neg e0, if_neg e1, if_neg e2, if_pos e3, if_neg (fun q => z34 ⟨e3, q⟩), if_neg (fun q => z35 ⟨e3, q⟩)]; omega
            · by_cases e4 : (decide (tokb a = true ∧ asr a.1 = 4)) = true
              · rw [if_neg e0, if_neg e1, if_neg e2, if_neg e3, if_pos e4, if_neg (fun q => z45 ⟨e4, q⟩)]; omega
              · rw [if_neg e0, if_neg e1, if_neg e2, if_neg e3, if_neg e4]
                split <;> omega
    · have n : ∀ v : Int, ¬ (decide (tokb a = true ∧ asr a.1 = v)) = true := fun v q => c (of_decide_eq_true q).1
      rw [if_neg (n 0), if_neg (n 1), if_neg (n 2), if_neg (n 3), if_neg (n 4), if_neg (n 5), if_neg c]
      omega
-- a round without a full tick: at most 18 left-behind tokens (and one for each LACKS of the round)
theorem NFE {L s0 : Nat} {τ : Nat → qS} (hR : RNN L τ) {A : Nat → List (Ms × Nat × Nat)} {ρ : Nat → qS × qS × qS} {B : Nat → List (Ms × Nat × Nat) × List (Ms × Nat × Nat) × List (Ms × Nat × Nat)} (h : ANC2 L s0 τ A ρ B) {r : Nat} (h7 : 224 ≤ s0) (h0 : s0 + 448 < 7 * r) (h2 : 7 * r + 7 ≤ 7 * L) (hc : ¬ CFr A r) : ctq (AAl τ A 0 (7 * r)) (7 * r - 447) 448 + ctq (AAl τ A 1 (7 * r)) (7 * r - 447) 448 + ctq (AAl τ A 2 (7 * r)) (7 * r - 447) 448 + ctq (AAl τ A 3 (7 * r)) (7 * r - 447) 448 + ctq (AAl τ A 4 (7 * r)) (7 * r - 447) 448 + ctq (AAl τ A 5 (7 * r)) (7 * r - 447) 448 ≤ 18 + ctq (LKt τ) (7 * r) 6 := by
  have o := OLD0 hR h (r := r) (by omega) (by omega) h2 hc
  have b := ow_r τ r
  have e0 := h.1.1.2.1 (7 * r) (by omega) (by omega)
  have sr := ANR_srt h.1.1 (7 * r - s0) (by omega)
  rw [show s0 + (7 * r - s0) = 7 * r by omega] at sr
  have c : (A (7 * r)).countP tokb ≤ oW (7 * r) 0 (A (7 * r)) := by
    unfold oW
    refine List.countP_mono_left (fun y hy p => ?_)
    have k := (tokb_i y).mp p
    have a := to_w hR (t := 7 * r) (by omega) (by omega) (by rw [← e0]; exact List.mem_map_of_mem hy) (by rcases k with k | k; exact Or.inl k; exact Or.inr (Or.inl k))
    exact decide_eq_true ⟨sr.2 y hy, a.1, a.2⟩
  have t := tk_sum (A (7 * r))
  have f : ∀ v : Nat, v < 6 → ctq (AAl τ A v (7 * r)) (7 * r - 447) 448 ≤ tkc v (A (7 * r)) := fun v hv => E_tk hR h.1 hv h0 (by omega)
  have f0 : ctq (AAl τ A 0 (7 * r)) (7 * r - 447) 448 ≤ tkc 0 (A (7 * r)) := f 0 (by omega)
  have f1 : ctq (AAl τ A 1 (7 * r)) (7 * r - 447) 448 ≤ tkc 1 (A (7 * r)) := f 1 (by omega)
  have f2 : ctq (AAl τ A 2 (7 * r)) (7 * r - 447) 448 ≤ tkc 2 (A (7 * r)) := f 2 (by omega)
  have f3 : ctq (AAl τ A 3 (7 * r)) (7 * r - 447) 448 ≤ tkc 3 (A (7 * r)) := f 3 (by omega)
  have f4 : ctq (AAl τ A 4 (7 * r)) (7 * r - 447) 448 ≤ tkc 4 (A (7 * r)) := f 4 (by omega)
  have f5 : ctq (AAl τ A 5 (7 * r)) (7 * r - 447) 448 ≤ tkc 5 (A (7 * r)) := f 5 (by omega)
  omega
-- NFP: after a round without a full tick the line is at most M + GIVE + 54 + (LACKS of that round) + (gains since)
theorem NFP {L s0 : Nat} {τ : Nat → qS} (hR : RNN L τ) {A : Nat → List (Ms × Nat × Nat)} {ρ : Nat → qS × qS × qS} {B : Nat → List (Ms × Nat × Nat) × List (Ms × Nat × Nat) × List (Ms × Nat × Nat)} (h : ANC2 L s0 τ A ρ B) {r y : Nat} (h7 : 224 ≤ s0) (h0 : s0 + 448 < 7 * r) (h2 : 7 * r + 7 ≤ 7 * L) (hc : ¬ CFr A r) (ry : 7 * r ≤ y) (yl : y ≤ 7 * L) : (ln (τ y)).length ≤ mqc (A y) + gvc (A y) + 54 + ctq (LKt τ) (7 * r) 6 + (ctq (GNt τ A ρ B 0 (7 * r - 448)) (7 * r) (y - 7 * r) + ctq (GNt τ A ρ B 1 (7 * r - 448)) (7 * r) (y - 7 * r) + ctq (GNt τ A ρ B 2 (7 * r - 448)) (7 * r) (y - 7 * r) + ctq (GNt τ A ρ B 3 (7 * r - 448)) (7 * r) (y - 7 * r) + ctq (GNt τ A ρ B 4 (7 * r - 448)) (7 * r) (y - 7 * r) + ctq (GNt τ A ρ B 5 (7 * r - 448)) (7 * r) (y - 7 * r)) := by
  have e := NFE hR h h7 h0 h2 hc
  have p := POOR hR h.1 h7 (r := 7 * r) (y := y) h0 ry yl
  omega

