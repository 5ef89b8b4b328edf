theorem smq_pt {x s : Nat} : ∀ k, s ≤ x → x < s + k → 1 ≤ smq (fun b => if x = b then 1 else 0) s k
  | 0, h1, h2 => by omega
  | k + 1, h1, h2 => by
    simp only [smq]
    by_cases e : x = s + k
    · rw [if_pos e]; omega
    · have := smq_pt (x := x) (s := s) k h1 (by omega)
      omega
theorem cp_rng (p : Ms × Nat × Nat → Bool) {s k : Nat} : ∀ A : List (Ms × Nat × Nat), (∀ y ∈ A, p y = true → s ≤ y.2.2 ∧ y.2.2 < s + k) → A.countP p ≤ smq (fun b => A.countP (fun y => p y && decide (y.2.2 = b))) s k
  | [], _ => Nat.zero_le _
  | y :: A, h => by
    have ih := cp_rng p A (fun x hx => h x (List.mem_cons_of_mem _ hx))
    rw [List.countP_cons]
    by_cases c : p y = true
    · rw [if_pos c]
      obtain ⟨r1, r2⟩ := h y List.mem_cons_self c
      have e : ∀ i, i < k → (fun b => A.countP (fun y => p y && decide (y.2.2 = b)) + (if y.2.2 = b then 1 else 0)) (s + i) ≤ (fun b => (y :: A).countP (fun y => p y && decide (y.2.2 = b))) (s + i) := fun i hi => by
        show A.countP (fun y => p y && decide (y.2.2 = s + i)) + (if y.2.2 = s + i then 1 else 0) ≤ (y :: A).countP (fun y => p y && decide (y.2.2 = s + i))
        rw [List.countP_cons]
        by_cases d : y.2.2 = s + i
        · rw [if_pos d, if_pos (by rw [c, decide_eq_true d]; rfl)]; exact Nat.le_refl _
        · rw [if_neg d]; omega
      have f := smq_le (f := fun b => A.countP (fun y => p y && decide (y.2.2 = b)) + (if y.2.2 = b then 1 else 0)) (g := fun b => (y :: A).countP (fun y => p y && decide (y.2.2 = b))) (s := s) k e
      rw [smq_add] at f
      have g := smq_pt (x := y.2.2) (s := s) k r1 r2
      omega
    · rw [if_neg c]
      have e : ∀ i, i < k → (fun b => A.countP (fun y => p y && decide (y.2.2 = b))) (s + i) ≤ (fun b => (y :: A).countP (fun y => p y && decide (y.2.2 = b))) (s + i) := fun i hi => by
        show A.countP (fun y => p y && decide (y.2.2 = s + i)) ≤ (y :: A).countP (fun y => p y && decide (y.2.2 = s + i))
        rw [List.countP_cons]
        omega
      have f := smq_le (f := fun b => A.countP (fun y => p y && decide (y.2.2 = b))) (g := fun b => (y :: A).countP (fun y => p y && decide (y.2.2 = b))) (s := s) k e
      omega
theorem smq_7 {f : Nat → Nat} {v : Nat} (hv : v < 7) (h : ∀ b, f b ≤ 1) (h' : ∀ b, (b - 1) % 7 ≠ v → f b = 0) : ∀ r s, 1 ≤ s → smq f s (7 * r) ≤ r
  | 0, _, _ => Nat.le_refl _
  | r + 1, s, hs => by
    have ih := smq_7 hv h h' r s hs
    rw [show 7 * (r + 1) = 7 * r + 6 + 1 by omega]
    simp only [smq]
    have k : ∀ i, i < 7 → f (s + (7 * r + i)) ≤ (if (s + (7 * r + i) - 1) % 7 = v then 1 else 0) := fun i hi => by
      by_cases c : (s + (7 * r + i) - 1) % 7 = v
      · rw [if_pos c]; exact h _
      · rw [if_neg c, h' _ c]; exact Nat.le_refl _
    have k0 := k 0 (by omega)
    have k1 := k 1 (by omega)
    have k2 := k 2 (by omega)
    have k3 := k 3 (by omega)
    have k4 := k 4 (by omega)
    have k5 := k 5 (by omega)
    have k6 := k 6 (by omega)
    simp only [Nat.add_zero] at k0 ⊢
    have one : (if (s + 7 * r - 1) % 7 = v then 1 else 0) + (if (s + (7 * r + 1) - 1) % 7 = v then 1 else 0) + (if (s + (7 * r + 2) - 1) % 7 = v then 1 else 0) + (if (s + (7 * r + 3) - 1) % 7 = v then 1 else 0) + (if (s + (7 * r + 4) - 1) % 7 = v then 1 else 0) + (if (s + (7 * r + 5) - 1) % 7 = v then 1 else 0) + (if (s + (7 * r + 6) - 1) % 7 = v then 1 else 0) ≤ 1 := by
      have e : ∀ i, (s + (7 * r + i) - 1) % 7 = (s - 1 + i) % 7 := fun i => by omega
      have e0 : (s + 7 * r - 1) % 7 = (s - 1) % 7 := by omega
      rw [e0, e 1, e 2, e 3, e 4, e 5, e 6]
      generalize s - 1 = m
      split <;> split <;> split <;> split <;> split <;> split <;> split <;> omega
    omega
def FSa (A : List (Ms × Nat × Nat)) : Prop := ∀ y ∈ A, xw y.1 0 = 5 → y.2.1 = y.2.2
theorem FSa_sub {A B : List (Ms × Nat × Nat)} (h : FSa A) (hs : B.Sublist A) : FSa B := fun y hy => h y (hs.subset hy)
theorem FSa_ap {A : List (Ms × Nat × Nat)} (h : FSa A) {y : Ms × Nat × Nat} (hy : xw y.1 0 = 5 → y.2.1 = y.2.2) : FSa (A ++ [y]) := fun x hx => by
  rw [List.mem_append, List.mem_singleton] at hx
  rcases hx with hx | hx
  · exact h x hx
  · rw [hx]; exact hy
theorem RDn_fs {t : Nat} {w e : Int} {A A' : List (Ms × Nat × Nat)} (h : RDn w e t A A') (hk : FSa A) : FSa A' := by
  rcases h with ⟨-, rfl⟩ | ⟨i, y, -, c2, c⟩
  · exact hk
  · have e1 := FSa_sub hk (List.eraseIdx_sublist A i)
    rcases c with ⟨-, rfl⟩ | ⟨-, -, z, -, z0, -, -, -, -, rfl⟩
    · exact e1
    · exact FSa_ap (FSa_sub e1 (tlA_sub _)) (fun q => by
        have q' : xw z 0 = 5 := q
        omega)
theorem HRn_fs {t : Nat} {A A' : List (Ms × Nat × Nat)} (h : HRn t A A') (hk : FSa A) : FSa A' := by
  rcases h with ⟨-, rfl⟩ | ⟨i, y, -, -, c⟩
  · exact hk
  · have e1 := FSa_sub hk (List.eraseIdx_sublist A i)
    rcases c with rfl | ⟨z, z0, rfl⟩
    · exact e1
    · exact FSa_ap (FSa_sub e1 (tlA_sub _)) (fun _ => rfl)
theorem ACn_fs {t : Nat} {A A' : List (Ms × Nat × Nat)} {s : List Ms} (h : ACn t A A' s) (hk : FSa A) : FSa A' := by
  rcases h with ⟨rfl, -⟩ | ⟨z, rfl, -⟩ | ⟨z, z', rfl, -⟩
  · exact hk
  · exact FSa_ap (FSa_sub hk (tlA_sub _)) (fun _ => rfl)
  · exact FSa_ap (FSa_sub (FSa_ap (FSa_sub hk (tlA_sub _)) (fun _ => rfl)) (tlA_sub _)) (fun _ => rfl)
theorem ANR_fs {L s0 : Nat} {τ : Nat → qS} {A : Nat → List (Ms × Nat × Nat)} (h : ANR L s0 τ A) : ∀ k, s0 + k ≤ 7 * L → FSa (A (s0 + k))
  | 0, _ => by
    rw [Nat.add_zero, h.1]
    intro y hy _
    rw [List.mem_map] at hy
    obtain ⟨m, -, rfl⟩ := hy
    rfl
  | k + 1, hk => by
    have ih := ANR_fs h k (by omega)
    rcases h.2.2 (s0 + k) (by omega) (by omega) with ⟨h6, σ1, σ2, σ3, A1, A2, A3, -, -, r1, r2, r3, s, a, o⟩ | ⟨-, σ1, σ2, A1, A2, -, -, -, -, r1, r2, r3⟩
    · exact ACn_fs a (RDn_fs r3 (RDn_fs r2 (RDn_fs r1 ih)))
    · exact HRn_fs r3 (HRn_fs r2 (HRn_fs r1 ih))
def qFv (v : Int) (A : List (Ms × Nat × Nat)) : Nat := A.countP (fun y => decide (xw y.1 0 = 5 ∧ asr y.1 = v))
theorem Q32 {L s0 : Nat} {τ : Nat → qS} (hR : RNN L τ) {A : Nat → List (Ms × Nat × Nat)} (h : ANR L s0 τ A) (h7 : 7 ≤ s0) {t : Nat} (ht : s0 + 224 ≤ t) (hl : t ≤ 7 * L) (hw : ∀ y ∈ A t, xw y.1 0 = 5 → 0 ≤ y.1.1 ∧ y.1.1 < 6) {v : Nat} (hv : v < 6) : qFv v (A t) ≤ 32 := by
  have tk := ANR_tk h (t - s0) (by omega)
  rw [show s0 + (t - s0) = t by omega] at tk
  have fs := ANR_fs h (t - s0) (by omega)
  rw [show s0 + (t - s0) = t by omega] at fs
  have sr := ANR_srt h (t - s0) (by omega)
  rw [show s0 + (t - s0) = t by omega] at sr
  have born : ∀ y ∈ A t, (decide (xw y.1 0 = 5 ∧ asr y.1 = v)) = true → t - 223 ≤ y.2.2 ∧ y.2.2 < t - 223 + 7 * 32 := fun y hy hp => by
    have hp' := of_decide_eq_true hp
    obtain ⟨w1, w2⟩ := hw y hy hp'.1
    have l := run_95 hR (by omega) (by omega : 7 ≤ t - 224) (by omega)
    have cl : cn ((y.1.1.toNat : Nat) : Int) (ln (τ (t - 224))) ≤ 3 * 32 := by
      have : cn ((y.1.1.toNat : Nat) : Int) (ln (τ (t - 224))) ≤ (ln (τ (t - 224))).length := List.countP_le_length
      omega
    have ag := AGE hR h (t0 := t - 224) (by omega) (by omega) (v := y.1.1.toNat) (by omega) (r := 32) cl (by omega)
    rw [show t - 224 + 7 * 32 = t by omega] at ag
    have st := ag y hy (by omega)
    have e := fs y hy hp'.1
    have m := sr.2 y hy
    omega
  have a := cp_rng (fun y => decide (xw y.1 0 = 5 ∧ asr y.1 = v)) (s := t - 223) (k := 7 * 32) (A t) born
  have b := smq_7 (f := fun b => (A t).countP (fun y => decide (xw y.1 0 = 5 ∧ asr y.1 = v) && decide (y.2.2 = b)) - (if s0 < b then 0 else 1)) (v := v) (by omega) (fun b => ?_) (fun b hb => ?_) 32 (t - 223) (by omega)
  · have c := smq_le (f := fun b => (A t).countP (fun y => decide (xw y.1 0 = 5 ∧ asr y.1 = v) && decide (y.2.2 = b))) (g := fun b => (A t).countP (fun y => decide (xw y.1 0 = 5 ∧ asr y.1 = v) && decide (y.2.2 = b)) - (if s0 < b then 0 else 1)) (s := t - 223) (7 * 32) (fun i hi => by
      show (A t).countP (fun y => decide (xw y.1 0 = 5 ∧ asr y.1 = v) && decide (y.2.2 = t - 223 + i)) ≤ (A t).countP (fun y => decide (xw y.1 0 = 5 ∧ asr y.1 = v) && decide (y.2.2 = t - 223 + i)) - (if s0 < t - 223 + i then 0 else 1)
      rw [if_pos (by omega)]
      omega)
    unfold qFv
    omega
  · show (A t).countP (fun y => decide (xw y.1 0 = 5 ∧ asr y.1 = v) && decide (y.2.2 = b)) - (if s0 < b then 0 else 1) ≤ 1
    by_cases c : s0 < b
    · have t1 := ANR_tb h c (t - s0) (by omega)
      rw [show s0 + (t - s0) = t by omega] at t1
      have le : (A t).countP (fun y => decide (xw y.1 0 = 5 ∧ asr y.1 = v) && decide (y.2.2 = b)) ≤ tbc b (A t) := by
        unfold tbc
        refine List.countP_mono_left (fun y _ hh => ?_)
        rw [Bool.and_eq_true] at hh ⊢
        exact ⟨(tokb_i y).mpr (Or.inl (of_decide_eq_true hh.1).1), hh.2⟩
      have : tbc b (A t) ≤ 1 := by
        split at t1 <;> omega
      omega
    · have z : (A t).countP (fun y => decide (xw y.1 0 = 5 ∧ asr y.1 = v) && decide (y.2.2 = b)) = 0 := by
        rw [List.countP_eq_zero]
        intro y hy hh
        rw [Bool.and_eq_true] at hh
        have r := born y hy hh.1
        have e := of_decide_eq_true hh.2
        omega
      omega
  · show (A t).countP (fun y => decide (xw y.1 0 = 5 ∧ asr y.1 = v) && decide (y.2.2 = b)) - (if s0 < b then 0 else 1) = 0
    have z : (A t).countP (fun y => decide (xw y.1 0 = 5 ∧ asr y.1 = v) && decide (y.2.2 = b)) = 0 := by
      rw [List.countP_eq_zero]
      intro y hy hh
      rw [Bool.and_eq_true] at hh
      have r := born y hy hh.1
      have p5 := of_decide_eq_true hh.1
      have e := of_decide_eq_true hh.2
      obtain ⟨-, -, -, u, u1, u2, u3, -⟩ := tk y hy ((tokb_i y).mpr (Or.inl p5.1)) (by omega)
      rw [p5.2] at u3
      rw [e] at u2
      exact hb (by omega)
    omega

