theorem cp_sp {α : Type} (p q : α → Bool) : ∀ l : List α, l.countP p ≤ l.countP (fun y => p y && q y) + l.countP (fun y => p y && !q y)
  | [] => by simp
  | a :: l => by
    have ih := cp_sp p q l
    rw [List.countP_cons, List.countP_cons, List.countP_cons]
    cases p a <;> cases q a <;> simp <;> omega
theorem cp_ap {c d : Nat} : ∀ (k : Nat) (p : Ms × Nat × Nat → Bool) (A : List (Ms × Nat × Nat)), (∀ y ∈ A, p y = true → ∃ i, i < k ∧ y.2.2 + d * i = c) → (∀ b, A.countP (fun y => p y && decide (y.2.2 = b)) ≤ 1) → A.countP p ≤ k
  | 0, p, A, h, _ => by
    have z : A.countP p = 0 := by
      rw [List.countP_eq_zero]
      intro y hy py
      obtain ⟨i, hi, -⟩ := h y hy py
      omega
    omega
  | k + 1, p, A, h, h1 => by
    have s := cp_sp p (fun y => decide (y.2.2 + d * k = c)) A
    have a1 : A.countP (fun y => p y && decide (y.2.2 + d * k = c)) ≤ 1 := by
      refine Nat.le_trans (List.countP_mono_left (fun y _ hy => ?_)) (h1 (c - d * k))
      rw [Bool.and_eq_true] at hy ⊢
      have e := of_decide_eq_true hy.2
      exact ⟨hy.1, decide_eq_true (by omega)⟩
    have a2 := cp_ap k (fun y => p y && !decide (y.2.2 + d * k = c)) A (fun y hy py => by
      rw [Bool.and_eq_true] at py
      obtain ⟨i, hi, e⟩ := h y hy py.1
      have ne : ¬ (y.2.2 + d * k = c) := fun q => by rw [decide_eq_true q] at py; exact absurd py.2 (by decide)
      refine ⟨i, ?_, e⟩
      by_cases ik : i = k
      · subst ik; exact absurd e ne
      · omega) (fun b => Nat.le_trans (List.countP_mono_left (fun y _ hy => by
        rw [Bool.and_eq_true] at hy ⊢
        rw [Bool.and_eq_true] at hy
        exact ⟨hy.1.1, hy.2⟩)) (h1 b))
    omega
theorem DEEP5 {L s0 : Nat} {τ : Nat → qS} (hR : RNN L τ) {A : Nat → List (Ms × Nat × Nat)} (h : ANR L s0 τ A) (h7 : 224 ≤ s0) {w : Nat} (hw : w < 6) {t : Nat} (ht : t % 7 = w) (h1 : 7 * 145 ≤ t) (h2 : t + 1 ≤ 7 * L) (hl : LKs (τ (t + 1)) w) {T : Nat} (hs : s0 + 448 ≤ T) (t1 : T ≤ t + 1) (t2 : t + 1 ≤ T + 7 * 79) : (A T).countP (fun y => decide (tokb y = true ∧ asr y.1 = w)) ≤ 5 := by
  have tk := ANR_tk h (T - s0) (by omega)
  rw [show s0 + (T - s0) = T by omega] at tk
  have born : ∀ y ∈ A T, (decide (tokb y = true ∧ asr y.1 = w)) = true → y.2.2 ≤ T ∧ T < y.2.2 + 448 ∧ ∃ m, y.2.2 + 91 * m = t + 1 := fun y hy hp => by
    have p := of_decide_eq_true hp
    have li := LIFE64 hR h h7 hs (by omega) hy p.1
    obtain ⟨b1, -, -, u, u1, u2, u3, -, u5⟩ := tk y hy p.1 (by omega)
    rw [p.2] at u3
    have uw : u = w := by omega
    subst uw
    refine ⟨b1, li, ?_⟩
    obtain ⟨j, ej⟩ : ∃ j, y.2.2 + 7 * j = t + 1 := ⟨(t + 1 - y.2.2) / 7, by omega⟩
    have f : 38 ≤ τ y.2.2 62 (u : Int) ∧ τ y.2.2 65 (u : Int) = 1 := by
      unfold fe at u5
      by_cases d : 38 ≤ τ y.2.2 62 (u : Int) ∧ τ y.2.2 65 (u : Int) = 1
      · exact d
      · rw [if_neg d] at u5; omega
    by_cases j0 : j = 0
    · exact ⟨0, by omega⟩
    · obtain ⟨-, -, -, -, -, a5, a6, a7, -⟩ := lk_wait hR hw ht h1 h2 hl (j - 1) (by omega)
      rw [show j - 1 + 1 = j by omega, show t + 1 - 7 * j = y.2.2 by omega] at a5 a6 a7
      unfold wtg at a5
      rw [f.2] at a5
      exact ⟨j / 13, by omega⟩
  have ge : ∃ c, ∀ y ∈ A T, (decide (tokb y = true ∧ asr y.1 = w)) = true → ∃ i, i < 5 ∧ y.2.2 + 91 * i = c := by
    refine ⟨t + 1 - 91 * ((t + 1 - T + 90) / 91), fun y hy hp => ?_⟩
    obtain ⟨b1, b2, m, em⟩ := born y hy hp
    exact ⟨m - (t + 1 - T + 90) / 91, by omega, by omega⟩
  obtain ⟨c, hc⟩ := ge
  refine cp_ap 5 _ (A T) hc (fun b => ?_)
  by_cases cb : s0 < b
  · have tb := ANR_tb h cb (T - s0) (by omega)
    rw [show s0 + (T - s0) = T by omega] at tb
    have le : (A T).countP (fun y => decide (tokb y = true ∧ asr y.1 = w) && decide (y.2.2 = b)) ≤ tbc b (A T) := by
      unfold tbc
      refine List.countP_mono_left (fun y _ hh => ?_)
      rw [Bool.and_eq_true] at hh ⊢
      exact ⟨(of_decide_eq_true hh.1).1, hh.2⟩
    have : tbc b (A T) ≤ 1 := by
      split at tb <;> omega
    omega
  · have z : (A T).countP (fun y => decide (tokb y = true ∧ asr y.1 = w) && decide (y.2.2 = b)) = 0 := by
      rw [List.countP_eq_zero]
      intro y hy hh
      rw [Bool.and_eq_true] at hh
      have q := (born y hy hh.1).2.1
      have e := of_decide_eq_true hh.2
      omega
    omega

