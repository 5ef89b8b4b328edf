-- Lindley with loopers (f16): the master's queue by the number of workers that end tasks
theorem ctq_l7 {v s : Nat} (hv : v < 7) : ∀ n, n ≤ ctq (fun t => t % 7 = v) s (7 * n)
  | 0 => Nat.zero_le _
  | n + 1 => by
    have ih := ctq_l7 (s := s) hv n
    rw [show 7 * (n + 1) = 7 * n + 7 by omega, ctq_jn]
    have p := ctq_pt (P := fun t => t % 7 = v) (s := s + 7 * n) (x := s + 7 * n + (v + 7 - (s + 7 * n) % 7) % 7) 7 (by omega) (by omega) (by show (s + 7 * n + (v + 7 - (s + 7 * n) % 7) % 7) % 7 = v; omega)
    omega
theorem SI5_sp {L s0 : Nat} {τ : Nat → qS} (hR : RNN L τ) {A : Nat → List (Ms × Nat × Nat)} {ρ : Nat → qS × qS × qS} {B : Nat → List (Ms × Nat × Nat) × List (Ms × Nat × Nat) × List (Ms × Nat × Nat)} (h : ANC L s0 τ A ρ B) {t t' : Nat} (h1 : s0 ≤ t) (h2 : t' < 7 * L) (p : SIa τ ρ 5 t) (p' : SIa τ ρ 5 t') (e : t % 7 = t' % 7) (lt : t < t') : t + 42 ≤ t' := by
  apply Classical.byContradiction
  intro n
  have q4 := si_pv hR h (a := 5) (by omega) (by omega : s0 + 7 ≤ t') h2 p'
  have d : ∀ (a : Int) (u : Nat), a ≠ 5 → u = t → SIa τ ρ a u → False := fun a u na eu q => by
    subst eu
    exact na (q.2.2.2.1.symm.trans p.2.2.2.1)
  by_cases c1 : t' - 7 = t
  · exact d _ _ (by omega) c1 q4
  have q3 := si_pv hR h (a := 5 - 1) (by omega) (by omega : s0 + 7 ≤ t' - 7) (by omega) q4
  by_cases c2 : t' - 7 - 7 = t
  · exact d _ _ (by omega) c2 q3
  have q2 := si_pv hR h (a := 5 - 1 - 1) (by omega) (by omega : s0 + 7 ≤ t' - 7 - 7) (by omega) q3
  by_cases c3 : t' - 7 - 7 - 7 = t
  · exact d _ _ (by omega) c3 q2
  have q1 := si_pv hR h (a := 5 - 1 - 1 - 1) (by omega) (by omega : s0 + 7 ≤ t' - 7 - 7 - 7) (by omega) q2
  by_cases c4 : t' - 7 - 7 - 7 - 7 = t
  · exact d _ _ (by omega) c4 q1
  have c5 : t' - 7 - 7 - 7 - 7 - 7 = t := by omega
  have g := id_pv hR h (t := t' - 7 - 7 - 7 - 7) (by omega) (by omega) q1.1
  have a1 := q1.2.2.2.1
  rw [c5] at g
  obtain ⟨k6, k1, k2, k3, k4⟩ := p
  rcases id_cs hR h (t := t) h1 (by omega) k6 k4 with ⟨c, -⟩ | ⟨-, -, c⟩
  · exact c.2.1 k1
  · rw [if_pos k3] at c
    have g2 := g.2
    omega
-- letters to the master that one worker sends: without an end of a task one for six rounds, in any case one for each round
theorem MS_v1 {L s0 : Nat} {τ : Nat → qS} (hR : RNN L τ) {A : Nat → List (Ms × Nat × Nat)} {ρ : Nat → qS × qS × qS} {B : Nat → List (Ms × Nat × Nat) × List (Ms × Nat × Nat) × List (Ms × Nat × Nat)} (h : ANC L s0 τ A ρ B) {v s k : Nat} (h1 : s0 + 14 ≤ s) (h2 : s + k ≤ 7 * L) (hn : ∀ t, s - 7 ≤ t → t < s + k → t % 7 = v → ¬ FZt τ ρ t) : ctq (fun t => MSt τ ρ t ∧ t % 7 = v) s k ≤ k / 42 + 1 := by
  have a := ctq_inj (P := fun t => MSt τ ρ t ∧ t % 7 = v) (f := fun t => t - 7) (s := s) (a := s - 7) (m := k) k (fun t => (SIa τ ρ 5 t ∧ t % 7 = v) ∧ t < s - 7 + k) (fun t t1 t2 q => by
    refine ⟨by omega, by omega, ?_⟩
    obtain ⟨q1, q2⟩ := q
    rcases q1 with q1 | q1
    · rcases ask_pv hR h (by omega) (by omega) q1 with c | c
      · exact absurd c (hn (t - 7) (by omega) (by omega) (by omega))
      · exact ⟨⟨c, by omega⟩, by omega⟩
    · exact absurd q1 (hn t (by omega) (by omega) q2)) (fun t t' t1 _ t1' _ _ _ e => by
    have e : t - 7 = t' - 7 := e
    omega)
  have b := ctq_sp (P := fun t => (SIa τ ρ 5 t ∧ t % 7 = v) ∧ t < s - 7 + k) (x := s - 7) (d := 42) (fun t t' t1 p q lt => SI5_sp hR h (by omega) (by omega) p.1.1 q.1.1 (by omega) lt) (k / 42 + 1)
  have c := ctq_sub (P := fun t => (SIa τ ρ 5 t ∧ t % 7 = v) ∧ t < s - 7 + k) (s := s - 7) (show k ≤ 42 * (k / 42 + 1) by omega)
  omega
theorem MS_v2 {τ : Nat → qS} {ρ : Nat → qS × qS × qS} {v s k : Nat} : ctq (fun t => MSt τ ρ t ∧ t % 7 = v) s k ≤ k / 7 + 1 := by
  have b := ctq_sp (P := fun t => MSt τ ρ t ∧ t % 7 = v) (x := s) (d := 7) (fun t t' t1 p q lt => by
    have e1 := p.2
    have e2 := q.2
    omega) (k / 7 + 1)
  have c := ctq_sub (P := fun t => MSt τ ρ t ∧ t % 7 = v) (s := s) (show k ≤ 7 * (k / 7 + 1) by omega)
  omega
-- kind of a worker in a stretch: 0 sends nothing to the master, 1 ends no task, else anything
def msB (c k : Nat) : Nat := if c = 0 then 0 else if c = 1 then k / 42 + 1 else k / 7 + 1
theorem MS_sum {L s0 : Nat} {τ : Nat → qS} (hR : RNN L τ) {A : Nat → List (Ms × Nat × Nat)} {ρ : Nat → qS × qS × qS} {B : Nat → List (Ms × Nat × Nat) × List (Ms × Nat × Nat) × List (Ms × Nat × Nat)} (h : ANC L s0 τ A ρ B) {s k : Nat} (h1 : s0 + 14 ≤ s) (h2 : s + k ≤ 7 * L) {c : Nat → Nat} (h0 : ∀ t, s ≤ t → t < s + k → c (t % 7) = 0 → ¬ MSt τ ρ t) (hc : ∀ t, s - 7 ≤ t → t < s + k → c (t % 7) = 1 → ¬ FZt τ ρ t) : ctq (MSt τ ρ) s k ≤ msB (c 0) k + msB (c 1) k + msB (c 2) k + msB (c 3) k + msB (c 4) k + msB (c 5) k := by
  have six := ctq_six (P := MSt τ ρ) (s := s) (k := k) (fun t q => by
    rcases q with q | q
    · exact q.1
    · exact q.1)
  have one : ∀ v, v < 6 → ctq (fun t => MSt τ ρ t ∧ t % 7 = v) s k ≤ msB (c v) k := fun v hv => by
    unfold msB
    by_cases e0 : c v = 0
    · rw [if_pos e0, ctq_off k (fun t t1 t2 q => h0 t t1 t2 (by rw [q.2]; exact e0) q.1)]
      exact Nat.le_refl _
    · rw [if_neg e0]
      by_cases e1 : c v = 1
      · rw [if_pos e1]
        exact MS_v1 hR h h1 h2 (fun t t1 t2 t3 => hc t t1 t2 (by rw [t3]; exact e1))
      · rw [if_neg e1]
        exact MS_v2
  have o0 := one 0 (by omega)
  have o1 := one 1 (by omega)
  have o2 := one 2 (by omega)
  have o3 := one 3 (by omega)
  have o4 := one 4 (by omega)
  have o5 := one 5 (by omega)
  omega
def lpI (c : Nat) : Nat := if 2 ≤ c then 1 else 0
theorem msB_l (c k : Nat) : msB c k ≤ k / 42 + 1 + lpI c * (k / 7 - k / 42) := by
  unfold msB lpI
  by_cases e0 : c = 0
  · rw [if_pos e0]; exact Nat.zero_le _
  · rw [if_neg e0]
    by_cases e1 : c = 1
    · rw [if_pos e1]; omega
    · rw [if_neg e1, if_pos (by omega)]
      omega
-- the master's queue when at most lam workers end tasks
theorem ML_g {L s0 : Nat} {τ : Nat → qS} (hR : RNN L τ) {A : Nat → List (Ms × Nat × Nat)} {ρ : Nat → qS × qS × qS} {B : Nat → List (Ms × Nat × Nat) × List (Ms × Nat × Nat) × List (Ms × Nat × Nat)} (h : ANC2 L s0 τ A ρ B) (h7 : 224 ≤ s0) {s k : Nat} (h1 : s0 + 448 ≤ s) (h2 : s + k ≤ 7 * L) {c : Nat → Nat} (h0 : ∀ t, s ≤ t → t < s + k → c (t % 7) = 0 → ¬ MSt τ ρ t) (hc : ∀ t, s - 7 ≤ t → t < s + k → c (t % 7) = 1 → ¬ FZt τ ρ t) {lam : Nat} (hl : lpI (c 0) + lpI (c 1) + lpI (c 2) + lpI (c 3) + lpI (c 4) + lpI (c 5) ≤ lam) : ∃ a, a ≤ k / 7 ∧ mqc (A (s + k)) + 3 * a ≤ 9 + 2 * ctq (LKt τ) s k + 6 * (a / 6) + lam * (a - a / 6) + (if a = k / 7 then mqc (A s) else 0) := by
  obtain ⟨j, j1, j2⟩ := MLIN2 hR h h7 h1 k h2
  have ms := MS_sum hR h.1 (s := s + j) (k := k - j) (by omega) (by omega) (c := c) (fun t t1 t2 => h0 t (by omega) (by omega)) (fun t t1 t2 => hc t (by omega) (by omega))
  have m0 := msB_l (c 0) (k - j)
  have m1 := msB_l (c 1) (k - j)
  have m2 := msB_l (c 2) (k - j)
  have m3 := msB_l (c 3) (k - j)
  have m4 := msB_l (c 4) (k - j)
  have m5 := msB_l (c 5) (k - j)
  have d : lpI (c 0) * ((k - j) / 7 - (k - j) / 42) + lpI (c 1) * ((k - j) / 7 - (k - j) / 42) + lpI (c 2) * ((k - j) / 7 - (k - j) / 42) + lpI (c 3) * ((k - j) / 7 - (k - j) / 42) + lpI (c 4) * ((k - j) / 7 - (k - j) / 42) + lpI (c 5) * ((k - j) / 7 - (k - j) / 42) ≤ lam * ((k - j) / 7 - (k - j) / 42) := by
    rw [← Nat.add_mul, ← Nat.add_mul, ← Nat.add_mul, ← Nat.add_mul, ← Nat.add_mul]
    exact Nat.mul_le_mul_right _ hl
  have lk := ctq_in (P := LKt τ) (x := s + j) (m := k - j) (x' := s) (m' := k) (by omega) (by omega)
  have mt := ctq_l7 (v := 6) (s := s + j) (by omega) ((k - j) / 7)
  have mt2 := ctq_sub (P := fun t => t % 7 = 6) (s := s + j) (show 7 * ((k - j) / 7) ≤ k - j by omega)
  refine ⟨(k - j) / 7, by omega, ?_⟩
  have e : (k - j) / 42 = (k - j) / 7 / 6 := by omega
  rw [e] at m0 m1 m2 m3 m4 m5 d
  have f : (if j = 0 then mqc (A s) else 0) ≤ (if (k - j) / 7 = k / 7 then mqc (A s) else 0) := by
    by_cases z : j = 0
    · subst z
      rw [if_pos rfl, if_pos (by rw [Nat.sub_zero])]
      exact Nat.le_refl _
    · rw [if_neg z]
      exact Nat.zero_le _
  omega
-- no task ends (mapped time without GIVEs of splits): the queue falls by two a round; at most two loopers: it does not grow
theorem ML_0 {L s0 : Nat} {τ : Nat → qS} (hR : RNN L τ) {A : Nat → List (Ms × Nat × Nat)} {ρ : Nat → qS × qS × qS} {B : Nat → List (Ms × Nat × Nat) × List (Ms × Nat × Nat) × List (Ms × Nat × Nat)} (h : ANC2 L s0 τ A ρ B) (h7 : 224 ≤ s0) {s k : Nat} (h1 : s0 + 448 ≤ s) (h2 : s + k ≤ 7 * L) (hc : ∀ t, s - 7 ≤ t → t < s + k → ¬ FZt τ ρ t) : mqc (A (s + k)) ≤ 9 + 2 * ctq (LKt τ) s k ∨ mqc (A (s + k)) + 2 * (k / 7) ≤ mqc (A s) + 9 + 2 * ctq (LKt τ) s k := by
  obtain ⟨a, a1, a2⟩ := ML_g hR h h7 h1 h2 (c := fun _ => 1) (fun t _ _ q => absurd q (by decide)) (fun t t1 t2 _ => hc t t1 t2) (lam := 0) (by decide)
  by_cases e : a = k / 7
  · rw [if_pos e] at a2
    right
    omega
  · rw [if_neg e] at a2
    left
    omega
theorem ML_2 {L s0 : Nat} {τ : Nat → qS} (hR : RNN L τ) {A : Nat → List (Ms × Nat × Nat)} {ρ : Nat → qS × qS × qS} {B : Nat → List (Ms × Nat × Nat) × List (Ms × Nat × Nat) × List (Ms × Nat × Nat)} (h : ANC2 L s0 τ A ρ B) (h7 : 224 ≤ s0) {s k : Nat} (h1 : s0 + 448 ≤ s) (h2 : s + k ≤ 7 * L) {c : Nat → Nat} (h0 : ∀ t, s ≤ t → t < s + k → c (t % 7) = 0 → ¬ MSt τ ρ t) (hc : ∀ t, s - 7 ≤ t → t < s + k → c (t % 7) = 1 → ¬ FZt τ ρ t) (hl : lpI (c 0) + lpI (c 1) + lpI (c 2) + lpI (c 3) + lpI (c 4) + lpI (c 5) ≤ 2) : mqc (A (s + k)) ≤ 9 + 2 * ctq (LKt τ) s k ∨ mqc (A (s + k)) + 2 * (k / 42) ≤ mqc (A s) + 9 + 2 * ctq (LKt τ) s k := by
  obtain ⟨a, a1, a2⟩ := ML_g hR h h7 h1 h2 h0 hc hl
  by_cases e : a = k / 7
  · rw [if_pos e] at a2
    right
    omega
  · rw [if_neg e] at a2
    left
    omega

