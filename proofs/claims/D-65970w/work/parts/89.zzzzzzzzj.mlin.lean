-- the master's queue: what a tick sends to it, and its Lindley form
theorem mqc_ap (A : List (Ms × Nat × Nat)) (z : Ms × Nat × Nat) : mqc (A ++ [z]) = mqc A + (if z.1.1 = 6 then 1 else 0) := by
  unfold mqc
  rw [List.countP_append, List.countP_singleton]
  congr 1
  by_cases c : z.1.1 = 6
  · rw [if_pos c, if_pos (decide_eq_true c)]
  · rw [if_neg c, if_neg (by rw [decide_eq_false c]; decide)]
theorem mqc_tl (A : List (Ms × Nat × Nat)) : mqc (tlA A) ≤ mqc A := cpA_tl _ A
theorem mqc_er {A : List (Ms × Nat × Nat)} {i : Nat} {y : Ms × Nat × Nat} (hy : A[i]? = some y) : mqc (A.eraseIdx i) ≤ mqc A := by
  have := cpA_er (fun z => decide (z.1.1 = 6)) A i y hy
  unfold mqc
  omega
theorem RDn_mq {w e : Int} {t : Nat} {A A' : List (Ms × Nat × Nat)} (h : RDn w e t A A') (hk : ∀ y ∈ A, xw y.1 0 = 5 → xw y.1 5 ≠ 6) : mqc A' ≤ mqc A := by
  rcases h with ⟨-, e⟩ | ⟨i, y, -, c2, c⟩
  · rw [e]; exact Nat.le_refl _
  · have a := mqc_er c2
    rcases c with ⟨-, e⟩ | ⟨-, c5, z, z1, -, -, -, -, -, e⟩
    · rw [e]; exact a
    · have b := mqc_tl (A.eraseIdx i)
      have n : z.1 ≠ 6 := by rw [z1]; exact hk y (List.mem_of_getElem? c2) c5
      rw [e, mqc_ap, if_neg n]
      omega
theorem ACn_mq {t : Nat} {A A' : List (Ms × Nat × Nat)} {s : List Ms} (h : ACn t A A' s) : mqc A' ≤ mqc A + s.length ∧ (s.length ≤ 1 → (∀ x ∈ s, x.1 ≠ 6) → mqc A' ≤ mqc A) := by
  rcases h with ⟨e, rfl⟩ | ⟨z, e, rfl⟩ | ⟨z, z', e, rfl⟩
  · rw [e]; exact ⟨by omega, fun _ _ => Nat.le_refl _⟩
  · have b := mqc_tl A
    rw [e, mqc_ap]
    refine ⟨?_, fun _ q => ?_⟩
    · rw [List.length_singleton]
      split <;> omega
    · rw [if_neg (q z List.mem_cons_self)]
      omega
  · have b := mqc_tl A
    have c := mqc_tl (tlA A ++ [(z, t + 1, t + 1)])
    rw [mqc_ap] at c
    rw [e, mqc_ap]
    have e2 : [z, z'].length = 2 := rfl
    rw [e2]
    refine ⟨?_, fun q => by omega⟩
    split at c <;> split <;> omega
def NRt (τ : Nat → qS) (t : Nat) : Prop := t % 7 < 6 ∧ τ (t + 1) 62 ((t % 7 : Nat) : Int) < 38
theorem mq_w {L s0 : Nat} {τ : Nat → qS} (hR : RNN L τ) {A : Nat → List (Ms × Nat × Nat)} {ρ : Nat → qS × qS × qS} {B : Nat → List (Ms × Nat × Nat) × List (Ms × Nat × Nat) × List (Ms × Nat × Nat)} (h : ANC2 L s0 τ A ρ B) (h7 : 224 ≤ s0) {t : Nat} (h1 : s0 + 448 ≤ t) (h2 : t < 7 * L) (h6 : t % 7 < 6) : mqc (A (t + 1)) ≤ mqc (A t) + ctq (NRt τ) t 1 + 2 * ctq (LKt τ) t 1 := by
  have f5 : ∀ y ∈ A t, xw y.1 0 = 5 → xw y.1 5 ≠ 6 := fun y hy y5 => by
    have tk := ANR_tk h.1.1 (t - s0) (by omega)
    rw [show s0 + (t - s0) = t by omega] at tk
    have lf := LIFE64 hR h.1.1 h7 (t := t) (by omega) (by omega) hy ((tokb_i y).mpr (Or.inl y5))
    obtain ⟨-, -, -, v, v6, -, ea, -⟩ := tk y hy ((tokb_i y).mpr (Or.inl y5)) (by omega)
    unfold asr at ea
    rw [if_pos y5] at ea
    omega
  have st : ∀ i, i ≤ 3 → mqc (stA A B t i) ≤ mqc (A t) := fun i => by
    induction i with
    | zero => intro _; exact Nat.le_refl _
    | succ i ih =>
      intro q
      have r := st_rd h.1 (by omega : s0 ≤ t) h2 h6 (i := i) (by omega)
      have a := RDn_mq r (fun y hy y5 => f5 y (st_f5 h.1 (by omega) h2 h6 i (by omega) y hy y5) y5)
      have b := ih (by omega)
      exact Nat.le_trans a b
  have s3 : mqc (B t).2.2 ≤ mqc (A t) := st 3 (Nat.le_refl _)
  obtain ⟨s, q1, q2, q3⟩ := h.2 t (by omega) h2 h6
  obtain ⟨a1, a2⟩ := ACn_mq q1
  by_cases c1 : LKs (τ (t + 1)) ((t % 7 : Nat) : Int)
  · have o := ow_2 (τ (t + 1)) ((t % 7 : Nat) : Int)
    have p := ctq_pt (P := LKt τ) (s := t) (x := t) 1 (by omega) (by omega) ⟨h6, c1⟩
    omega
  · have o := ow_1 c1
    by_cases c2 : τ (t + 1) 62 ((t % 7 : Nat) : Int) < 38
    · have p := ctq_pt (P := NRt τ) (s := t) (x := t) 1 (by omega) (by omega) ⟨h6, c2⟩
      omega
    · have z : mqc (A (t + 1)) ≤ mqc (B t).2.2 := by
        by_cases c3 : 2 ≤ τ (t + 1) 65 ((t % 7 : Nat) : Int)
        · rw [ow_0 (by omega) c3] at q2
          exact a2 (by omega) (fun x hx => by
            have : s = [] := List.length_eq_zero_iff.mp (by omega)
            rw [this] at hx
            cases hx)
        · have fe1 : fe (τ (t + 1)) ((t % 7 : Nat) : Int) = 1 := by
            have gr := run_g1 hR h6 (t := t + 1) (by omega) (by omega) (by omega)
            unfold fe
            exact if_pos ⟨by omega, by omega⟩
          obtain ⟨x, r, e, x5, x1, -⟩ := q3 fe1
          have er : r = [] := by
            rw [e, List.length_cons] at q2
            exact List.length_eq_zero_iff.mp (by omega)
          refine a2 (by omega) (fun y hy => ?_)
          rw [e, er, List.mem_singleton] at hy
          rw [hy]
          obtain ⟨y', -, y5, -, ya, -⟩ := BIRTH2 h (u := t) (by omega) h2 h6 fe1
          rw [x1, ← ya]
          obtain ⟨y'', k1, k5, -, ka, -⟩ := BIRTH2 h (u := t) (by omega) h2 h6 fe1
          have e0 := h.1.1.2.1 (t + 1) (by omega) (by omega)
          have b := lt5_b hR (t := t + 1) (by omega) (by omega) (by rw [← e0]; exact List.mem_map_of_mem (KA_mem k1)) k5
          rw [ya, ← ka]
          omega
      omega
theorem mq_m {L s0 : Nat} {τ : Nat → qS} (hR : RNN L τ) {A : Nat → List (Ms × Nat × Nat)} {ρ : Nat → qS × qS × qS} {B : Nat → List (Ms × Nat × Nat) × List (Ms × Nat × Nat) × List (Ms × Nat × Nat)} (h : ANC2 L s0 τ A ρ B) {t : Nat} (h0 : 7 ≤ t) (h1 : s0 ≤ t) (h2 : t < 7 * L) (h6 : t % 7 = 6) : mqc (A (t + 1)) + 3 ≤ max 3 (mqc (A t)) := by
  have e : ∀ u, s0 ≤ u → u ≤ 7 * L → mqc (A u) = cn 6 (ln (τ u)) := fun u u1 u2 => by
    rw [← h.1.1.2.1 u u1 u2]
    unfold mqc cn prA
    rw [List.countP_map]
    congr 1
  have l := run_95 hR (by omega) h0 (by omega : t ≤ 7 * L)
  rcases hR.2 t h2 with ⟨q, -⟩ | ⟨-, s⟩
  · omega
  · have m := (MT_q l s).1
    have a := mq_len (ln (τ (t + 1)))
    have b := mq_len (ln (τ t))
    rw [m, List.length_drop] at a
    rw [e t h1 (by omega), e (t + 1) (by omega) (by omega)]
    omega
theorem MLIN {L s0 : Nat} {τ : Nat → qS} (hR : RNN L τ) {A : Nat → List (Ms × Nat × Nat)} {ρ : Nat → qS × qS × qS} {B : Nat → List (Ms × Nat × Nat) × List (Ms × Nat × Nat) × List (Ms × Nat × Nat)} (h : ANC2 L s0 τ A ρ B) (h7 : 224 ≤ s0) {s : Nat} (h1 : s0 + 448 ≤ s) : ∀ k, s + k ≤ 7 * L → ∃ j, j ≤ k ∧ mqc (A (s + k)) + 3 * ctq (fun t => t % 7 = 6) (s + j) (k - j) ≤ ctq (NRt τ) (s + j) (k - j) + 2 * ctq (LKt τ) (s + j) (k - j) + (if j = 0 then mqc (A s) else 0) + 3
  | 0, _ => ⟨0, Nat.le_refl _, by simp [ctq]⟩
  | k + 1, hk => by
    obtain ⟨j, j1, j2⟩ := MLIN hR h h7 h1 k (by omega)
    have e1 : s + (k + 1) = s + k + 1 := by omega
    have ej : k + 1 - j = (k - j) + 1 := by omega
    have ej2 : s + j + (k - j) = s + k := by omega
    have i1 := ctq_jn (P := fun t => t % 7 = 6) (s := s + j) (k - j) 1
    have i2 := ctq_jn (P := NRt τ) (s := s + j) (k - j) 1
    have i3 := ctq_jn (P := LKt τ) (s := s + j) (k - j) 1
    rw [ej2] at i1 i2 i3
    rw [e1]
    by_cases c : (s + k) % 7 = 6
    · have m := mq_m hR h (t := s + k) (by omega) (by omega) (by omega) c
      have u := ctq_le (P := fun t => t % 7 = 6) (s := s + k) 1
      by_cases c3 : 3 ≤ mqc (A (s + k))
      · refine ⟨j, by omega, ?_⟩
        rw [ej, i1, i2, i3]
        rw [Nat.max_eq_right c3] at m
        omega
      · refine ⟨k, by omega, ?_⟩
        rw [Nat.max_eq_left (by omega)] at m
        rw [show k + 1 - k = 1 by omega]
        omega
    · have m := mq_w hR h h7 (t := s + k) (by omega) (by omega) (by omega)
      have z : ctq (fun t => t % 7 = 6) (s + k) 1 = 0 := ctq_off 1 (fun t t1 t2 q => by
        have : t = s + k := by omega
        rw [this] at q
        exact c q)
      refine ⟨j, by omega, ?_⟩
      rw [ej, i1, i2, i3]
      omega

