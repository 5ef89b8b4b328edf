theorem lk_6 {L : Nat} {τ : Nat → qS} (hR : RNN L τ) {s : Nat} (h1 : 7 * 145 ≤ s) (h2 : s + 1002 ≤ 7 * L) : ctq (LKt τ) s 1001 ≤ 6 := by
  have a := ctq_inj (P := LKt τ) (f := fun t => t % 7) (s := s) (a := 0) (m := 6) 1001 (fun _ => True) (fun t _ _ p => ⟨Nat.zero_le _, by have := p.1; omega, trivial⟩) (fun t t' t1 t2 t3 t4 p p' e => by
    have e : t % 7 = t' % 7 := e
    rcases Nat.lt_trichotomy t t' with c | c | c
    · have := LK_sp hR (by omega) (by omega) p p' e c
      omega
    · exact c
    · have := LK_sp hR (by omega) (by omega) p' p e.symm c
      omega)
  exact Nat.le_trans a (ctq_le 6)
def TIL (τ : Nat → qS) (t1 t2 : Nat) : Prop := t1 + 1001 ≤ t2 ∧ LKt τ t2 ∧ ∀ u, t1 + 1001 ≤ u → u < t2 → ¬ LKt τ u
theorem fst_P {P : Nat → Prop} {a : Nat} : ∀ n, (∃ u, a ≤ u ∧ u < a + n ∧ P u) → ∃ t, a ≤ t ∧ t < a + n ∧ P t ∧ ∀ u, a ≤ u → u < t → ¬ P u
  | 0, ⟨u, u1, u2, _⟩ => by omega
  | n + 1, ⟨u, u1, u2, u3⟩ => by
    by_cases c : ∃ u, a ≤ u ∧ u < a + n ∧ P u
    · obtain ⟨t, a1, a2, a3, a4⟩ := fst_P n c
      exact ⟨t, a1, by omega, a3, a4⟩
    · exact ⟨u, u1, u2, u3, fun x x1 x2 x3 => c ⟨x, x1, by omega, x3⟩⟩
theorem til_b {L : Nat} {τ : Nat → qS} (hR : RNN L τ) {T0 Z : Nat} (hT : 1015 ≤ T0) (hZ : Z + 1002 ≤ 7 * L) {P : Nat → Nat} (hP : ∀ t1 t2, T0 ≤ t1 → t2 < Z → TIL τ t1 t2 → P t2 + 1 ≤ P t1) : ∀ m t1, P t1 ≤ m → T0 ≤ t1 → t1 ≤ Z → ctq (LKt τ) t1 (Z - t1) ≤ 6 * (m + 1) := by
  intro m
  induction m with
  | zero =>
    intro t1 p1 p2 p3
    have six := lk_6 hR (s := t1) (by omega) (by omega)
    by_cases c : Z ≤ t1 + 1001
    · have := ctq_sub (P := LKt τ) (s := t1) (k := Z - t1) (k' := 1001) (by omega)
      omega
    · rw [show Z - t1 = 1001 + (Z - t1 - 1001) by omega, ctq_jn]
      have off : ctq (LKt τ) (t1 + 1001) (Z - t1 - 1001) = 0 := by
        refine ctq_off _ fun t a1 a2 a3 => ?_
        obtain ⟨t2, b1, b2, b3, b4⟩ := fst_P (P := LKt τ) (a := t1 + 1001) (Z - t1 - 1001) ⟨t, a1, a2, a3⟩
        have := hP t1 t2 p2 (by omega) ⟨b1, b3, b4⟩
        omega
      omega
  | succ m ih =>
    intro t1 p1 p2 p3
    have six := lk_6 hR (s := t1) (by omega) (by omega)
    by_cases c : Z ≤ t1 + 1001
    · have := ctq_sub (P := LKt τ) (s := t1) (k := Z - t1) (k' := 1001) (by omega)
      omega
    · rw [show Z - t1 = 1001 + (Z - t1 - 1001) by omega, ctq_jn]
      by_cases d : ∃ t, t1 + 1001 ≤ t ∧ t < t1 + 1001 + (Z - t1 - 1001) ∧ LKt τ t
      · obtain ⟨t2, b1, b2, b3, b4⟩ := fst_P (P := LKt τ) (a := t1 + 1001) (Z - t1 - 1001) d
        have q := hP t1 t2 p2 (by omega) ⟨b1, b3, b4⟩
        have i := ih t2 (by omega) (by omega) (by omega)
        have off : ctq (LKt τ) (t1 + 1001) (t2 - t1 - 1001) = 0 := ctq_off _ fun t a1 a2 a3 => b4 t a1 (by omega) a3
        have j := ctq_jn (P := LKt τ) (s := t1 + 1001) (t2 - t1 - 1001) (Z - t2)
        rw [show t2 - t1 - 1001 + (Z - t2) = Z - t1 - 1001 by omega, show t1 + 1001 + (t2 - t1 - 1001) = t2 by omega] at j
        omega
      · have off : ctq (LKt τ) (t1 + 1001) (Z - t1 - 1001) = 0 := ctq_off _ fun t a1 a2 a3 => d ⟨t, a1, a2, a3⟩
        omega
theorem lkc_t (τ : Nat → qS) : ∀ t, lkc τ t ≤ t := fun t => by
  have a := lkc_c τ 0 t
  have b := ctq_le (P := LKt τ) (s := 0) t
  simp only [Nat.zero_add] at a
  have c : lkc τ 0 = 0 := rfl
  omega
theorem vc_tile {Bd T0 K : Nat} (H : ∀ (V : Nat) (τ : Nat → qS), RNN V τ → (∀ t, t ≤ 7 * V → psame (τ 0) (τ t)) → ∃ P : Nat → Nat, (∀ t, T0 ≤ t → t ≤ 7 * V → P t ≤ Bd) ∧ ∀ t1 t2, T0 ≤ t1 → t2 + K ≤ 7 * V → TIL τ t1 t2 → P t2 + 1 ≤ P t1) : Claimed_1_1 ∧ Claimed_1_2 := by
  refine vc_lk (B := T0 + 1015 + 6 * (Bd + 1) + (K + 1002)) fun V τ hR hs => ?_
  obtain ⟨P, hb, hd⟩ := H V τ hR hs
  by_cases c : 7 * V ≤ T0 + 1015 + (K + 1002)
  · have := lkc_t τ (7 * V)
    omega
  · have a := til_b hR (T0 := T0 + 1015) (Z := 7 * V - (K + 1002)) (by omega) (by omega) (P := P) (fun t1 t2 p1 p2 p3 => hd t1 t2 (by omega) (by omega) p3) (P (T0 + 1015)) (T0 + 1015) (Nat.le_refl _) (Nat.le_refl _) (by omega)
    have b := hb (T0 + 1015) (by omega) (by omega)
    have e := lkc_c τ (T0 + 1015) (7 * V - (T0 + 1015))
    rw [show T0 + 1015 + (7 * V - (T0 + 1015)) = 7 * V by omega] at e
    have f := ctq_tail (P := LKt τ) (s := T0 + 1015) (n := 7 * V - (K + 1002) - (T0 + 1015)) (K + 1002)
    rw [show 7 * V - (K + 1002) - (T0 + 1015) + (K + 1002) = 7 * V - (T0 + 1015) by omega] at f
    have g := lkc_t τ (T0 + 1015)
    have := Nat.mul_le_mul_left 6 (Nat.add_le_add_right b 1)
    omega

