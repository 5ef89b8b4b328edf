def LKt (τ : Nat → qS) (t : Nat) : Prop := t % 7 < 6 ∧ LKs (τ (t + 1)) ((t % 7 : Nat) : Int)
theorem lkc_c (τ : Nat → qS) (s : Nat) : ∀ k, lkc τ (s + k) = lkc τ s + ctq (LKt τ) s k
  | 0 => by simp [ctq]
  | k + 1 => by
    have ih := lkc_c τ s k
    rw [show s + (k + 1) = s + k + 1 by omega]
    simp only [lkc, ctq]
    rw [ih]
    by_cases c : LKt τ (s + k)
    · rw [if_pos c, if_pos (show (s + k) % 7 < 6 ∧ LKs (τ (s + k + 1)) (((s + k) % 7 : Nat) : Int) from c)]
      omega
    · rw [if_neg c, if_neg (show ¬ ((s + k) % 7 < 6 ∧ LKs (τ (s + k + 1)) (((s + k) % 7 : Nat) : Int)) from c)]
      omega
theorem LK_sp {L : Nat} {τ : Nat → qS} (hR : RNN L τ) {t t' : Nat} (h1 : 7 * 145 ≤ t) (h2 : t' + 1 ≤ 7 * L) (hl : LKt τ t) (hl' : LKt τ t') (e : t % 7 = t' % 7) (hlt : t < t') : t + 1001 ≤ t' := by
  apply Classical.byContradiction
  intro n
  obtain ⟨j, ej⟩ : ∃ j, t' = t + 7 * (j + 1) := ⟨(t' - t) / 7 - 1, by omega⟩
  have w := hl'.1
  obtain ⟨-, -, -, -, -, -, -, -, a8⟩ := lk_wait hR (w := t' % 7) w rfl (by omega) h2 hl'.2 j (by omega)
  rw [show t' + 1 - 7 * (j + 1) = t + 1 by omega, ← e] at a8
  have := hl.2.2.2
  omega
theorem XN1 {L s0 : Nat} {τ : Nat → qS} (hR : RNN L τ) {A : Nat → List (Ms × Nat × Nat)} {ρ : Nat → qS × qS × qS} {B : Nat → List (Ms × Nat × Nat) × List (Ms × Nat × Nat) × List (Ms × Nat × Nat)} (h : ANC L s0 τ A ρ B) (h7 : 224 ≤ s0) {t j : Nat} (h1 : s0 + 1500 ≤ t) (h2 : t + 1 ≤ 7 * L) (hl : LKt τ t) (j1 : 1 ≤ j) (j2 : j ≤ 11) : gq τ (t - 91 * j) = 1 ∧ (5 ≤ j → NAb L s0 τ A ρ B (t + 1 - 91 * j)) := by
  obtain ⟨w6, lk⟩ := hl
  obtain ⟨-, a1, -, -, -, a5, a6, a7, a8⟩ := lk_wait hR (w := t % 7) w6 rfl (by omega) h2 lk (13 * j - 1) (by omega)
  rw [show 13 * j - 1 + 1 = 13 * j by omega] at a1 a5 a6 a7 a8
  unfold wtg at a5
  have e : t + 1 - 7 * (13 * j) = t - 91 * j + 1 := by omega
  rw [e] at a1 a5 a6 a7 a8
  have em : (t - 91 * j) % 7 = t % 7 := by omega
  refine ⟨?_, fun j5 u u1 u2 ha => ?_⟩
  · unfold gq
    rw [if_pos (by omega), em]
    unfold fe
    rw [if_pos ⟨a1, by omega⟩]
  · have hb : s0 < t + 1 - 91 * j := by omega
    obtain ⟨v, v1, v2, v3, -, v5, -⟩ := ACC_tk h hb u1 u2 ha
    have uw : u % 7 = t % 7 := by omega
    by_cases c : u ≤ t
    · exact LK_na hR h w6 rfl (by omega) h2 lk (u := u) uw u1 c (by omega) _ ha
    · have := (ACC_64 hR h h7 (by omega) u2 ha).1
      omega
def XNm (τ : Nat → qS) (m b : Nat) : Prop := ∃ j, 5 ≤ j ∧ j < 5 + m ∧ LKt τ (b + 91 * j - 1)
theorem XNc {L : Nat} {τ : Nat → qS} (hR : RNN L τ) {s k : Nat} (h1 : 7 * 145 ≤ s) (h2 : s + 1001 + k ≤ 7 * L) : ∀ m, m ≤ 7 → m * ctq (LKt τ) (s + 1001) k ≤ ctq (XNm τ m) s (k + 1001)
  | 0, _ => by rw [Nat.zero_mul]; exact Nat.zero_le _
  | m + 1, hm => by
    have ih := XNc hR (s := s) (k := k) h1 h2 m (by omega)
    have a := ctq_inj (P := LKt τ) (f := fun t => t + 1 - 91 * (5 + m)) (s := s + 1001) (a := s) (m := k + 1001) k (fun b => s ≤ b ∧ b < s + (k + 1001) ∧ LKt τ (b + 91 * (5 + m) - 1) ∧ b + 91 * (5 + m) < s + 1001 + k + 1) (fun t t1 t2 ht => by
      refine ⟨by omega, by omega, by omega, by omega, ?_, by omega⟩
      rw [show t + 1 - 91 * (5 + m) + 91 * (5 + m) - 1 = t by omega]
      exact ht) (fun t t' t1 t2 t1' t2' _ _ e => by
      have e' : t + 1 - 91 * (5 + m) = t' + 1 - 91 * (5 + m) := e
      omega)
    have b := ctq_2 (P := XNm τ m) (Q := fun b => s ≤ b ∧ b < s + (k + 1001) ∧ LKt τ (b + 91 * (5 + m) - 1) ∧ b + 91 * (5 + m) < s + 1001 + k + 1) (R := XNm τ (m + 1)) (s := s) (k + 1001) (fun b q1 q2 => ⟨fun ⟨j, j1, j2, j3⟩ => ⟨j, j1, by omega, j3⟩, fun q => ⟨5 + m, by omega, by omega, q.2.2.1⟩, fun ⟨⟨j, j1, j2, j3⟩, _, _, q3, q4⟩ => by
      have := LK_sp hR (t := b + 91 * j - 1) (t' := b + 91 * (5 + m) - 1) (by omega) (by omega) j3 q3 (by omega) (by omega)
      omega⟩)
    rw [Nat.succ_mul]
    omega

