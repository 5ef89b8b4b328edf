-- STE10: the ledger of the C road: any set D of full ticks, accepted names split into own, pending and fresh ones, ticks without acceptance weigh 3
def FRn (L s0 : Nat) (τ : Nat → qS) (A : Nat → List (Ms × Nat × Nat)) (ρ : Nat → qS × qS × qS) (B : Nat → List (Ms × Nat × Nat) × List (Ms × Nat × Nat) × List (Ms × Nat × Nat)) (D : Nat → Prop) (s n b : Nat) : Prop := ∃ t i t' κ, s ≤ t ∧ t < s + n ∧ i < 3 ∧ D t ∧ rdk τ A ρ B 5 t i b ∧ s0 ≤ t' ∧ t' < 7 * L ∧ ACC τ A ρ B t' b ∧ FRm L s0 τ A B (t' % 7) κ t ∧ b ≤ κ ∧ t < b + 224 ∧ κ < t' ∧ ∀ u, κ < u → u < t' → ¬ KLt τ (t' % 7) u
theorem ACC5s {L s0 : Nat} {τ : Nat → qS} (hR : RNN L τ) (hs : ∀ t, t ≤ 7 * L → psame (τ 0) (τ t)) {A : Nat → List (Ms × Nat × Nat)} {ρ : Nat → qS × qS × qS} {B : Nat → List (Ms × Nat × Nat) × List (Ms × Nat × Nat) × List (Ms × Nat × Nat)} (h : ANC L s0 τ A ρ B) (h7 : 224 ≤ s0) {D : Nat → Prop} {s n : Nat} (h1 : s0 + 900 ≤ s) (h2 : s + n ≤ 7 * L) : ctq (fun b => ¬ NAb L s0 τ A ρ B b ∧ ∃ t i, s ≤ t ∧ t < s + n ∧ i < 3 ∧ D t ∧ rdk τ A ρ B 5 t i b) (s - 448) (n + 448) ≤ ctq (fun b => (OWb L s0 τ A ρ B b ∨ PNk L s0 τ A ρ B b) ∧ ∃ t i, s ≤ t ∧ t < s + n ∧ i < 3 ∧ D t ∧ rdk τ A ρ B 5 t i b) (s - 448) (n + 448) + ctq (FRn L s0 τ A ρ B D s n) (s - 448) (n + 448) :=
  ctq_or _ (fun b _ _ ⟨hp, t, i, t1, t2, hi, hd, hr⟩ => by
    obtain ⟨t', t1', t2', ha⟩ : ∃ t', s0 ≤ t' ∧ t' < 7 * L ∧ ACC τ A ρ B t' b := by
      apply Classical.byContradiction
      intro m
      exact hp fun t' q1 q2 q3 => m ⟨t', q1, q2, q3⟩
    rcases DKm hR hs h h7 (by omega) (by omega) hi hr t1' t2' ha with c | c | ⟨κ, c1, c2, c3, c4, c5⟩
    · exact Or.inl ⟨Or.inl c, t, i, t1, t2, hi, hd, hr⟩
    · exact Or.inl ⟨Or.inr c, t, i, t1, t2, hi, hd, hr⟩
    · exact Or.inr ⟨t, i, t', κ, t1, t2, hi, hd, hr, t1', t2', ha, c1, c2, c3, c4, c5⟩)
theorem STE10 {L s0 : Nat} {τ : Nat → qS} (hR : RNN L τ) (hs : ∀ t, t ≤ 7 * L → psame (τ 0) (τ t)) {A : Nat → List (Ms × Nat × Nat)} {ρ : Nat → qS × qS × qS} {B : Nat → List (Ms × Nat × Nat) × List (Ms × Nat × Nat) × List (Ms × Nat × Nat)} (h : ANC L s0 τ A ρ B) (h7 : 224 ≤ s0) {D : Nat → Prop} {s n : Nat} (h1 : s0 + 1500 ≤ s) (h2 : s + n + 1450 ≤ 7 * L) (hD : ∀ t, s ≤ t → t < s + n → D t → t % 7 < 6 ∧ 3 ≤ cn ((t % 7 : Nat) : Int) (ln (τ t))) {Z : Nat → Prop} (hZ : ∀ b, (∃ t i, s ≤ t ∧ t < s + n ∧ i < 3 ∧ D t ∧ rdk τ A ρ B 5 t i b) → Z b) : 2 * ctq D s n + ctq (fun t => (D t ∧ ¬ ∃ b, ACC τ A ρ B t b) ∧ ¬ gdq τ ρ t = 1) s n + 2 * ctq (WHt τ) s n + ctq (fun b => NAb L s0 τ A ρ B b ∧ Z b ∧ ¬ ∃ t i, s ≤ t ∧ t < s + n ∧ i < 3 ∧ D t ∧ rdk τ A ρ B 5 t i b) (s - 448) (n + 448) ≤ ctq (fun t => D t ∧ AXs τ A ρ B t) s n + smq (fun t => @ite Nat (D t) (Classical.propDecidable _) (jkq τ ρ t) 0) s n + ctq (fun b => TOb τ ((b - 1) % 7) b ∧ ∃ t, s ≤ t ∧ t < s + n ∧ D t ∧ ACC τ A ρ B t b) (s - 448) (n + 448) + ctq (fun b => NLb L s0 τ A ρ B s (n + 448) b ∧ ∃ t i, s ≤ t ∧ t < s + n ∧ i < 3 ∧ D t ∧ rdk τ A ρ B 6 t i b) (s - 448) (n + 448) + ctq (fun b => NLb L s0 τ A ρ B s (n + 448) b ∧ Z b) (s - 448) (n + 448) + ctq (fun b => (OWb L s0 τ A ρ B b ∨ PNk L s0 τ A ρ B b) ∧ ∃ t i, s ≤ t ∧ t < s + n ∧ i < 3 ∧ D t ∧ rdk τ A ρ B 5 t i b) (s - 448) (n + 448) + ctq (FRn L s0 τ A ρ B D s n) (s - 448) (n + 448) + 10 * ctq (LKt τ) s n + 2 * ctq (fun l => LKt τ l ∧ ¬ GLk L τ A ρ B l) s n + 2 * ctq (TAt τ A ρ B (s - 449)) s n + 30000 := by
  have a := STE8 hR hs h h7 h1 h2 hD hZ
  have f := ACC5s hR hs h h7 (D := D) (s := s) (n := n) (by omega) (by omega)
  have g := GCl hR h (s := s) (k := n) (by omega) (by omega) D
  have c := ctq_2 (P := fun t => (D t ∧ ¬ ∃ b, ACC τ A ρ B t b) ∧ gdq τ ρ t = 1) (Q := fun t => D t ∧ ∃ b, ACC τ A ρ B t b) (R := fun t => D t ∧ ((∃ b, ACC τ A ρ B t b) ∨ gdq τ ρ t = 1)) (s := s) n (fun t _ _ => ⟨fun q => ⟨q.1.1, Or.inr q.2⟩, fun q => ⟨q.1, Or.inl q.2⟩, fun q => q.1.1.2 q.2.2⟩)
  have e := ctq_2 (P := fun t => D t ∧ ((∃ b, ACC τ A ρ B t b) ∨ gdq τ ρ t = 1)) (Q := fun t => (D t ∧ ¬ ∃ b, ACC τ A ρ B t b) ∧ ¬ gdq τ ρ t = 1) (R := D) (s := s) n (fun t _ _ => ⟨fun q => q.1, fun q => q.1.1, fun ⟨q, q'⟩ => by
    rcases q.2 with p | p
    · exact q'.1.2 p
    · exact q'.2 p⟩)
  omega
-- at most 32 fresh names for each kill
theorem ctq_w7 {P Q : Nat → Prop} {s n m : Nat} (hm : 7 * m ≤ s) (h : ∀ b, s ≤ b → b < s + n → P b → ∃ e, e < m ∧ Q (b - 1 + 7 * e)) (h1 : 1 ≤ s) : ctq P s n ≤ m * ctq Q (s - 1) (n + 7 * m) := by
  have one : ∀ k, k ≤ m → ctq (fun b => P b ∧ ∃ e, e < k ∧ Q (b - 1 + 7 * e)) s n ≤ k * ctq Q (s - 1) (n + 7 * m) := fun k => by
    induction k with
    | zero =>
      intro _
      rw [ctq_off n (fun b _ _ q => by obtain ⟨-, e, e1, -⟩ := q; omega)]
      omega
    | succ k ih =>
      intro hk
      have a := ih (by omega)
      have c := ctq_or (P := fun b => P b ∧ ∃ e, e < k + 1 ∧ Q (b - 1 + 7 * e)) (Q := fun b => P b ∧ ∃ e, e < k ∧ Q (b - 1 + 7 * e)) (R := fun b => Q (b - 1 + 7 * k)) (s := s) n (fun b _ _ ⟨p, e, e1, e2⟩ => by
        by_cases x : e < k
        · exact Or.inl ⟨p, e, x, e2⟩
        · right
          rw [show k = e by omega]
          exact e2)
      have d := ctq_inj (P := fun b => Q (b - 1 + 7 * k)) (f := fun b => b - 1 + 7 * k) (s := s) (a := s - 1) (m := n + 7 * m) n Q (fun b b1 b2 q => ⟨by omega, by omega, q⟩) (fun b b' b1 _ b1' _ _ _ e => by
        have e' : b - 1 + 7 * k = b' - 1 + 7 * k := e
        omega)
      rw [Nat.add_mul, Nat.one_mul]
      omega
  have a := one m (Nat.le_refl _)
  have b := ctq_mo (P := P) (Q := fun b => P b ∧ ∃ e, e < m ∧ Q (b - 1 + 7 * e)) (s := s) n (fun b b1 b2 p => ⟨p, h b b1 b2 p⟩)
  exact Nat.le_trans b a
theorem FR32 {L s0 : Nat} {τ : Nat → qS} (hR : RNN L τ) {A : Nat → List (Ms × Nat × Nat)} {ρ : Nat → qS × qS × qS} {B : Nat → List (Ms × Nat × Nat) × List (Ms × Nat × Nat) × List (Ms × Nat × Nat)} (h : ANC L s0 τ A ρ B) (h7 : 224 ≤ s0) {D : Nat → Prop} {s n : Nat} (h1 : s0 + 900 ≤ s) (h2 : s + n ≤ 7 * L) : ctq (FRn L s0 τ A ρ B D s n) (s - 448) (n + 448) ≤ 32 * ctq (fun κ => KAt τ κ ∧ ∃ t, s ≤ t ∧ t < s + n ∧ D t ∧ FRm L s0 τ A B (κ % 7) κ t) (s - 449) (n + 448 + 224) := by
  have a := ctq_w7 (P := FRn L s0 τ A ρ B D s n) (Q := fun κ => KAt τ κ ∧ ∃ t, s ≤ t ∧ t < s + n ∧ D t ∧ FRm L s0 τ A B (κ % 7) κ t) (s := s - 448) (n := n + 448) (m := 32) (by omega) (fun b b1 b2 ⟨t, i, t', κ, t1, t2, hi, hd, hr, u1, u2, ha, fm, bκ, tb, κt, nk⟩ => by
    obtain ⟨v, v1, v2, v3, -⟩ := ACC_tk h (by omega : s0 < b) u1 u2 ha
    obtain ⟨x, i', y, ⟨w6, w1, w2, w3, w4, w5, w7, w8, w9, w10, w11, w12, w13, w14⟩, mp, nn⟩ := fm
    have kv := w5.1
    refine ⟨(κ - (b - 1)) / 7, by omega, ?_⟩
    rw [show b - 1 + 7 * ((κ - (b - 1)) / 7) = κ by omega]
    refine ⟨⟨by omega, by rw [kv]; exact w5⟩, t, t1, t2, hd, ?_⟩
    rw [kv]
    exact ⟨x, i', y, ⟨w6, w1, w2, w3, w4, w5, w7, w8, w9, w10, w11, w12, w13, w14⟩, mp, nn⟩) (by omega)
  rw [show s - 448 - 1 = s - 449 by omega, show n + 448 + 7 * 32 = n + 448 + 224 by omega] at a
  exact a

