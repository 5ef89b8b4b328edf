-- wait-aware: a worker in a LACKS wait is not fresh
def LWt (τ : Nat → qS) (v t : Nat) : Prop := ∃ l, LKt τ l ∧ l % 7 = v ∧ t ≤ l ∧ l ≤ t + 994
def FRw (L s0 : Nat) (τ : Nat → qS) (A : Nat → List (Ms × Nat × Nat)) (B : Nat → List (Ms × Nat × Nat) × List (Ms × Nat × Nat) × List (Ms × Nat × Nat)) (v κ φ : Nat) : Prop := FRm L s0 τ A B v κ φ ∧ ¬ LWt τ v φ
theorem DKw {L s0 : Nat} {τ : Nat → qS} (hR : RNN L τ) (hs : ∀ t, t ≤ 7 * L → psame (τ 0) (τ t)) {A : Nat → List (Ms × Nat × Nat)} {ρ : Nat → qS × qS × qS} {B : Nat → List (Ms × Nat × Nat) × List (Ms × Nat × Nat) × List (Ms × Nat × Nat)} (h : ANC L s0 τ A ρ B) (h7 : 1000 ≤ s0) {t i b : Nat} (t1 : s0 + 900 ≤ t) (t2 : t + 1002 ≤ 7 * L) (hi : i < 3) (hr : rdk τ A ρ B 5 t i b) {t' : Nat} (t1' : s0 ≤ t') (t2' : t' < 7 * L) (ha : ACC τ A ρ B t' b) : OWb L s0 τ A ρ B b ∨ PNk L s0 τ A ρ B b ∨ ∃ κ, FRw L s0 τ A B (t' % 7) κ t ∧ b ≤ κ ∧ t < b + 224 ∧ κ < t' ∧ ∀ u, κ < u → u < t' → ¬ KLt τ (t' % 7) u := by
  have q := rd5_b hR h (by omega) (by omega) (by omega) hi hr
  obtain ⟨i6, hi6, hr6⟩ := ACC_rd ha
  have φt := rd56 h (by omega : s0 < b) (by omega) (by omega : t < 7 * L) t1' t2' hi6 hi hr hr6
  rcases DKm hR hs h (by omega) t1 (by omega) hi hr t1' t2' ha with c | c | ⟨κ, c1, c2, c3, c4, c5⟩
  · exact Or.inl c
  · exact Or.inr (Or.inl c)
  · refine Or.inr (Or.inr ⟨κ, ⟨c1, fun ⟨l, l1, l2, l3, l4⟩ => ?_⟩, c2, c3, c4, c5⟩)
    have b64 := (ACC_64 hR h (by omega) (t := t') (by omega) t2' ha).1
    by_cases e : t' ≤ l
    · exact LK_na hR h (w := t' % 7) ha.1 (t := l) l2 (by omega) (by omega) (by rw [← l2]; exact l1.2) (u := t') rfl t1' e (by omega) b ha
    · obtain ⟨x, i', y, ⟨w6, w1, w2, w3, w4, w5, w7, w8, w9, w10, w11, w12, w13, w14⟩, mp, nn⟩ := c1
      have r := LK_red hR (t := l) (c := κ + 1) (by omega) (by omega) l1 (by omega) (by omega)
      have z := w5.2.2
      rw [l2] at r
      omega
def FRw_n (L s0 : Nat) (τ : Nat → qS) (A : Nat → List (Ms × Nat × Nat)) (ρ : Nat → qS × qS × qS) (B : Nat → List (Ms × Nat × Nat) × List (Ms × Nat × Nat) × List (Ms × Nat × Nat)) (D : Nat → Prop) (s n b : Nat) : Prop := ∃ t i t' κ, s ≤ t ∧ t < s + n ∧ i < 3 ∧ D t ∧ rdk τ A ρ B 5 t i b ∧ s0 ≤ t' ∧ t' < 7 * L ∧ ACC τ A ρ B t' b ∧ FRw L s0 τ A B (t' % 7) κ t ∧ b ≤ κ ∧ t < b + 224 ∧ κ < t' ∧ ∀ u, κ < u → u < t' → ¬ KLt τ (t' % 7) u
def FRk3 (L s0 : Nat) (τ : Nat → qS) (A : Nat → List (Ms × Nat × Nat)) (B : Nat → List (Ms × Nat × Nat) × List (Ms × Nat × Nat) × List (Ms × Nat × Nat)) (φ : Nat) : Prop := ∃ v κ, FRw L s0 τ A B v κ φ
theorem FRk3_2 {L s0 : Nat} {τ : Nat → qS} {A : Nat → List (Ms × Nat × Nat)} {ρ : Nat → qS × qS × qS} {B : Nat → List (Ms × Nat × Nat) × List (Ms × Nat × Nat) × List (Ms × Nat × Nat)} {φ : Nat} (h : FRk3 L s0 τ A B φ) : FRk2 L s0 τ A B φ := by
  obtain ⟨v, κ, a, -⟩ := h
  exact ⟨v, κ, a⟩
theorem ACC5w {L s0 : Nat} {τ : Nat → qS} (hR : RNN L τ) (hs : ∀ t, t ≤ 7 * L → psame (τ 0) (τ t)) {A : Nat → List (Ms × Nat × Nat)} {ρ : Nat → qS × qS × qS} {B : Nat → List (Ms × Nat × Nat) × List (Ms × Nat × Nat) × List (Ms × Nat × Nat)} (h : ANC L s0 τ A ρ B) (h7 : 1000 ≤ s0) {D : Nat → Prop} {s n : Nat} (h1 : s0 + 900 ≤ s) (h2 : s + n + 1002 ≤ 7 * L) : ctq (fun b => ¬ NAb L s0 τ A ρ B b ∧ ∃ t i, s ≤ t ∧ t < s + n ∧ i < 3 ∧ D t ∧ rdk τ A ρ B 5 t i b) (s - 448) (n + 448) ≤ ctq (fun b => (OWb L s0 τ A ρ B b ∨ PNk L s0 τ A ρ B b) ∧ ∃ t i, s ≤ t ∧ t < s + n ∧ i < 3 ∧ D t ∧ rdk τ A ρ B 5 t i b) (s - 448) (n + 448) + ctq (FRw_n L s0 τ A ρ B D s n) (s - 448) (n + 448) :=
  ctq_or _ (fun b _ _ ⟨hp, t, i, t1, t2, hi, hd, hr⟩ => by
    obtain ⟨t', t1', t2', ha⟩ : ∃ t', s0 ≤ t' ∧ t' < 7 * L ∧ ACC τ A ρ B t' b := by
      apply Classical.byContradiction
      intro m
      exact hp fun t' q1 q2 q3 => m ⟨t', q1, q2, q3⟩
    rcases DKw hR hs h h7 (by omega) (by omega) hi hr t1' t2' ha with c | c | ⟨κ, c1, c2, c3, c4, c5⟩
    · exact Or.inl ⟨Or.inl c, t, i, t1, t2, hi, hd, hr⟩
    · exact Or.inl ⟨Or.inr c, t, i, t1, t2, hi, hd, hr⟩
    · exact Or.inr ⟨t, i, t', κ, t1, t2, hi, hd, hr, t1', t2', ha, c1, c2, c3, c4, c5⟩)
theorem STE11 {L s0 : Nat} {τ : Nat → qS} (hR : RNN L τ) (hs : ∀ t, t ≤ 7 * L → psame (τ 0) (τ t)) {A : Nat → List (Ms × Nat × Nat)} {ρ : Nat → qS × qS × qS} {B : Nat → List (Ms × Nat × Nat) × List (Ms × Nat × Nat) × List (Ms × Nat × Nat)} (h : ANC L s0 τ A ρ B) (h7 : 1000 ≤ s0) {D : Nat → Prop} {s n : Nat} (h1 : s0 + 1500 ≤ s) (h2 : s + n + 1450 ≤ 7 * L) (hD : ∀ t, s ≤ t → t < s + n → D t → t % 7 < 6 ∧ 3 ≤ cn ((t % 7 : Nat) : Int) (ln (τ t))) {Z : Nat → Prop} (hZ : ∀ b, (∃ t i, s ≤ t ∧ t < s + n ∧ i < 3 ∧ D t ∧ rdk τ A ρ B 5 t i b) → Z b) : 2 * ctq D s n + ctq (fun t => (D t ∧ ¬ ∃ b, ACC τ A ρ B t b) ∧ ¬ gdq τ ρ t = 1) s n + 2 * ctq (WHt τ) s n + ctq (fun b => NAb L s0 τ A ρ B b ∧ Z b ∧ ¬ ∃ t i, s ≤ t ∧ t < s + n ∧ i < 3 ∧ D t ∧ rdk τ A ρ B 5 t i b) (s - 448) (n + 448) ≤ ctq (fun t => D t ∧ AXs τ A ρ B t) s n + smq (fun t => @ite Nat (D t) (Classical.propDecidable _) (jkq τ ρ t) 0) s n + ctq (fun b => TOb τ ((b - 1) % 7) b ∧ ∃ t, s ≤ t ∧ t < s + n ∧ D t ∧ ACC τ A ρ B t b) (s - 448) (n + 448) + ctq (fun b => NLb L s0 τ A ρ B s (n + 448) b ∧ ∃ t i, s ≤ t ∧ t < s + n ∧ i < 3 ∧ D t ∧ rdk τ A ρ B 6 t i b) (s - 448) (n + 448) + ctq (fun b => NLb L s0 τ A ρ B s (n + 448) b ∧ Z b) (s - 448) (n + 448) + ctq (fun b => (OWb L s0 τ A ρ B b ∨ PNk L s0 τ A ρ B b) ∧ ∃ t i, s ≤ t ∧ t < s + n ∧ i < 3 ∧ D t ∧ rdk τ A ρ B 5 t i b) (s - 448) (n + 448) + ctq (FRw_n L s0 τ A ρ B D s n) (s - 448) (n + 448) + 10 * ctq (LKt τ) s n + 2 * ctq (fun l => LKt τ l ∧ ¬ GLk L τ A ρ B l) s n + 2 * ctq (TAt τ A ρ B (s - 449)) s n + 30000 := by
  have a := STE8 hR hs h (by omega) h1 h2 hD hZ
  have f := ACC5w hR hs h h7 (D := D) (s := s) (n := n) (by omega) (by omega)
  have g := GCl hR h (s := s) (k := n) (by omega) (by omega) D
  have c := ctq_2 (P := fun t => (D t ∧ ¬ ∃ b, ACC τ A ρ B t b) ∧ gdq τ ρ t = 1) (Q := fun t => D t ∧ ∃ b, ACC τ A ρ B t b) (R := fun t => D t ∧ ((∃ b, ACC τ A ρ B t b) ∨ gdq τ ρ t = 1)) (s := s) n (fun t _ _ => ⟨fun q => ⟨q.1.1, Or.inr q.2⟩, fun q => ⟨q.1, Or.inl q.2⟩, fun q => q.1.1.2 q.2.2⟩)
  have e := ctq_2 (P := fun t => D t ∧ ((∃ b, ACC τ A ρ B t b) ∨ gdq τ ρ t = 1)) (Q := fun t => (D t ∧ ¬ ∃ b, ACC τ A ρ B t b) ∧ ¬ gdq τ ρ t = 1) (R := D) (s := s) n (fun t _ _ => ⟨fun q => q.1, fun q => q.1.1, fun ⟨q, q'⟩ => by
    rcases q.2 with p | p
    · exact q'.1.2 p
    · exact q'.2 p⟩)
  omega
-- at most 32 fresh names for each kill
theorem FRw32 {L s0 : Nat} {τ : Nat → qS} (hR : RNN L τ) {A : Nat → List (Ms × Nat × Nat)} {ρ : Nat → qS × qS × qS} {B : Nat → List (Ms × Nat × Nat) × List (Ms × Nat × Nat) × List (Ms × Nat × Nat)} (h : ANC L s0 τ A ρ B) (h7 : 224 ≤ s0) {D : Nat → Prop} {s n : Nat} (h1 : s0 + 900 ≤ s) (h2 : s + n ≤ 7 * L) : ctq (FRw_n L s0 τ A ρ B D s n) (s - 448) (n + 448) ≤ 32 * ctq (fun κ => KAt τ κ ∧ ∃ t, s ≤ t ∧ t < s + n ∧ D t ∧ FRw L s0 τ A B (κ % 7) κ t) (s - 449) (n + 448 + 224) := by
  have a := ctq_w7 (P := FRw_n L s0 τ A ρ B D s n) (Q := fun κ => KAt τ κ ∧ ∃ t, s ≤ t ∧ t < s + n ∧ D t ∧ FRw L s0 τ A B (κ % 7) κ t) (s := s - 448) (n := n + 448) (m := 32) (by omega) (fun b b1 b2 ⟨t, i, t', κ, t1, t2, hi, hd, hr, u1, u2, ha, fm, bκ, tb, κt, nk⟩ => by
    obtain ⟨v, v1, v2, v3, -⟩ := ACC_tk h (by omega : s0 < b) u1 u2 ha
    obtain ⟨⟨x, i', y, ⟨w6, w1, w2, w3, w4, w5, w7, w8, w9, w10, w11, w12, w13, w14⟩, mp, nn⟩, lw⟩ := fm
    have kv := w5.1
    refine ⟨(κ - (b - 1)) / 7, by omega, ?_⟩
    rw [show b - 1 + 7 * ((κ - (b - 1)) / 7) = κ by omega]
    refine ⟨⟨by omega, by rw [kv]; exact w5⟩, t, t1, t2, hd, ?_⟩
    rw [kv]
    exact ⟨⟨x, i', y, ⟨w6, w1, w2, w3, w4, w5, w7, w8, w9, w10, w11, w12, w13, w14⟩, mp, nn⟩, lw⟩) (by omega)
  rw [show s - 448 - 1 = s - 449 by omega, show n + 448 + 7 * 32 = n + 448 + 224 by omega] at a
  exact a

