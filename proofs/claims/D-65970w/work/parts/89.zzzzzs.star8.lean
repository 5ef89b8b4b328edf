-- ASKs that the master hears and does not answer
def rfq (τ : Nat → qS) (t : Nat) : Nat := if t % 7 = 6 then qAG (τ t) - qAG (τ (t + 1)) else 0
theorem gvr_t {L s0 : Nat} {τ : Nat → qS} (hR : RNN L τ) {A : Nat → List (Ms × Nat × Nat)} {ρ : Nat → qS × qS × qS} {B : Nat → List (Ms × Nat × Nat) × List (Ms × Nat × Nat) × List (Ms × Nat × Nat)} (h : ANC L s0 τ A ρ B) {t : Nat} (h1 : s0 ≤ t) (h2 : t < 7 * L) : qAG (τ (t + 1)) + gvq τ ρ t + rfq τ t ≤ qAG (τ t) + @ite Nat (ASKt τ t) (Classical.propDecidable _) 1 0 := by
  have g := gv_t hR h h1 h2
  by_cases h6 : t % 7 = 6
  · have e : gvq τ ρ t = 0 := by unfold gvq; exact if_neg (by omega)
    have f : rfq τ t = qAG (τ t) - qAG (τ (t + 1)) := by unfold rfq; exact if_pos h6
    have n : ¬ ASKt τ t := fun q => by have := q.1; omega
    rw [if_neg n] at g ⊢
    omega
  · have f : rfq τ t = 0 := by unfold rfq; exact if_neg h6
    omega
theorem GVR {L s0 : Nat} {τ : Nat → qS} (hR : RNN L τ) {A : Nat → List (Ms × Nat × Nat)} {ρ : Nat → qS × qS × qS} {B : Nat → List (Ms × Nat × Nat) × List (Ms × Nat × Nat) × List (Ms × Nat × Nat)} (h : ANC L s0 τ A ρ B) {s : Nat} (h1 : s0 ≤ s) : ∀ k, s + k ≤ 7 * L → qAG (τ (s + k)) + smq (gvq τ ρ) s k + smq (rfq τ) s k ≤ qAG (τ s) + ctq (ASKt τ) s k
  | 0, _ => by simp [smq, ctq]
  | k + 1, hl => by
    have ih := GVR hR h h1 k (by omega)
    have b := gvr_t hR h (t := s + k) (by omega) (by omega)
    rw [show s + (k + 1) = s + k + 1 by omega]
    simp only [ctq, smq]
    omega
theorem IDX2 {L s0 : Nat} {τ : Nat → qS} (hR : RNN L τ) {A : Nat → List (Ms × Nat × Nat)} {ρ : Nat → qS × qS × qS} {B : Nat → List (Ms × Nat × Nat) × List (Ms × Nat × Nat) × List (Ms × Nat × Nat)} (h : ANC L s0 τ A ρ B) {s k : Nat} (h7 : 7 ≤ s) (h1 : s0 + 7 ≤ s) (h2 : s + k ≤ 7 * L) : 2 * smq (gsq τ) s k + 2 * ctq (DNt τ ρ) s k + 6 * smq (jkq τ ρ) s k + 6 * smq (rfq τ) s k ≤ smq (idq τ) s k + 800 := by
  have si := SI5 hR h h1 h2
  have as := ctq_b7 (P := ASKt τ) (Q := fun t => FZt τ ρ t ∨ SIa τ ρ 5 t) (s := s) (k := k) h7 (fun t t1 t2 q => ask_pv hR h (by omega) (by omega) q)
  have as2 := ctq_or (P := fun t => FZt τ ρ t ∨ SIa τ ρ 5 t) (Q := FZt τ ρ) (R := SIa τ ρ 5) (s := s) k (fun t _ _ q => q)
  have g := GVR hR h (s := s) (by omega) k h2
  have g0 : qAG (τ s) ≤ 95 := by
    have l := run_95 hR (by omega) h7 (by omega : s ≤ 7 * L)
    have : qAG (τ s) ≤ (ln (τ s)).length := List.countP_le_length
    omega
  have jk := jk_s hR h (s := s) (by omega) k h2
  have bz := BZk hR h (s := s) (by omega) k h2
  have b6 := sx6_b (τ s)
  have kl := KLA hR (s := s) k h2
  have e6 : rrs (τ (s + k)) ≤ 6 := by
    unfold rrs
    have := rr_b (τ (s + k)) 0
    have := rr_b (τ (s + k)) 1
    have := rr_b (τ (s + k)) 2
    have := rr_b (τ (s + k)) 3
    have := rr_b (τ (s + k)) 4
    have := rr_b (τ (s + k)) 5
    omega
  have kd := ctq_2 (P := KAt τ) (Q := DNt τ ρ) (R := FZt τ ρ) (s := s) k (fun t t1 t2 => ⟨fun q => KA_fz hR h (by omega) (by omega) q, fun q => q.1, fun q => q.2.2 q.1⟩)
  have i1 := ctq_2 (P := FZt τ ρ) (Q := ASKt τ) (R := fun t => FZt τ ρ t ∨ ASKt τ t) (s := s) k (fun t t1 t2 => ⟨Or.inl, Or.inr, fun q => by
    obtain ⟨f, h6, k1, k2⟩ := q
    rcases id_cs hR h (t := t) (by omega) (by omega) h6 k1 with ⟨-, c⟩ | ⟨c, -⟩
    · omega
    · exact f.2.1 c⟩)
  have i2 := ctq_2 (P := fun t => FZt τ ρ t ∨ ASKt τ t) (Q := SIt τ ρ) (R := fun t => idq τ t = 1) (s := s) k (fun t t1 t2 => by
    have id : t % 7 < 6 → τ (t + 1) 62 ((t % 7 : Nat) : Int) = -1 → idq τ t = 1 := fun h6 e => by
      unfold idq
      rw [if_pos h6, if_neg (by omega)]
    have sx : SIt τ ρ t → ∃ a : Int, 1 ≤ a ∧ SIa τ ρ a t := fun q => by
      rcases q with q | q | q | q | q
      · exact ⟨1, by decide, q⟩
      · exact ⟨2, by decide, q⟩
      · exact ⟨3, by decide, q⟩
      · exact ⟨4, by decide, q⟩
      · exact ⟨5, by decide, q⟩
    refine ⟨fun q => ?_, fun q => ?_, fun q => ?_⟩
    · rcases q with q | q
      · exact id q.1 q.2.2
      · exact id q.1 q.2.1
    · obtain ⟨a, -, q⟩ := sx q
      exact id q.1 q.2.2.2.2
    · obtain ⟨q1, q2⟩ := q
      obtain ⟨a, a1, q2⟩ := sx q2
      rcases q1 with q | q
      · exact q.2.1 q2.2.1
      · rcases id_cs hR h (t := t) (by omega) (by omega) q.1 q.2.1 with ⟨c, -⟩ | ⟨-, -, c⟩
        · exact c.2.1 q2.2.1
        · have e1 := q.2.2
          rw [q2.2.2.2.1] at c
          split at c <;> omega)
  have i3 := ctq_sm' (P := fun t => idq τ t = 1) (f := idq τ) (s := s) k (fun t _ _ e => by omega)
  omega

-- STAR8: refused ASKs, and any set X of names counted by itself
theorem STAR8 {L s0 : Nat} {τ : Nat → qS} (hR : RNN L τ) (hs : ∀ t, t ≤ 7 * L → psame (τ 0) (τ t)) (hJ : ∀ t, t ≤ 7 * L → JOm (τ t) ≠ none) {A : Nat → List (Ms × Nat × Nat)} {ρ : Nat → qS × qS × qS} {B : Nat → List (Ms × Nat × Nat) × List (Ms × Nat × Nat) × List (Ms × Nat × Nat)} (h : ANC L s0 τ A ρ B) (h7 : 224 ≤ s0) {ch : Nat → Nat} {r0 n : Nat} (h1 : s0 + 900 ≤ 7 * r0) (h2 : r0 + n ≤ L) (hc : ∀ r, ch r < 6) (ht : ∀ r, r0 ≤ r → r < r0 + n → T1t A (7 * r + ch r)) (X : Nat → Prop) :
    7 * smq (gtq τ) (7 * r0) (7 * n) + 3 * ctq (AXk τ A ρ B) (7 * r0) (7 * n) + 3 * smq (jkq τ ρ) (7 * r0) (7 * n) + 2 * ctq (DNt τ ρ) (7 * r0) (7 * n) + 6 * smq (rfq τ) (7 * r0) (7 * n) + 6 * ctq (fun b => (gq τ (b - 1) = 1 ∧ NAb L s0 τ A ρ B b) ∧ X b) (7 * r0 - 448) (7 * n + 448) + 124 * lkc τ (7 * r0 - 217)
    ≤ 124 * lkc τ (7 * r0 + 7 * n) + 3 * smq (gsq τ) (7 * r0) (7 * n) + 2 * ctq (fun u => gtq τ u = 1 ∧ OWb L s0 τ A ρ B (u - 90)) (7 * r0) (7 * n) + 2 * ctq (fun b => PNb L s0 τ A ρ B b ∧ ∃ t i, 7 * r0 ≤ t ∧ t < 7 * r0 + 7 * n ∧ i < 3 ∧ CHd L s0 τ A B ch t ∧ rdk τ A ρ B 5 t i b) (7 * r0 - 448) (7 * n + 448)
      + (ctq (fun b => (NAb L s0 τ A ρ B b ∧ X b) ∧ ∃ t i, 7 * r0 ≤ t ∧ t < 7 * r0 + 7 * n ∧ i < 3 ∧ CHc ch t ∧ rdk τ A ρ B 6 t i b) (7 * r0 - 448) (7 * n + 448) + ctq (fun b => (NAb L s0 τ A ρ B b ∧ X b) ∧ ∃ t i, 7 * r0 ≤ t ∧ t < 7 * r0 + 7 * n ∧ i < 3 ∧ CHc ch t ∧ rdk τ A ρ B 5 t i b) (7 * r0 - 448) (7 * n + 448)) + 2 * (ctq (fun b => (NAb L s0 τ A ρ B b ∧ X b) ∧ ∃ t i, 7 * r0 ≤ t ∧ t < 7 * r0 + 7 * n ∧ i < 3 ∧ CHd L s0 τ A B ch t ∧ rdk τ A ρ B 6 t i b) (7 * r0 - 448) (7 * n + 448) + ctq (fun b => (NAb L s0 τ A ρ B b ∧ X b) ∧ ∃ t i, 7 * r0 ≤ t ∧ t < 7 * r0 + 7 * n ∧ i < 3 ∧ CHd L s0 τ A B ch t ∧ rdk τ A ρ B 5 t i b) (7 * r0 - 448) (7 * n + 448)) + 20000 := by
  have x := STAR3 hR hs hJ h h7 h1 h2 hc ht
  have gc := GCz hR h (s := 7 * r0) (k := 7 * n) (by omega) (by omega) (CHc ch)
  have gd := GCz hR h (s := 7 * r0) (k := 7 * n) (by omega) (by omega) (CHd L s0 τ A B ch)
  have ix := IDX2 hR h (s := 7 * r0) (k := 7 * n) (by omega) (by omega) (by omega)
  have ax := ctq_2 (P := AXs τ A ρ B) (Q := AXk τ A ρ B) (R := AXt τ A ρ B) (s := 7 * r0) (7 * n) (fun t _ _ => ⟨fun q => q.1, fun q => q.1, fun q => q.2.2 q.1.2⟩)
  have e := T3 h (n := 7 * n) h1
  have f := gq_sum τ (7 * r0) (7 * n)
  have d := T4x hR h h7 h1 (by omega : 7 * r0 + 7 * n ≤ 7 * L) (fun _ => False)
  have z0 : ctq (fun t => False ∧ ∃ b, ACC τ A ρ B t b) (7 * r0) (7 * n) = 0 := ctq_off _ (fun t _ _ q => q.1)
  have dj := ctq_2 (P := fun b => (gq τ (b - 1) = 1 ∧ NAb L s0 τ A ρ B b) ∧ X b) (Q := fun b => (gq τ (b - 1) = 1 ∧ NAb L s0 τ A ρ B b) ∧ ¬ X b) (R := fun b => gq τ (b - 1) = 1 ∧ NAb L s0 τ A ρ B b) (s := 7 * r0 - 448) (7 * n + 448) (fun b _ _ => ⟨fun q => q.1, fun q => q.1, fun q => q.2.2 q.1.2⟩)
  have sp := ctq_add (P := fun b => gq τ (b - 1) = 1 ∧ NAb L s0 τ A ρ B b) (Q := X) (s := 7 * r0 - 448) (7 * n + 448)
  have mm : ∀ (P : Nat → Prop) (k : Int), (k = 5 ∨ k = 6) → ctq (fun b => NAb L s0 τ A ρ B b ∧ ∃ t i, 7 * r0 ≤ t ∧ t < 7 * r0 + 7 * n ∧ i < 3 ∧ P t ∧ rdk τ A ρ B k t i b) (7 * r0 - 448) (7 * n + 448) ≤ ctq (fun b => (NAb L s0 τ A ρ B b ∧ X b) ∧ ∃ t i, 7 * r0 ≤ t ∧ t < 7 * r0 + 7 * n ∧ i < 3 ∧ P t ∧ rdk τ A ρ B k t i b) (7 * r0 - 448) (7 * n + 448) + ctq (fun b => (gq τ (b - 1) = 1 ∧ NAb L s0 τ A ρ B b) ∧ ¬ X b) (7 * r0 - 448) (7 * n + 448) := fun P k hk => ctq_or _ (fun b b1 b2 q => by
    obtain ⟨na, t, i, t1, t2, hi, hp, hr⟩ := q
    by_cases c : X b
    · exact Or.inl ⟨⟨na, c⟩, t, i, t1, t2, hi, hp, hr⟩
    · exact Or.inr ⟨⟨rd_g h hk (by omega) (by omega) hi (by omega) hr, na⟩, c⟩)
  have m1 := mm (CHc ch) 5 (Or.inl rfl)
  have m2 := mm (CHc ch) 6 (Or.inr rfl)
  have m3 := mm (CHd L s0 τ A B ch) 5 (Or.inl rfl)
  have m4 := mm (CHd L s0 τ A B ch) 6 (Or.inr rfl)
  omega

