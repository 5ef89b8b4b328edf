-- what the master's ticks add to the value of the line: ASKs refused while the job is mapped
noncomputable def msq (τ : Nat → qS) (t : Nat) : Nat := if t % 7 = 6 then (vs (τ (t + 1)) - vs (τ t)).toNat else 0
theorem vm_t {L s0 : Nat} {τ : Nat → qS} (hR : RNN L τ) {A : Nat → List (Ms × Nat × Nat)} {ρ : Nat → qS × qS × qS} {B : Nat → List (Ms × Nat × Nat) × List (Ms × Nat × Nat) × List (Ms × Nat × Nat)} (h : ANC L s0 τ A ρ B) {t : Nat} (h1 : s0 ≤ t) (h2 : t < 7 * L) : vs (τ t) + (gvq τ ρ t : Nat) + ((@ite Nat (GAt τ t) (Classical.propDecidable _) 1 0 : Nat) : Int) + (msq τ t : Nat) ≤ vs (τ (t + 1)) + (rsq τ ρ t : Nat) + ((@ite Nat (ASKt τ t) (Classical.propDecidable _) 1 0 : Nat) : Int) := by
  have a := vs_t hR h h1 h2
  by_cases h6 : t % 7 = 6
  · have e1 : gvq τ ρ t = 0 := by unfold gvq; exact if_neg (by omega)
    have e2 : rsq τ ρ t = 0 := by unfold rsq; exact if_neg (by omega)
    have e3 : msq τ t = (vs (τ (t + 1)) - vs (τ t)).toNat := by unfold msq; exact if_pos h6
    have n1 : ¬ ASKt τ t := fun q => by have := q.1; omega
    have n2 : ¬ GAt τ t := fun q => n1 q.1
    rw [if_neg n1, if_neg n2, e1, e2] at a ⊢
    rw [e3]
    omega
  · have e3 : msq τ t = 0 := by unfold msq; exact if_neg h6
    rw [e3]
    omega
theorem VSm {L s0 : Nat} {τ : Nat → qS} (hR : RNN L τ) {A : Nat → List (Ms × Nat × Nat)} {ρ : Nat → qS × qS × qS} {B : Nat → List (Ms × Nat × Nat) × List (Ms × Nat × Nat) × List (Ms × Nat × Nat)} (h : ANC L s0 τ A ρ B) {s : Nat} (h1 : s0 ≤ s) : ∀ k, s + k ≤ 7 * L → vs (τ s) + (smq (gvq τ ρ) s k : Nat) + (ctq (GAt τ) s k : Nat) + (smq (msq τ) s k : Nat) ≤ vs (τ (s + k)) + (smq (rsq τ ρ) s k : Nat) + (ctq (ASKt τ) s k : Nat)
  | 0, _ => by simp [smq, ctq]
  | k + 1, hl => by
    have ih := VSm hR h h1 k (by omega)
    have b := vm_t hR h (t := s + k) (by omega) (by omega)
    rw [show s + (k + 1) = s + k + 1 by omega]
    simp only [ctq, smq]
    simp only [Int.natCast_add] at *
    omega
theorem IDX4 {L s0 : Nat} {τ : Nat → qS} (hR : RNN L τ) {A : Nat → List (Ms × Nat × Nat)} {ρ : Nat → qS × qS × qS} {B : Nat → List (Ms × Nat × Nat) × List (Ms × Nat × Nat) × List (Ms × Nat × Nat)} (h : ANC L s0 τ A ρ B) {s k : Nat} (h7 : 7 ≤ s) (h1 : s0 + 7 ≤ s) (h2 : s + k ≤ 7 * L) : 2 * smq (gsq τ) s k + 6 * smq (jkq τ ρ) s k + 6 * ctq (GAt τ) s k + 6 * smq (msq τ) s k ≤ smq (idq τ) s k + 4 * ctq (DNt τ ρ) s k + 6 * smq (jsq τ ρ) s k + 2000 := by
  have si := SI5 hR h h1 h2
  have as := ctq_b7 (P := ASKt τ) (Q := fun t => FZt τ ρ t ∨ SIa τ ρ 5 t) (s := s) (k := k) h7 (fun t t1 t2 q => ask_pv hR h (by omega) (by omega) q)
  have as2 := ctq_or (P := fun t => FZt τ ρ t ∨ SIa τ ρ 5 t) (Q := FZt τ ρ) (R := SIa τ ρ 5) (s := s) k (fun t _ _ q => q)
  have g := VSm hR h (s := s) (by omega) k h2
  have g1 := (vs_b (run_95 hR (by omega) h7 (by omega : s ≤ 7 * L))).1
  have g2 := (vs_b (run_95 hR (by omega) (by omega : 7 ≤ s + k) h2)).2
  have js := js_s hR h (s := s) (by omega) k h2
  have bm := BMk hR h (s := s) (by omega) k h2
  have bm6 := bms_b (τ (s + k))
  have jk := jk_s hR h (s := s) (by omega) k h2
  have bz := BZk hR h (s := s) (by omega) k h2
  have b6 := sx6_b (τ s)
  have kl := KLA hR (s := s) k h2
  have e6 : rrs (τ (s + k)) ≤ 6 := by
    unfold rrs
    have := rr_b (τ (s + k)) 0
    have := rr_b (τ (s + k)) 1
    have := rr_b (τ (s + k)) 2
    have := rr_b (τ (s + k)) 3
    have := rr_b (τ (s + k)) 4
    have := rr_b (τ (s + k)) 5
    omega
  have kd := ctq_2 (P := KAt τ) (Q := DNt τ ρ) (R := FZt τ ρ) (s := s) k (fun t t1 t2 => ⟨fun q => KA_fz hR h (by omega) (by omega) q, fun q => q.1, fun q => q.2.2 q.1⟩)
  have i1 := ctq_2 (P := FZt τ ρ) (Q := ASKt τ) (R := fun t => FZt τ ρ t ∨ ASKt τ t) (s := s) k (fun t t1 t2 => ⟨Or.inl, Or.inr, fun q => by
    obtain ⟨f, h6, k1, k2⟩ := q
    rcases id_cs hR h (t := t) (by omega) (by omega) h6 k1 with ⟨-, c⟩ | ⟨c, -⟩
    · omega
    · exact f.2.1 c⟩)
  have i2 := ctq_2 (P := fun t => FZt τ ρ t ∨ ASKt τ t) (Q := SIt τ ρ) (R := fun t => idq τ t = 1) (s := s) k (fun t t1 t2 => by
    have id : t % 7 < 6 → τ (t + 1) 62 ((t % 7 : Nat) : Int) = -1 → idq τ t = 1 := fun h6 e => by
      unfold idq
      rw [if_pos h6, if_neg (by omega)]
    have sx : SIt τ ρ t → ∃ a : Int, 1 ≤ a ∧ SIa τ ρ a t := fun q => by
      rcases q with q | q | q | q | q
      · exact ⟨1, by decide, q⟩
      · exact ⟨2, by decide, q⟩
      · exact ⟨3, by decide, q⟩
      · exact ⟨4, by decide, q⟩
      · exact ⟨5, by decide, q⟩
    refine ⟨fun q => ?_, fun q => ?_, fun q => ?_⟩
    · rcases q with q | q
      · exact id q.1 q.2.2
      · exact id q.1 q.2.1
    · obtain ⟨a, -, q⟩ := sx q
      exact id q.1 q.2.2.2.2
    · obtain ⟨q1, q2⟩ := q
      obtain ⟨a, a1, q2⟩ := sx q2
      rcases q1 with q | q
      · exact q.2.1 q2.2.1
      · rcases id_cs hR h (t := t) (by omega) (by omega) q.1 q.2.1 with ⟨c, -⟩ | ⟨-, -, c⟩
        · exact c.2.1 q2.2.1
        · have e1 := q.2.2
          rw [q2.2.2.2.1] at c
          split at c <;> omega)
  have i3 := ctq_sm' (P := fun t => idq τ t = 1) (f := idq τ) (s := s) k (fun t _ _ e => by omega)
  omega


-- STAR11: as STAR9, with ASKs refused while the job is mapped
theorem STAR11 {L s0 : Nat} {τ : Nat → qS} (hR : RNN L τ) (hs : ∀ t, t ≤ 7 * L → psame (τ 0) (τ t)) (hJ : ∀ t, t ≤ 7 * L → JOm (τ t) ≠ none) {A : Nat → List (Ms × Nat × Nat)} {ρ : Nat → qS × qS × qS} {B : Nat → List (Ms × Nat × Nat) × List (Ms × Nat × Nat) × List (Ms × Nat × Nat)} (h : ANC L s0 τ A ρ B) (h7 : 224 ≤ s0) {ch : Nat → Nat} {r0 n : Nat} (h1 : s0 + 900 ≤ 7 * r0) (h2 : r0 + n ≤ L) (hc : ∀ r, ch r < 6) (ht : ∀ r, r0 ≤ r → r < r0 + n → T1t A (7 * r + ch r)) (X : Nat → Prop) :
    7 * smq (gtq τ) (7 * r0) (7 * n) + 3 * ctq (AXk τ A ρ B) (7 * r0) (7 * n) + 3 * smq (jkq τ ρ) (7 * r0) (7 * n) + 6 * ctq (GAt τ) (7 * r0) (7 * n) + 6 * smq (msq τ) (7 * r0) (7 * n) + 6 * ctq (fun b => (gq τ (b - 1) = 1 ∧ NAb L s0 τ A ρ B b) ∧ X b) (7 * r0 - 448) (7 * n + 448) + 124 * lkc τ (7 * r0 - 217)
    ≤ 124 * lkc τ (7 * r0 + 7 * n) + 3 * smq (gsq τ) (7 * r0) (7 * n) + 4 * ctq (DNt τ ρ) (7 * r0) (7 * n) + 6 * smq (jsq τ ρ) (7 * r0) (7 * n) + 2 * ctq (fun u => gtq τ u = 1 ∧ OWb L s0 τ A ρ B (u - 90)) (7 * r0) (7 * n) + 2 * ctq (fun b => PNb L s0 τ A ρ B b ∧ ∃ t i, 7 * r0 ≤ t ∧ t < 7 * r0 + 7 * n ∧ i < 3 ∧ CHd L s0 τ A B ch t ∧ rdk τ A ρ B 5 t i b) (7 * r0 - 448) (7 * n + 448)
      + (ctq (fun b => (NAb L s0 τ A ρ B b ∧ X b) ∧ ∃ t i, 7 * r0 ≤ t ∧ t < 7 * r0 + 7 * n ∧ i < 3 ∧ CHc ch t ∧ rdk τ A ρ B 6 t i b) (7 * r0 - 448) (7 * n + 448) + ctq (fun b => (NAb L s0 τ A ρ B b ∧ X b) ∧ ∃ t i, 7 * r0 ≤ t ∧ t < 7 * r0 + 7 * n ∧ i < 3 ∧ CHc ch t ∧ rdk τ A ρ B 5 t i b) (7 * r0 - 448) (7 * n + 448)) + 2 * (ctq (fun b => (NAb L s0 τ A ρ B b ∧ X b) ∧ ∃ t i, 7 * r0 ≤ t ∧ t < 7 * r0 + 7 * n ∧ i < 3 ∧ CHd L s0 τ A B ch t ∧ rdk τ A ρ B 6 t i b) (7 * r0 - 448) (7 * n + 448) + ctq (fun b => (NAb L s0 τ A ρ B b ∧ X b) ∧ ∃ t i, 7 * r0 ≤ t ∧ t < 7 * r0 + 7 * n ∧ i < 3 ∧ CHd L s0 τ A B ch t ∧ rdk τ A ρ B 5 t i b) (7 * r0 - 448) (7 * n + 448)) + 22000 := by
  have x := STAR3 hR hs hJ h h7 h1 h2 hc ht
  have gc := GCz hR h (s := 7 * r0) (k := 7 * n) (by omega) (by omega) (CHc ch)
  have gd := GCz hR h (s := 7 * r0) (k := 7 * n) (by omega) (by omega) (CHd L s0 τ A B ch)
  have ix := IDX4 hR h (s := 7 * r0) (k := 7 * n) (by omega) (by omega) (by omega)
  have ax := ctq_2 (P := AXs τ A ρ B) (Q := AXk τ A ρ B) (R := AXt τ A ρ B) (s := 7 * r0) (7 * n) (fun t _ _ => ⟨fun q => q.1, fun q => q.1, fun q => q.2.2 q.1.2⟩)
  have e := T3 h (n := 7 * n) h1
  have f := gq_sum τ (7 * r0) (7 * n)
  have d := T4x hR h h7 h1 (by omega : 7 * r0 + 7 * n ≤ 7 * L) (fun _ => False)
  have z0 : ctq (fun t => False ∧ ∃ b, ACC τ A ρ B t b) (7 * r0) (7 * n) = 0 := ctq_off _ (fun t _ _ q => q.1)
  have dj := ctq_2 (P := fun b => (gq τ (b - 1) = 1 ∧ NAb L s0 τ A ρ B b) ∧ X b) (Q := fun b => (gq τ (b - 1) = 1 ∧ NAb L s0 τ A ρ B b) ∧ ¬ X b) (R := fun b => gq τ (b - 1) = 1 ∧ NAb L s0 τ A ρ B b) (s := 7 * r0 - 448) (7 * n + 448) (fun b _ _ => ⟨fun q => q.1, fun q => q.1, fun q => q.2.2 q.1.2⟩)
  have sp := ctq_add (P := fun b => gq τ (b - 1) = 1 ∧ NAb L s0 τ A ρ B b) (Q := X) (s := 7 * r0 - 448) (7 * n + 448)
  have mm : ∀ (P : Nat → Prop) (k : Int), (k = 5 ∨ k = 6) → ctq (fun b => NAb L s0 τ A ρ B b ∧ ∃ t i, 7 * r0 ≤ t ∧ t < 7 * r0 + 7 * n ∧ i < 3 ∧ P t ∧ rdk τ A ρ B k t i b) (7 * r0 - 448) (7 * n + 448) ≤ ctq (fun b => (NAb L s0 τ A ρ B b ∧ X b) ∧ ∃ t i, 7 * r0 ≤ t ∧ t < 7 * r0 + 7 * n ∧ i < 3 ∧ P t ∧ rdk τ A ρ B k t i b) (7 * r0 - 448) (7 * n + 448) + ctq (fun b => (gq τ (b - 1) = 1 ∧ NAb L s0 τ A ρ B b) ∧ ¬ X b) (7 * r0 - 448) (7 * n + 448) := fun P k hk => ctq_or _ (fun b b1 b2 q => by
    obtain ⟨na, t, i, t1, t2, hi, hp, hr⟩ := q
    by_cases c : X b
    · exact Or.inl ⟨⟨na, c⟩, t, i, t1, t2, hi, hp, hr⟩
    · exact Or.inr ⟨⟨rd_g h hk (by omega) (by omega) hi (by omega) hr, na⟩, c⟩)
  have m1 := mm (CHc ch) 5 (Or.inl rfl)
  have m2 := mm (CHc ch) 6 (Or.inr rfl)
  have m3 := mm (CHd L s0 τ A B ch) 5 (Or.inl rfl)
  have m4 := mm (CHd L s0 τ A B ch) 6 (Or.inr rfl)
  omega

-- STAR12: kills on arrival cancel
theorem STAR12 {L s0 : Nat} {τ : Nat → qS} (hR : RNN L τ) (hs : ∀ t, t ≤ 7 * L → psame (τ 0) (τ t)) (hJ : ∀ t, t ≤ 7 * L → JOm (τ t) ≠ none) {A : Nat → List (Ms × Nat × Nat)} {ρ : Nat → qS × qS × qS} {B : Nat → List (Ms × Nat × Nat) × List (Ms × Nat × Nat) × List (Ms × Nat × Nat)} (h : ANC L s0 τ A ρ B) (h7 : 224 ≤ s0) {ch : Nat → Nat} {r0 n : Nat} (h1 : s0 + 900 ≤ 7 * r0) (h2 : r0 + n ≤ L) (hc : ∀ r, ch r < 6) (ht : ∀ r, r0 ≤ r → r < r0 + n → T1t A (7 * r + ch r)) (X : Nat → Prop) :
    7 * smq (gtq τ) (7 * r0) (7 * n) + 3 * smq (jkq τ ρ) (7 * r0) (7 * n) + 6 * ctq (GAt τ) (7 * r0) (7 * n) + 6 * smq (msq τ) (7 * r0) (7 * n) + 6 * ctq (fun b => (gq τ (b - 1) = 1 ∧ NAb L s0 τ A ρ B b) ∧ X b) (7 * r0 - 448) (7 * n + 448) + 124 * lkc τ (7 * r0 - 217)
    ≤ 124 * lkc τ (7 * r0 + 7 * n) + 3 * ctq (Kst τ A ρ B) (7 * r0) (7 * n) + 4 * ctq (DNt τ ρ) (7 * r0) (7 * n) + 6 * smq (jsq τ ρ) (7 * r0) (7 * n) + 2 * ctq (fun u => gtq τ u = 1 ∧ OWb L s0 τ A ρ B (u - 90)) (7 * r0) (7 * n) + 2 * ctq (fun b => PNb L s0 τ A ρ B b ∧ ∃ t i, 7 * r0 ≤ t ∧ t < 7 * r0 + 7 * n ∧ i < 3 ∧ CHd L s0 τ A B ch t ∧ rdk τ A ρ B 5 t i b) (7 * r0 - 448) (7 * n + 448)
      + (ctq (fun b => (NAb L s0 τ A ρ B b ∧ X b) ∧ ∃ t i, 7 * r0 ≤ t ∧ t < 7 * r0 + 7 * n ∧ i < 3 ∧ CHc ch t ∧ rdk τ A ρ B 6 t i b) (7 * r0 - 448) (7 * n + 448) + ctq (fun b => (NAb L s0 τ A ρ B b ∧ X b) ∧ ∃ t i, 7 * r0 ≤ t ∧ t < 7 * r0 + 7 * n ∧ i < 3 ∧ CHc ch t ∧ rdk τ A ρ B 5 t i b) (7 * r0 - 448) (7 * n + 448)) + 2 * (ctq (fun b => (NAb L s0 τ A ρ B b ∧ X b) ∧ ∃ t i, 7 * r0 ≤ t ∧ t < 7 * r0 + 7 * n ∧ i < 3 ∧ CHd L s0 τ A B ch t ∧ rdk τ A ρ B 6 t i b) (7 * r0 - 448) (7 * n + 448) + ctq (fun b => (NAb L s0 τ A ρ B b ∧ X b) ∧ ∃ t i, 7 * r0 ≤ t ∧ t < 7 * r0 + 7 * n ∧ i < 3 ∧ CHd L s0 τ A B ch t ∧ rdk τ A ρ B 5 t i b) (7 * r0 - 448) (7 * n + 448)) + 22100 := by
  have x := STAR11 hR hs hJ h h7 h1 h2 hc ht X
  have b := KLA hR (s := 7 * r0) (7 * n) (by omega)
  have c := KA_s (τ := τ) (A := A) (ρ := ρ) (B := B) (s := 7 * r0) (k := 7 * n)
  have e : rrs (τ (7 * r0 + 7 * n)) ≤ 6 := by
    unfold rrs
    have := rr_b (τ (7 * r0 + 7 * n)) 0
    have := rr_b (τ (7 * r0 + 7 * n)) 1
    have := rr_b (τ (7 * r0 + 7 * n)) 2
    have := rr_b (τ (7 * r0 + 7 * n)) 3
    have := rr_b (τ (7 * r0 + 7 * n)) 4
    have := rr_b (τ (7 * r0 + 7 * n)) 5
    omega
  omega

theorem smq_s1 (f : Nat → Nat) (s k : Nat) : smq f s k ≤ smq f s (k + 1) := by
  simp only [smq]
  omega
-- SUM1: all counts together; OX = own names of LACKS waits, SL = starts within 64 rounds after an own LACKS
theorem SUM1 {L s0 : Nat} {τ : Nat → qS} (hR : RNN L τ) (hs : ∀ t, t ≤ 7 * L → psame (τ 0) (τ t)) (hJ : ∀ t, t ≤ 7 * L → JOm (τ t) ≠ none) {A : Nat → List (Ms × Nat × Nat)} {ρ : Nat → qS × qS × qS} {B : Nat → List (Ms × Nat × Nat) × List (Ms × Nat × Nat) × List (Ms × Nat × Nat)} (h : ANC L s0 τ A ρ B) (h7 : 224 ≤ s0) {ch : Nat → Nat} {r0 n : Nat} (h1 : s0 + 3000 ≤ 7 * r0) (h2 : r0 + n + 300 ≤ L) (hn : 300 ≤ n) (hc : ∀ r, ch r < 6) (ht : ∀ r, r0 ≤ r → r < r0 + n → T1t A (7 * r + ch r)) :
    23 * ctq (LKt τ) (7 * r0) (7 * n) + 3 * smq (jkq τ ρ) (7 * r0) (7 * n) + 6 * ctq (GAt τ) (7 * r0) (7 * n) + 6 * smq (msq τ) (7 * r0) (7 * n)
    ≤ 3 * ctq (Kst τ A ρ B) (7 * r0) (7 * n) + 4 * ctq (DNt τ ρ) (7 * r0) (7 * n) + 6 * smq (jsq τ ρ) (7 * r0) (7 * n) + 6 * ctq (fun b => XNz τ (7 * r0 + 7 * n - 1) 12 b ∧ OWb L s0 τ A ρ B b) (7 * r0) (7 * n) + 6 * ctq (SLx τ A ρ B) (7 * r0) (7 * n + 448) + 2 * ctq (fun b => PNb L s0 τ A ρ B b ∧ ∃ t i, 7 * r0 ≤ t ∧ t < 7 * r0 + 7 * n ∧ i < 3 ∧ CHd L s0 τ A B ch t ∧ rdk τ A ρ B 5 t i b) (7 * r0 - 448) (7 * n + 448)
      + (ctq (fun b => (NAb L s0 τ A ρ B b ∧ XNz τ (7 * r0 + 7 * n - 1) 12 b) ∧ ∃ t i, 7 * r0 ≤ t ∧ t < 7 * r0 + 7 * n ∧ i < 3 ∧ CHc ch t ∧ rdk τ A ρ B 6 t i b) (7 * r0 - 448) (7 * n + 448) + ctq (fun b => (NAb L s0 τ A ρ B b ∧ XNz τ (7 * r0 + 7 * n - 1) 12 b) ∧ ∃ t i, 7 * r0 ≤ t ∧ t < 7 * r0 + 7 * n ∧ i < 3 ∧ CHc ch t ∧ rdk τ A ρ B 5 t i b) (7 * r0 - 448) (7 * n + 448)) + 2 * (ctq (fun b => (NAb L s0 τ A ρ B b ∧ XNz τ (7 * r0 + 7 * n - 1) 12 b) ∧ ∃ t i, 7 * r0 ≤ t ∧ t < 7 * r0 + 7 * n ∧ i < 3 ∧ CHd L s0 τ A B ch t ∧ rdk τ A ρ B 6 t i b) (7 * r0 - 448) (7 * n + 448) + ctq (fun b => (NAb L s0 τ A ρ B b ∧ XNz τ (7 * r0 + 7 * n - 1) 12 b) ∧ ∃ t i, 7 * r0 ≤ t ∧ t < 7 * r0 + 7 * n ∧ i < 3 ∧ CHd L s0 τ A B ch t ∧ rdk τ A ρ B 5 t i b) (7 * r0 - 448) (7 * n + 448)) + 400000 := by
  obtain ⟨k, hk⟩ : ∃ k, k + 1002 = 7 * n := ⟨7 * n - 1002, by omega⟩
  obtain ⟨s, es⟩ : ∃ s, s = 7 * r0 := ⟨_, rfl⟩
  obtain ⟨E, hE⟩ : ∃ E, E = s + 1001 + k := ⟨_, rfl⟩
  have eE : 7 * r0 + 7 * n - 1 = E := by omega
  rw [eE]
  have x := STAR12 hR hs hJ h h7 (ch := ch) (r0 := r0) (n := n) (by omega) (by omega) hc ht (XNz τ E 12)
  have nx := NXA hR h h7 (s := s) (k := k) (by omega) (by omega)
  have to := TO11 hR (s := s) (k := k) (by omega) (by omega)
  have tow := TOo2 hR h h7 (s := s) (k := k) (by omega) (by omega)
  rw [← hE, hk, show k + 1450 = 7 * n + 448 by omega] at nx
  have tl := ctq_tail (P := fun u => gtq τ u = 1 ∧ OWb L s0 τ A ρ B (u - 90)) (s := s) (n := k + 1001) 1
  rw [show k + 1001 + 1 = 7 * n by omega] at tl
  have tg : smq (gtq τ) s (k + 1001) ≤ smq (gtq τ) s (7 * n) := by
    obtain ⟨m, hm⟩ : ∃ m, m = k + 1001 := ⟨_, rfl⟩
    rw [← hm, show 7 * n = m + 1 by omega]
    exact smq_s1 _ _ _
  have lk := lkc_c τ (s - 217) (217 + 7 * n)
  rw [show s - 217 + (217 + 7 * n) = s + 7 * n by omega] at lk
  have j1 := ctq_jn (P := LKt τ) (s := s - 217) 217 (7 * n)
  rw [show s - 217 + 217 = s by omega] at j1
  have j2 := ctq_le (P := LKt τ) (s := s - 217) 217
  have j3 := ctq_jn (P := LKt τ) (s := s) 1001 (k + 1)
  rw [show 1001 + (k + 1) = 7 * n by omega] at j3
  have j4 := ctq_le (P := LKt τ) (s := s) 1001
  have j5 := ctq_tail (P := LKt τ) (s := s + 1001) (n := k) 1
  have ex := ctq_ext (P := fun b => (gq τ (b - 1) = 1 ∧ NAb L s0 τ A ρ B b) ∧ XNz τ E 12 b) (s := s) (n := 7 * n) 448 (by omega)
  rw [← es] at x ⊢
  omega

