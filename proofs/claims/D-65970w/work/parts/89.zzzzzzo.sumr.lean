-- slots (ASKs and GIVEs) that vanish from the line without being read as a GIVE: refused ASKs, dropped letters
noncomputable def rvq (τ : Nat → qS) (ρ : Nat → qS × qS × qS) (t : Nat) : Nat := qAG (τ t) + (@ite Nat (ASKt τ t) (Classical.propDecidable _) 1 0) - gvq τ ρ t - qAG (τ (t + 1))
theorem GVV {L s0 : Nat} {τ : Nat → qS} (hR : RNN L τ) {A : Nat → List (Ms × Nat × Nat)} {ρ : Nat → qS × qS × qS} {B : Nat → List (Ms × Nat × Nat) × List (Ms × Nat × Nat) × List (Ms × Nat × Nat)} (h : ANC L s0 τ A ρ B) {s : Nat} (h1 : s0 ≤ s) : ∀ k, s + k ≤ 7 * L → qAG (τ (s + k)) + smq (gvq τ ρ) s k + smq (rvq τ ρ) s k ≤ qAG (τ s) + ctq (ASKt τ) s k
  | 0, _ => by simp [smq, ctq]
  | k + 1, hl => by
    have ih := GVV hR h h1 k (by omega)
    have b := gv_t hR h (t := s + k) (by omega) (by omega)
    have c : rvq τ ρ (s + k) = qAG (τ (s + k)) + (@ite Nat (ASKt τ (s + k)) (Classical.propDecidable _) 1 0) - gvq τ ρ (s + k) - qAG (τ (s + k + 1)) := rfl
    rw [show s + (k + 1) = s + k + 1 by omega]
    simp only [ctq, smq]
    omega
theorem IDX6 {L s0 : Nat} {τ : Nat → qS} (hR : RNN L τ) {A : Nat → List (Ms × Nat × Nat)} {ρ : Nat → qS × qS × qS} {B : Nat → List (Ms × Nat × Nat) × List (Ms × Nat × Nat) × List (Ms × Nat × Nat)} (h : ANC L s0 τ A ρ B) {s k : Nat} (h7 : 7 ≤ s) (h1 : s0 + 7 ≤ s) (h2 : s + k ≤ 7 * L) : 2 * smq (gsq τ) s k + 2 * ctq (DNt τ ρ) s k + 6 * smq (jkq τ ρ) s k + 6 * smq (rvq τ ρ) s k ≤ smq (idq τ) s k + 800 := by
  have si := SI5 hR h h1 h2
  have as := ctq_b7 (P := ASKt τ) (Q := fun t => FZt τ ρ t ∨ SIa τ ρ 5 t) (s := s) (k := k) h7 (fun t t1 t2 q => ask_pv hR h (by omega) (by omega) q)
  have as2 := ctq_or (P := fun t => FZt τ ρ t ∨ SIa τ ρ 5 t) (Q := FZt τ ρ) (R := SIa τ ρ 5) (s := s) k (fun t _ _ q => q)
  have g := GVV hR h (s := s) (by omega) k h2
  have g0 : qAG (τ s) ≤ 95 := by
    have l := run_95 hR (by omega) h7 (by omega : s ≤ 7 * L)
    have : qAG (τ s) ≤ (ln (τ s)).length := List.countP_le_length
    omega
  have jk := jk_s hR h (s := s) (by omega) k h2
  have bz := BZk hR h (s := s) (by omega) k h2
  have b6 := sx6_b (τ s)
  have kl := KLA hR (s := s) k h2
  have e6 : rrs (τ (s + k)) ≤ 6 := by
    unfold rrs
    have := rr_b (τ (s + k)) 0
    have := rr_b (τ (s + k)) 1
    have := rr_b (τ (s + k)) 2
    have := rr_b (τ (s + k)) 3
    have := rr_b (τ (s + k)) 4
    have := rr_b (τ (s + k)) 5
    omega
  have kd := ctq_2 (P := KAt τ) (Q := DNt τ ρ) (R := FZt τ ρ) (s := s) k (fun t t1 t2 => ⟨fun q => KA_fz hR h (by omega) (by omega) q, fun q => q.1, fun q => q.2.2 q.1⟩)
  have i1 := ctq_2 (P := FZt τ ρ) (Q := ASKt τ) (R := fun t => FZt τ ρ t ∨ ASKt τ t) (s := s) k (fun t t1 t2 => ⟨Or.inl, Or.inr, fun q => by
    obtain ⟨f, h6, k1, k2⟩ := q
    rcases id_cs hR h (t := t) (by omega) (by omega) h6 k1 with ⟨-, c⟩ | ⟨c, -⟩
    · omega
    · exact f.2.1 c⟩)
  have i2 := ctq_2 (P := fun t => FZt τ ρ t ∨ ASKt τ t) (Q := SIt τ ρ) (R := fun t => idq τ t = 1) (s := s) k (fun t t1 t2 => by
    have id : t % 7 < 6 → τ (t + 1) 62 ((t % 7 : Nat) : Int) = -1 → idq τ t = 1 := fun h6 e => by
      unfold idq
      rw [if_pos h6, if_neg (by omega)]
    have sx : SIt τ ρ t → ∃ a : Int, 1 ≤ a ∧ SIa τ ρ a t := fun q => by
      rcases q with q | q | q | q | q
      · exact ⟨1, by decide, q⟩
      · exact ⟨2, by decide, q⟩
      · exact ⟨3, by decide, q⟩
      · exact ⟨4, by decide, q⟩
      · exact ⟨5, by decide, q⟩
    refine ⟨fun q => ?_, fun q => ?_, fun q => ?_⟩
    · rcases q with q | q
      · exact id q.1 q.2.2
      · exact id q.1 q.2.1
    · obtain ⟨a, -, q⟩ := sx q
      exact id q.1 q.2.2.2.2
    · obtain ⟨q1, q2⟩ := q
      obtain ⟨a, a1, q2⟩ := sx q2
      rcases q1 with q | q
      · exact q.2.1 q2.2.1
      · rcases id_cs hR h (t := t) (by omega) (by omega) q.1 q.2.1 with ⟨c, -⟩ | ⟨-, -, c⟩
        · exact c.2.1 q2.2.1
        · have e1 := q.2.2
          rw [q2.2.2.2.1] at c
          split at c <;> omega)
  have i3 := ctq_sm' (P := fun t => idq τ t = 1) (f := idq τ) (s := s) k (fun t _ _ e => by omega)
  omega


theorem STR13 {L s0 : Nat} {τ : Nat → qS} (hR : RNN L τ) (hs : ∀ t, t ≤ 7 * L → psame (τ 0) (τ t)) {A : Nat → List (Ms × Nat × Nat)} {ρ : Nat → qS × qS × qS} {B : Nat → List (Ms × Nat × Nat) × List (Ms × Nat × Nat) × List (Ms × Nat × Nat)} (h : ANC L s0 τ A ρ B) (h7 : 224 ≤ s0) {C D : Nat → Prop} {r0 n : Nat} (h1 : s0 + 900 ≤ 7 * r0) (h2 : r0 + n ≤ L) (hC : ∀ t, 7 * r0 ≤ t → t < 7 * r0 + 7 * n → C t → t % 7 < 6 ∧ 3 ≤ cn ((t % 7 : Nat) : Int) (ln (τ t))) (hD : ∀ t, 7 * r0 ≤ t → t < 7 * r0 + 7 * n → D t → T1t A t ∧ ¬ FRk L s0 τ A B t) (X : Nat → Prop) :
    2 * ctq C (7 * r0) (7 * n) + 4 * ctq D (7 * r0) (7 * n) + ctq (fun t => (C t ∧ ¬ ∃ b, ACC τ A ρ B t b) ∧ ¬ gdq τ ρ t = 1) (7 * r0) (7 * n) + 2 * ctq (fun t => (D t ∧ ¬ ∃ b, ACC τ A ρ B t b) ∧ ¬ gdq τ ρ t = 1) (7 * r0) (7 * n) + 7 * smq (gtq τ) (7 * r0) (7 * n) + 3 * ctq (AXk τ A ρ B) (7 * r0) (7 * n) + 3 * smq (jkq τ ρ) (7 * r0) (7 * n) + 2 * ctq (DNt τ ρ) (7 * r0) (7 * n) + 6 * smq (rvq τ ρ) (7 * r0) (7 * n) + 6 * ctq (fun b => (gq τ (b - 1) = 1 ∧ NAb L s0 τ A ρ B b) ∧ X b) (7 * r0 - 448) (7 * n + 448)
    ≤ 6 * n + 3 * smq (gsq τ) (7 * r0) (7 * n) + 2 * ctq (fun u => gtq τ u = 1 ∧ OWb L s0 τ A ρ B (u - 90)) (7 * r0) (7 * n) + 2 * ctq (fun b => PNk L s0 τ A ρ B b ∧ ∃ t i, 7 * r0 ≤ t ∧ t < 7 * r0 + 7 * n ∧ i < 3 ∧ D t ∧ rdk τ A ρ B 5 t i b) (7 * r0 - 448) (7 * n + 448)
      + (ctq (fun b => (NAb L s0 τ A ρ B b ∧ X b) ∧ ∃ t i, 7 * r0 ≤ t ∧ t < 7 * r0 + 7 * n ∧ i < 3 ∧ C t ∧ rdk τ A ρ B 6 t i b) (7 * r0 - 448) (7 * n + 448) + ctq (fun b => (NAb L s0 τ A ρ B b ∧ X b) ∧ ∃ t i, 7 * r0 ≤ t ∧ t < 7 * r0 + 7 * n ∧ i < 3 ∧ C t ∧ rdk τ A ρ B 5 t i b) (7 * r0 - 448) (7 * n + 448)) + 2 * (ctq (fun b => (NAb L s0 τ A ρ B b ∧ X b) ∧ ∃ t i, 7 * r0 ≤ t ∧ t < 7 * r0 + 7 * n ∧ i < 3 ∧ D t ∧ rdk τ A ρ B 6 t i b) (7 * r0 - 448) (7 * n + 448) + ctq (fun b => (NAb L s0 τ A ρ B b ∧ X b) ∧ ∃ t i, 7 * r0 ≤ t ∧ t < 7 * r0 + 7 * n ∧ i < 3 ∧ D t ∧ rdk τ A ρ B 5 t i b) (7 * r0 - 448) (7 * n + 448)) + 22000 := by
  have x := STARK hR hs h h7 (C := C) (D := D) (r0 := r0) (n := n) h1 h2 hC hD
  have c3 := ctq_add (P := C) (Q := fun t => ∃ b, ACC τ A ρ B t b) (s := 7 * r0) (7 * n)
  have c3' := ctq_2 (P := fun t => C t ∧ ∃ b, ACC τ A ρ B t b) (Q := fun t => C t ∧ ¬ ∃ b, ACC τ A ρ B t b) (R := C) (s := 7 * r0) (7 * n) (fun t _ _ => ⟨fun q => q.1, fun q => q.1, fun q => q.2.2 q.1.2⟩)
  have d3' := ctq_2 (P := fun t => D t ∧ ∃ b, ACC τ A ρ B t b) (Q := fun t => D t ∧ ¬ ∃ b, ACC τ A ρ B t b) (R := D) (s := 7 * r0) (7 * n) (fun t _ _ => ⟨fun q => q.1, fun q => q.1, fun q => q.2.2 q.1.2⟩)
  have gc := GCy hR h (s := 7 * r0) (k := 7 * n) (by omega) (by omega) C
  have gd := GCy hR h (s := 7 * r0) (k := 7 * n) (by omega) (by omega) D
  have ix := IDX6 hR h (s := 7 * r0) (k := 7 * n) (by omega) (by omega) (by omega)
  have zc := ctq_2 (P := fun t => (C t ∧ ¬ ∃ b, ACC τ A ρ B t b) ∧ gdq τ ρ t = 1) (Q := fun t => (C t ∧ ¬ ∃ b, ACC τ A ρ B t b) ∧ ¬ gdq τ ρ t = 1) (R := fun t => C t ∧ ¬ ∃ b, ACC τ A ρ B t b) (s := 7 * r0) (7 * n) (fun t _ _ => ⟨fun q => q.1, fun q => q.1, fun q => q.2.2 q.1.2⟩)
  have zd := ctq_2 (P := fun t => (D t ∧ ¬ ∃ b, ACC τ A ρ B t b) ∧ gdq τ ρ t = 1) (Q := fun t => (D t ∧ ¬ ∃ b, ACC τ A ρ B t b) ∧ ¬ gdq τ ρ t = 1) (R := fun t => D t ∧ ¬ ∃ b, ACC τ A ρ B t b) (s := 7 * r0) (7 * n) (fun t _ _ => ⟨fun q => q.1, fun q => q.1, fun q => q.2.2 q.1.2⟩)
  have ax := ctq_2 (P := AXs τ A ρ B) (Q := AXk τ A ρ B) (R := AXt τ A ρ B) (s := 7 * r0) (7 * n) (fun t _ _ => ⟨fun q => q.1, fun q => q.1, fun q => q.2.2 q.1.2⟩)
  have e := T3 h (n := 7 * n) h1
  have f := gq_sum τ (7 * r0) (7 * n)
  have d := T4x hR h h7 h1 (by omega : 7 * r0 + 7 * n ≤ 7 * L) (fun _ => False)
  have z0 : ctq (fun t => False ∧ ∃ b, ACC τ A ρ B t b) (7 * r0) (7 * n) = 0 := ctq_off _ (fun t _ _ q => q.1)
  have dj := ctq_2 (P := fun b => (gq τ (b - 1) = 1 ∧ NAb L s0 τ A ρ B b) ∧ X b) (Q := fun b => (gq τ (b - 1) = 1 ∧ NAb L s0 τ A ρ B b) ∧ ¬ X b) (R := fun b => gq τ (b - 1) = 1 ∧ NAb L s0 τ A ρ B b) (s := 7 * r0 - 448) (7 * n + 448) (fun b _ _ => ⟨fun q => q.1, fun q => q.1, fun q => q.2.2 q.1.2⟩)
  have sp := ctq_add (P := fun b => gq τ (b - 1) = 1 ∧ NAb L s0 τ A ρ B b) (Q := X) (s := 7 * r0 - 448) (7 * n + 448)
  have mm : ∀ (P : Nat → Prop) (k : Int), (k = 5 ∨ k = 6) → ctq (fun b => NAb L s0 τ A ρ B b ∧ ∃ t i, 7 * r0 ≤ t ∧ t < 7 * r0 + 7 * n ∧ i < 3 ∧ P t ∧ rdk τ A ρ B k t i b) (7 * r0 - 448) (7 * n + 448) ≤ ctq (fun b => (NAb L s0 τ A ρ B b ∧ X b) ∧ ∃ t i, 7 * r0 ≤ t ∧ t < 7 * r0 + 7 * n ∧ i < 3 ∧ P t ∧ rdk τ A ρ B k t i b) (7 * r0 - 448) (7 * n + 448) + ctq (fun b => (gq τ (b - 1) = 1 ∧ NAb L s0 τ A ρ B b) ∧ ¬ X b) (7 * r0 - 448) (7 * n + 448) := fun P k hk => ctq_or _ (fun b b1 b2 q => by
    obtain ⟨na, t, i, t1, t2, hi, hp, hr⟩ := q
    by_cases c : X b
    · exact Or.inl ⟨⟨na, c⟩, t, i, t1, t2, hi, hp, hr⟩
    · exact Or.inr ⟨⟨rd_g h hk (by omega) (by omega) hi (by omega) hr, na⟩, c⟩)
  have m1 := mm C 5 (Or.inl rfl)
  have m2 := mm C 6 (Or.inr rfl)
  have m3 := mm D 5 (Or.inl rfl)
  have m4 := mm D 6 (Or.inr rfl)
  omega






theorem STR14 {L s0 : Nat} {τ : Nat → qS} (hR : RNN L τ) (hs : ∀ t, t ≤ 7 * L → psame (τ 0) (τ t)) {A : Nat → List (Ms × Nat × Nat)} {ρ : Nat → qS × qS × qS} {B : Nat → List (Ms × Nat × Nat) × List (Ms × Nat × Nat) × List (Ms × Nat × Nat)} (h : ANC L s0 τ A ρ B) (h7 : 224 ≤ s0) {C D : Nat → Prop} {r0 n : Nat} (h1 : s0 + 900 ≤ 7 * r0) (h2 : r0 + n ≤ L) (hC : ∀ t, 7 * r0 ≤ t → t < 7 * r0 + 7 * n → C t → t % 7 < 6 ∧ 3 ≤ cn ((t % 7 : Nat) : Int) (ln (τ t))) (hD : ∀ t, 7 * r0 ≤ t → t < 7 * r0 + 7 * n → D t → T1t A t ∧ ¬ FRk L s0 τ A B t) (X : Nat → Prop) :
    2 * ctq C (7 * r0) (7 * n) + 4 * ctq D (7 * r0) (7 * n) + ctq (fun t => (C t ∧ ¬ ∃ b, ACC τ A ρ B t b) ∧ ¬ gdq τ ρ t = 1) (7 * r0) (7 * n) + 2 * ctq (fun t => (D t ∧ ¬ ∃ b, ACC τ A ρ B t b) ∧ ¬ gdq τ ρ t = 1) (7 * r0) (7 * n) + 7 * smq (gtq τ) (7 * r0) (7 * n) + 3 * smq (jkq τ ρ) (7 * r0) (7 * n) + 2 * ctq (DNt τ ρ) (7 * r0) (7 * n) + 6 * smq (rvq τ ρ) (7 * r0) (7 * n) + 6 * ctq (fun b => (gq τ (b - 1) = 1 ∧ NAb L s0 τ A ρ B b) ∧ X b) (7 * r0 - 448) (7 * n + 448)
    ≤ 6 * n + 3 * ctq (Kst τ A ρ B) (7 * r0) (7 * n) + 2 * ctq (fun u => gtq τ u = 1 ∧ OWb L s0 τ A ρ B (u - 90)) (7 * r0) (7 * n) + 2 * ctq (fun b => PNk L s0 τ A ρ B b ∧ ∃ t i, 7 * r0 ≤ t ∧ t < 7 * r0 + 7 * n ∧ i < 3 ∧ D t ∧ rdk τ A ρ B 5 t i b) (7 * r0 - 448) (7 * n + 448)
      + (ctq (fun b => (NAb L s0 τ A ρ B b ∧ X b) ∧ ∃ t i, 7 * r0 ≤ t ∧ t < 7 * r0 + 7 * n ∧ i < 3 ∧ C t ∧ rdk τ A ρ B 6 t i b) (7 * r0 - 448) (7 * n + 448) + ctq (fun b => (NAb L s0 τ A ρ B b ∧ X b) ∧ ∃ t i, 7 * r0 ≤ t ∧ t < 7 * r0 + 7 * n ∧ i < 3 ∧ C t ∧ rdk τ A ρ B 5 t i b) (7 * r0 - 448) (7 * n + 448)) + 2 * (ctq (fun b => (NAb L s0 τ A ρ B b ∧ X b) ∧ ∃ t i, 7 * r0 ≤ t ∧ t < 7 * r0 + 7 * n ∧ i < 3 ∧ D t ∧ rdk τ A ρ B 6 t i b) (7 * r0 - 448) (7 * n + 448) + ctq (fun b => (NAb L s0 τ A ρ B b ∧ X b) ∧ ∃ t i, 7 * r0 ≤ t ∧ t < 7 * r0 + 7 * n ∧ i < 3 ∧ D t ∧ rdk τ A ρ B 5 t i b) (7 * r0 - 448) (7 * n + 448)) + 22100 := by
  have x := STR13 hR hs h h7 h1 h2 hC hD X
  have b := KLA hR (s := 7 * r0) (7 * n) (by omega)
  have c := KA_s (τ := τ) (A := A) (ρ := ρ) (B := B) (s := 7 * r0) (k := 7 * n)
  have e : rrs (τ (7 * r0 + 7 * n)) ≤ 6 := by
    unfold rrs
    have := rr_b (τ (7 * r0 + 7 * n)) 0
    have := rr_b (τ (7 * r0 + 7 * n)) 1
    have := rr_b (τ (7 * r0 + 7 * n)) 2
    have := rr_b (τ (7 * r0 + 7 * n)) 3
    have := rr_b (τ (7 * r0 + 7 * n)) 4
    have := rr_b (τ (7 * r0 + 7 * n)) 5
    omega
  omega






theorem SUMRk {L s0 : Nat} {τ : Nat → qS} (hR : RNN L τ) (hs : ∀ t, t ≤ 7 * L → psame (τ 0) (τ t)) {A : Nat → List (Ms × Nat × Nat)} {ρ : Nat → qS × qS × qS} {B : Nat → List (Ms × Nat × Nat) × List (Ms × Nat × Nat) × List (Ms × Nat × Nat)} (h : ANC L s0 τ A ρ B) (h7 : 224 ≤ s0) {C D : Nat → Prop} {r0 n : Nat} (h1 : s0 + 3000 ≤ 7 * r0) (h2 : r0 + n + 300 ≤ L) (hn : 300 ≤ n) (hC : ∀ t, 7 * r0 ≤ t → t < 7 * r0 + 7 * n → C t → t % 7 < 6 ∧ 3 ≤ cn ((t % 7 : Nat) : Int) (ln (τ t))) (hD : ∀ t, 7 * r0 ≤ t → t < 7 * r0 + 7 * n → D t → T1t A t ∧ ¬ FRk L s0 τ A B t) :
    2 * ctq C (7 * r0) (7 * n) + 4 * ctq D (7 * r0) (7 * n) + ctq (fun t => (C t ∧ ¬ ∃ b, ACC τ A ρ B t b) ∧ ¬ gdq τ ρ t = 1) (7 * r0) (7 * n) + 2 * ctq (fun t => (D t ∧ ¬ ∃ b, ACC τ A ρ B t b) ∧ ¬ gdq τ ρ t = 1) (7 * r0) (7 * n) + 147 * ctq (LKt τ) (7 * r0) (7 * n) + 3 * smq (jkq τ ρ) (7 * r0) (7 * n) + 2 * ctq (DNt τ ρ) (7 * r0) (7 * n) + 6 * smq (rvq τ ρ) (7 * r0) (7 * n)
    ≤ 6 * n + 3 * ctq (Kst τ A ρ B) (7 * r0) (7 * n) + 6 * ctq (fun b => XNz τ (7 * r0 + 7 * n - 1) 12 b ∧ OWb L s0 τ A ρ B b) (7 * r0) (7 * n) + 6 * ctq (SLx τ A ρ B) (7 * r0) (7 * n + 448) + 2 * ctq (fun b => PNk L s0 τ A ρ B b ∧ ∃ t i, 7 * r0 ≤ t ∧ t < 7 * r0 + 7 * n ∧ i < 3 ∧ D t ∧ rdk τ A ρ B 5 t i b) (7 * r0 - 448) (7 * n + 448)
      + (ctq (fun b => (NAb L s0 τ A ρ B b ∧ XNz τ (7 * r0 + 7 * n - 1) 12 b) ∧ ∃ t i, 7 * r0 ≤ t ∧ t < 7 * r0 + 7 * n ∧ i < 3 ∧ C t ∧ rdk τ A ρ B 6 t i b) (7 * r0 - 448) (7 * n + 448) + ctq (fun b => (NAb L s0 τ A ρ B b ∧ XNz τ (7 * r0 + 7 * n - 1) 12 b) ∧ ∃ t i, 7 * r0 ≤ t ∧ t < 7 * r0 + 7 * n ∧ i < 3 ∧ C t ∧ rdk τ A ρ B 5 t i b) (7 * r0 - 448) (7 * n + 448)) + 2 * (ctq (fun b => (NAb L s0 τ A ρ B b ∧ XNz τ (7 * r0 + 7 * n - 1) 12 b) ∧ ∃ t i, 7 * r0 ≤ t ∧ t < 7 * r0 + 7 * n ∧ i < 3 ∧ D t ∧ rdk τ A ρ B 6 t i b) (7 * r0 - 448) (7 * n + 448) + ctq (fun b => (NAb L s0 τ A ρ B b ∧ XNz τ (7 * r0 + 7 * n - 1) 12 b) ∧ ∃ t i, 7 * r0 ≤ t ∧ t < 7 * r0 + 7 * n ∧ i < 3 ∧ D t ∧ rdk τ A ρ B 5 t i b) (7 * r0 - 448) (7 * n + 448)) + 400100 := by
  obtain ⟨k, hk⟩ : ∃ k, k + 1002 = 7 * n := ⟨7 * n - 1002, by omega⟩
  obtain ⟨s, es⟩ : ∃ s, s = 7 * r0 := ⟨_, rfl⟩
  obtain ⟨E, hE⟩ : ∃ E, E = s + 1001 + k := ⟨_, rfl⟩
  have eE : 7 * r0 + 7 * n - 1 = E := by omega
  rw [eE]
  have x := STR14 hR hs h h7 (r0 := r0) (n := n) (by omega) (by omega) hC hD (XNz τ E 12)
  have nx := NXA hR h h7 (s := s) (k := k) (by omega) (by omega)
  have to := TO11 hR (s := s) (k := k) (by omega) (by omega)
  have tow := TOo2 hR h h7 (s := s) (k := k) (by omega) (by omega)
  rw [← hE, hk, show k + 1450 = 7 * n + 448 by omega] at nx
  have tl := ctq_tail (P := fun u => gtq τ u = 1 ∧ OWb L s0 τ A ρ B (u - 90)) (s := s) (n := k + 1001) 1
  rw [show k + 1001 + 1 = 7 * n by omega] at tl
  have tg : smq (gtq τ) s (k + 1001) ≤ smq (gtq τ) s (7 * n) := by
    obtain ⟨m, hm⟩ : ∃ m, m = k + 1001 := ⟨_, rfl⟩
    rw [← hm, show 7 * n = m + 1 by omega]
    exact smq_s1 _ _ _
  have j3 := ctq_jn (P := LKt τ) (s := s) 1001 (k + 1)
  rw [show 1001 + (k + 1) = 7 * n by omega] at j3
  have j4 := ctq_le (P := LKt τ) (s := s) 1001
  have j5 := ctq_tail (P := LKt τ) (s := s + 1001) (n := k) 1
  have ex := ctq_ext (P := fun b => (gq τ (b - 1) = 1 ∧ NAb L s0 τ A ρ B b) ∧ XNz τ E 12 b) (s := s) (n := 7 * n) 448 (by omega)
  rw [← es] at x ⊢
  omega


theorem SUMRl {L s0 : Nat} {τ : Nat → qS} (hR : RNN L τ) (hs : ∀ t, t ≤ 7 * L → psame (τ 0) (τ t)) {A : Nat → List (Ms × Nat × Nat)} {ρ : Nat → qS × qS × qS} {B : Nat → List (Ms × Nat × Nat) × List (Ms × Nat × Nat) × List (Ms × Nat × Nat)} (h : ANC L s0 τ A ρ B) (h7 : 224 ≤ s0) {ch : Nat → Nat} {r0 n : Nat} (h1 : s0 + 3000 ≤ 7 * r0) (h2 : r0 + n + 300 ≤ L) (hn : 300 ≤ n) (hc : ∀ r, ch r < 6) (ht : ∀ r, (∃ v, v < 6 ∧ T1t A (7 * r + v)) → T1t A (7 * r + ch r)) :
    ctq (fun t => ((CHc ch t ∧ T1t A t) ∧ ¬ ∃ b, ACC τ A ρ B t b) ∧ ¬ gdq τ ρ t = 1) (7 * r0) (7 * n) + 2 * ctq (fun t => ((CHk L s0 τ A B ch t ∧ T1t A t) ∧ ¬ ∃ b, ACC τ A ρ B t b) ∧ ¬ gdq τ ρ t = 1) (7 * r0) (7 * n) + 147 * ctq (LKt τ) (7 * r0) (7 * n) + 3 * smq (jkq τ ρ) (7 * r0) (7 * n) + 2 * ctq (DNt τ ρ) (7 * r0) (7 * n) + 6 * smq (rvq τ ρ) (7 * r0) (7 * n)
    ≤ 4 * ctq (NDk L s0 τ A B) r0 n + 6 * ctq (fun r => ¬ ∃ v, v < 6 ∧ T1t A (7 * r + v)) r0 n + 3 * ctq (Kst τ A ρ B) (7 * r0) (7 * n) + 6 * ctq (fun b => XNz τ (7 * r0 + 7 * n - 1) 12 b ∧ OWb L s0 τ A ρ B b) (7 * r0) (7 * n) + 6 * ctq (SLx τ A ρ B) (7 * r0) (7 * n + 448) + 2 * ctq (fun b => PNk L s0 τ A ρ B b ∧ ∃ t i, 7 * r0 ≤ t ∧ t < 7 * r0 + 7 * n ∧ i < 3 ∧ (CHk L s0 τ A B ch t ∧ T1t A t) ∧ rdk τ A ρ B 5 t i b) (7 * r0 - 448) (7 * n + 448)
      + (ctq (fun b => (NAb L s0 τ A ρ B b ∧ XNz τ (7 * r0 + 7 * n - 1) 12 b) ∧ ∃ t i, 7 * r0 ≤ t ∧ t < 7 * r0 + 7 * n ∧ i < 3 ∧ (CHc ch t ∧ T1t A t) ∧ rdk τ A ρ B 6 t i b) (7 * r0 - 448) (7 * n + 448) + ctq (fun b => (NAb L s0 τ A ρ B b ∧ XNz τ (7 * r0 + 7 * n - 1) 12 b) ∧ ∃ t i, 7 * r0 ≤ t ∧ t < 7 * r0 + 7 * n ∧ i < 3 ∧ (CHc ch t ∧ T1t A t) ∧ rdk τ A ρ B 5 t i b) (7 * r0 - 448) (7 * n + 448)) + 2 * (ctq (fun b => (NAb L s0 τ A ρ B b ∧ XNz τ (7 * r0 + 7 * n - 1) 12 b) ∧ ∃ t i, 7 * r0 ≤ t ∧ t < 7 * r0 + 7 * n ∧ i < 3 ∧ (CHk L s0 τ A B ch t ∧ T1t A t) ∧ rdk τ A ρ B 6 t i b) (7 * r0 - 448) (7 * n + 448) + ctq (fun b => (NAb L s0 τ A ρ B b ∧ XNz τ (7 * r0 + 7 * n - 1) 12 b) ∧ ∃ t i, 7 * r0 ≤ t ∧ t < 7 * r0 + 7 * n ∧ i < 3 ∧ (CHk L s0 τ A B ch t ∧ T1t A t) ∧ rdk τ A ρ B 5 t i b) (7 * r0 - 448) (7 * n + 448)) + 400100 := by
  have x := SUMRk hR hs h h7 (C := fun t => CHc ch t ∧ T1t A t) (D := fun t => CHk L s0 τ A B ch t ∧ T1t A t) (r0 := r0) (n := n) h1 h2 hn (fun t t1 t2 q => ⟨q.2.1, T1f h.1 (by omega) (by omega) q.2⟩) (fun t t1 t2 q => ⟨q.2, fun f => q.1.2 ⟨t, by omega, by have := q.2.1; omega, f⟩⟩)
  have c1 := CH_n hc (P := fun r => ∃ v, v < 6 ∧ T1t A (7 * r + v)) (r0 := r0) (n := n)
  have c2 := ctq_mo (P := fun t => CHc ch t ∧ ∃ v, v < 6 ∧ T1t A (7 * (t / 7) + v)) (Q := fun t => CHc ch t ∧ T1t A t) (s := 7 * r0) (7 * n) (fun t t1 t2 q => ⟨q.1, by
    have := ht (t / 7) q.2
    rw [← q.1] at this
    exact this⟩)
  have c3 := ctq_add (P := fun _ => True) (Q := fun r => ∃ v, v < 6 ∧ T1t A (7 * r + v)) (s := r0) n
  rw [ctq_all n (fun _ _ _ => trivial)] at c3
  have c4 := ctq_mo (P := fun r => True ∧ ∃ v, v < 6 ∧ T1t A (7 * r + v)) (Q := fun r => ∃ v, v < 6 ∧ T1t A (7 * r + v)) (s := r0) n (fun _ _ _ q => q.2)
  have c5 := ctq_mo (P := fun r => True ∧ ¬ ∃ v, v < 6 ∧ T1t A (7 * r + v)) (Q := fun r => ¬ ∃ v, v < 6 ∧ T1t A (7 * r + v)) (s := r0) n (fun _ _ _ q => q.2)
  have d1 := CH_n hc (P := fun r => ¬ NDk L s0 τ A B r ∧ ∃ v, v < 6 ∧ T1t A (7 * r + v)) (r0 := r0) (n := n)
  have d2 := ctq_mo (P := fun t => CHc ch t ∧ (¬ NDk L s0 τ A B (t / 7) ∧ ∃ v, v < 6 ∧ T1t A (7 * (t / 7) + v))) (Q := fun t => CHk L s0 τ A B ch t ∧ T1t A t) (s := 7 * r0) (7 * n) (fun t t1 t2 q => ⟨⟨q.1, q.2.1⟩, by
    have := ht (t / 7) q.2.2
    rw [← q.1] at this
    exact this⟩)
  have d3 := ctq_or (P := fun r => ∃ v, v < 6 ∧ T1t A (7 * r + v)) (Q := fun r => ¬ NDk L s0 τ A B r ∧ ∃ v, v < 6 ∧ T1t A (7 * r + v)) (R := NDk L s0 τ A B) (s := r0) n (fun r _ _ q => by
    by_cases c : NDk L s0 τ A B r
    · exact Or.inr c
    · exact Or.inl ⟨c, q⟩)
  omega

-- SUMR: the shortest form, for all jobs
theorem SUMR {L s0 : Nat} {τ : Nat → qS} (hR : RNN L τ) (hs : ∀ t, t ≤ 7 * L → psame (τ 0) (τ t)) {A : Nat → List (Ms × Nat × Nat)} {ρ : Nat → qS × qS × qS} {B : Nat → List (Ms × Nat × Nat) × List (Ms × Nat × Nat) × List (Ms × Nat × Nat)} (h : ANC L s0 τ A ρ B) (h7 : 224 ≤ s0) {ch : Nat → Nat} {r0 n : Nat} (h1 : s0 + 3000 ≤ 7 * r0) (h2 : r0 + n + 300 ≤ L) (hn : 300 ≤ n) (hc : ∀ r, ch r < 6) (ht : ∀ r, (∃ v, v < 6 ∧ T1t A (7 * r + v)) → T1t A (7 * r + ch r)) :
    ctq (fun t => ((CHc ch t ∧ T1t A t) ∧ ¬ ∃ b, ACC τ A ρ B t b) ∧ ¬ gdq τ ρ t = 1) (7 * r0) (7 * n) + 2 * ctq (fun t => ((CHk L s0 τ A B ch t ∧ T1t A t) ∧ ¬ ∃ b, ACC τ A ρ B t b) ∧ ¬ gdq τ ρ t = 1) (7 * r0) (7 * n) + 23 * ctq (LKt τ) (7 * r0) (7 * n) + 3 * smq (jkq τ ρ) (7 * r0) (7 * n) + 2 * ctq (DNt τ ρ) (7 * r0) (7 * n) + 6 * smq (rvq τ ρ) (7 * r0) (7 * n)
    ≤ 6 * ctq (fun r => ¬ ∃ v, v < 6 ∧ T1t A (7 * r + v)) r0 n + 3 * ctq (Kst τ A ρ B) (7 * r0) (7 * n) + 6 * ctq (fun b => XNz τ (7 * r0 + 7 * n - 1) 12 b ∧ OWb L s0 τ A ρ B b) (7 * r0) (7 * n) + 6 * ctq (SLx τ A ρ B) (7 * r0) (7 * n + 448) + 2 * ctq (fun b => PNk L s0 τ A ρ B b ∧ ∃ t i, 7 * r0 ≤ t ∧ t < 7 * r0 + 7 * n ∧ i < 3 ∧ (CHk L s0 τ A B ch t ∧ T1t A t) ∧ rdk τ A ρ B 5 t i b) (7 * r0 - 448) (7 * n + 448)
      + (ctq (fun b => (NAb L s0 τ A ρ B b ∧ XNz τ (7 * r0 + 7 * n - 1) 12 b) ∧ ∃ t i, 7 * r0 ≤ t ∧ t < 7 * r0 + 7 * n ∧ i < 3 ∧ (CHc ch t ∧ T1t A t) ∧ rdk τ A ρ B 6 t i b) (7 * r0 - 448) (7 * n + 448) + ctq (fun b => (NAb L s0 τ A ρ B b ∧ XNz τ (7 * r0 + 7 * n - 1) 12 b) ∧ ∃ t i, 7 * r0 ≤ t ∧ t < 7 * r0 + 7 * n ∧ i < 3 ∧ (CHc ch t ∧ T1t A t) ∧ rdk τ A ρ B 5 t i b) (7 * r0 - 448) (7 * n + 448)) + 2 * (ctq (fun b => (NAb L s0 τ A ρ B b ∧ XNz τ (7 * r0 + 7 * n - 1) 12 b) ∧ ∃ t i, 7 * r0 ≤ t ∧ t < 7 * r0 + 7 * n ∧ i < 3 ∧ (CHk L s0 τ A B ch t ∧ T1t A t) ∧ rdk τ A ρ B 6 t i b) (7 * r0 - 448) (7 * n + 448) + ctq (fun b => (NAb L s0 τ A ρ B b ∧ XNz τ (7 * r0 + 7 * n - 1) 12 b) ∧ ∃ t i, 7 * r0 ≤ t ∧ t < 7 * r0 + 7 * n ∧ i < 3 ∧ (CHk L s0 τ A B ch t ∧ T1t A t) ∧ rdk τ A ρ B 5 t i b) (7 * r0 - 448) (7 * n + 448)) + 500000 := by
  have x := SUMRl hR hs h h7 (ch := ch) (r0 := r0) (n := n) h1 h2 hn hc ht
  have w := WINk hR h (r0 := r0) (n := n) (by omega) (by omega)
  have lk := lkc_c τ (7 * r0 - 217) (217 + 7 * n)
  rw [show 7 * r0 - 217 + (217 + 7 * n) = 7 * r0 + 7 * n by omega] at lk
  have j1 := ctq_jn (P := LKt τ) (s := 7 * r0 - 217) 217 (7 * n)
  rw [show 7 * r0 - 217 + 217 = 7 * r0 by omega] at j1
  have j2 := ctq_le (P := LKt τ) (s := 7 * r0 - 217) 217
  omega

