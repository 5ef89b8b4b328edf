-- STW3: as STAR3 with the rounds that are not dead counted as they are; no hypothesis on the job
theorem STW3 {L s0 : Nat} {τ : Nat → qS} (hR : RNN L τ) {A : Nat → List (Ms × Nat × Nat)} {ρ : Nat → qS × qS × qS} {B : Nat → List (Ms × Nat × Nat) × List (Ms × Nat × Nat) × List (Ms × Nat × Nat)} (h : ANC L s0 τ A ρ B) (h7 : 224 ≤ s0) {ch : Nat → Nat} {r0 n : Nat} (h1 : s0 + 900 ≤ 7 * r0) (h2 : r0 + n ≤ L) (hc : ∀ r, ch r < 6) (ht : ∀ r, r0 ≤ r → r < r0 + n → T1t A (7 * r + ch r)) :
    ctq (fun t => CHc ch t ∧ ¬ ∃ b, ACC τ A ρ B t b) (7 * r0) (7 * n) + 2 * ctq (fun t => CHd L s0 τ A B ch t ∧ ¬ ∃ b, ACC τ A ρ B t b) (7 * r0) (7 * n) + smq (idq τ) (7 * r0) (7 * n) + 9 * smq (gtq τ) (7 * r0) (7 * n) + ctq (AXt τ A ρ B) (7 * r0) (7 * n) + 4 * ctq (fun b => gq τ (b - 1) = 1 ∧ NAb L s0 τ A ρ B b) (7 * r0 - 448) (7 * n + 448)
    ≤ 4 * ctq (NDr L s0 τ A B) r0 n + 3 * smq (gsq τ) (7 * r0) (7 * n) + 2 * ctq (fun u => gtq τ u = 1 ∧ OWb L s0 τ A ρ B (u - 90)) (7 * r0) (7 * n)
      + (ctq (RK τ A ρ B (CHc ch) (fun _ _ => True) 2 0) (7 * r0) (7 * n) + ctq (RK τ A ρ B (CHc ch) (fun _ _ => True) 2 1) (7 * r0) (7 * n) + ctq (RK τ A ρ B (CHc ch) (fun _ _ => True) 2 2) (7 * r0) (7 * n))
      + 2 * (ctq (RK τ A ρ B (CHd L s0 τ A B ch) (fun _ _ => True) 2 0) (7 * r0) (7 * n) + ctq (RK τ A ρ B (CHd L s0 τ A B ch) (fun _ _ => True) 2 1) (7 * r0) (7 * n) + ctq (RK τ A ρ B (CHd L s0 τ A B ch) (fun _ _ => True) 2 2) (7 * r0) (7 * n))
      + (ctq (fun b => NAb L s0 τ A ρ B b ∧ ∃ t i, 7 * r0 ≤ t ∧ t < 7 * r0 + 7 * n ∧ i < 3 ∧ CHc ch t ∧ rdk τ A ρ B 6 t i b) (7 * r0 - 448) (7 * n + 448) + ctq (fun b => NAb L s0 τ A ρ B b ∧ ∃ t i, 7 * r0 ≤ t ∧ t < 7 * r0 + 7 * n ∧ i < 3 ∧ CHc ch t ∧ rdk τ A ρ B 5 t i b) (7 * r0 - 448) (7 * n + 448))
      + 2 * (ctq (fun b => NAb L s0 τ A ρ B b ∧ ∃ t i, 7 * r0 ≤ t ∧ t < 7 * r0 + 7 * n ∧ i < 3 ∧ CHd L s0 τ A B ch t ∧ rdk τ A ρ B 6 t i b) (7 * r0 - 448) (7 * n + 448) + ctq (fun b => NAb L s0 τ A ρ B b ∧ ∃ t i, 7 * r0 ≤ t ∧ t < 7 * r0 + 7 * n ∧ i < 3 ∧ CHd L s0 τ A B ch t ∧ rdk τ A ρ B 5 t i b) (7 * r0 - 448) (7 * n + 448))
      + 2 * ctq (fun b => PNb L s0 τ A ρ B b ∧ ∃ t i, 7 * r0 ≤ t ∧ t < 7 * r0 + 7 * n ∧ i < 3 ∧ CHd L s0 τ A B ch t ∧ rdk τ A ρ B 5 t i b) (7 * r0 - 448) (7 * n + 448) + 17496 := by
  have tt : ∀ t, 7 * r0 ≤ t → t < 7 * r0 + 7 * n → CHc ch t → T1t A t := fun t t1 t2 q => by
    have := ht (t / 7) (by omega) (by omega)
    rw [← q] at this
    exact this
  have st := STAR2 hR h h7 (C := CHc ch) (D := CHd L s0 τ A B ch) (r0 := r0) (n := n) h1 h2 (fun t t1 t2 q => ⟨(tt t t1 t2 q).1, T1f h.1 (by omega) (by omega) (tt t t1 t2 q)⟩) (fun t t1 t2 q => ⟨tt t t1 t2 q.1, fun f => q.2 ⟨t, by omega, by have := (tt t t1 t2 q.1).1; omega, f⟩⟩)
  have c1 := CH_n hc (P := fun _ => True) (r0 := r0) (n := n)
  rw [ctq_all n (fun _ _ _ => trivial)] at c1
  have c2 := ctq_mo (P := fun t => CHc ch t ∧ True) (Q := CHc ch) (s := 7 * r0) (7 * n) (fun t _ _ q => q.1)
  have c3 := ctq_2 (P := fun t => CHc ch t ∧ ∃ b, ACC τ A ρ B t b) (Q := fun t => CHc ch t ∧ ¬ ∃ b, ACC τ A ρ B t b) (R := CHc ch) (s := 7 * r0) (7 * n) (fun t _ _ => ⟨fun q => q.1, fun q => q.1, fun q => q.2.2 q.1.2⟩)
  have d1 : ctq (fun r => ¬ NDr L s0 τ A B r) r0 n ≤ ctq (CHd L s0 τ A B ch) (7 * r0) (7 * n) := CH_n hc (P := fun r => ¬ NDr L s0 τ A B r) (r0 := r0) (n := n)
  have d2 := ctq_add (P := fun _ => True) (Q := NDr L s0 τ A B) (s := r0) n
  rw [ctq_all n (fun _ _ _ => trivial)] at d2
  have d3 := ctq_mo (P := fun r => True ∧ NDr L s0 τ A B r) (Q := NDr L s0 τ A B) (s := r0) n (fun _ _ _ q => q.2)
  have d4 := ctq_mo (P := fun r => True ∧ ¬ NDr L s0 τ A B r) (Q := fun r => ¬ NDr L s0 τ A B r) (s := r0) n (fun _ _ _ q => q.2)
  have d5 := ctq_2 (P := fun t => CHd L s0 τ A B ch t ∧ ∃ b, ACC τ A ρ B t b) (Q := fun t => CHd L s0 τ A B ch t ∧ ¬ ∃ b, ACC τ A ρ B t b) (R := CHd L s0 τ A B ch) (s := 7 * r0) (7 * n) (fun t _ _ => ⟨fun q => q.1, fun q => q.1, fun q => q.2.2 q.1.2⟩)
  omega

-- STW13: as STAR11, with the chosen ticks that neither accept nor start
theorem STW13 {L s0 : Nat} {τ : Nat → qS} (hR : RNN L τ) {A : Nat → List (Ms × Nat × Nat)} {ρ : Nat → qS × qS × qS} {B : Nat → List (Ms × Nat × Nat) × List (Ms × Nat × Nat) × List (Ms × Nat × Nat)} (h : ANC L s0 τ A ρ B) (h7 : 224 ≤ s0) {ch : Nat → Nat} {r0 n : Nat} (h1 : s0 + 900 ≤ 7 * r0) (h2 : r0 + n ≤ L) (hc : ∀ r, ch r < 6) (ht : ∀ r, r0 ≤ r → r < r0 + n → T1t A (7 * r + ch r)) (X : Nat → Prop) :
    ctq (fun t => (CHc ch t ∧ ¬ ∃ b, ACC τ A ρ B t b) ∧ ¬ gdq τ ρ t = 1) (7 * r0) (7 * n) + 2 * ctq (fun t => (CHd L s0 τ A B ch t ∧ ¬ ∃ b, ACC τ A ρ B t b) ∧ ¬ gdq τ ρ t = 1) (7 * r0) (7 * n) + 7 * smq (gtq τ) (7 * r0) (7 * n) + 3 * ctq (AXk τ A ρ B) (7 * r0) (7 * n) + 3 * smq (jkq τ ρ) (7 * r0) (7 * n) + 6 * ctq (GAt τ) (7 * r0) (7 * n) + 6 * smq (msq τ) (7 * r0) (7 * n) + 6 * ctq (fun b => (gq τ (b - 1) = 1 ∧ NAb L s0 τ A ρ B b) ∧ X b) (7 * r0 - 448) (7 * n + 448)
    ≤ 4 * ctq (NDr L s0 τ A B) r0 n + 3 * smq (gsq τ) (7 * r0) (7 * n) + 4 * ctq (DNt τ ρ) (7 * r0) (7 * n) + 6 * smq (jsq τ ρ) (7 * r0) (7 * n) + 2 * ctq (fun u => gtq τ u = 1 ∧ OWb L s0 τ A ρ B (u - 90)) (7 * r0) (7 * n) + 2 * ctq (fun b => PNb L s0 τ A ρ B b ∧ ∃ t i, 7 * r0 ≤ t ∧ t < 7 * r0 + 7 * n ∧ i < 3 ∧ CHd L s0 τ A B ch t ∧ rdk τ A ρ B 5 t i b) (7 * r0 - 448) (7 * n + 448)
      + (ctq (fun b => (NAb L s0 τ A ρ B b ∧ X b) ∧ ∃ t i, 7 * r0 ≤ t ∧ t < 7 * r0 + 7 * n ∧ i < 3 ∧ CHc ch t ∧ rdk τ A ρ B 6 t i b) (7 * r0 - 448) (7 * n + 448) + ctq (fun b => (NAb L s0 τ A ρ B b ∧ X b) ∧ ∃ t i, 7 * r0 ≤ t ∧ t < 7 * r0 + 7 * n ∧ i < 3 ∧ CHc ch t ∧ rdk τ A ρ B 5 t i b) (7 * r0 - 448) (7 * n + 448)) + 2 * (ctq (fun b => (NAb L s0 τ A ρ B b ∧ X b) ∧ ∃ t i, 7 * r0 ≤ t ∧ t < 7 * r0 + 7 * n ∧ i < 3 ∧ CHd L s0 τ A B ch t ∧ rdk τ A ρ B 6 t i b) (7 * r0 - 448) (7 * n + 448) + ctq (fun b => (NAb L s0 τ A ρ B b ∧ X b) ∧ ∃ t i, 7 * r0 ≤ t ∧ t < 7 * r0 + 7 * n ∧ i < 3 ∧ CHd L s0 τ A B ch t ∧ rdk τ A ρ B 5 t i b) (7 * r0 - 448) (7 * n + 448)) + 22000 := by
  have x := STW3 hR h h7 h1 h2 hc ht
  have gc := GCy hR h (s := 7 * r0) (k := 7 * n) (by omega) (by omega) (CHc ch)
  have gd := GCy hR h (s := 7 * r0) (k := 7 * n) (by omega) (by omega) (CHd L s0 τ A B ch)
  have ix := IDX4 hR h (s := 7 * r0) (k := 7 * n) (by omega) (by omega) (by omega)
  have zc := ctq_2 (P := fun t => (CHc ch t ∧ ¬ ∃ b, ACC τ A ρ B t b) ∧ gdq τ ρ t = 1) (Q := fun t => (CHc ch t ∧ ¬ ∃ b, ACC τ A ρ B t b) ∧ ¬ gdq τ ρ t = 1) (R := fun t => CHc ch t ∧ ¬ ∃ b, ACC τ A ρ B t b) (s := 7 * r0) (7 * n) (fun t _ _ => ⟨fun q => q.1, fun q => q.1, fun q => q.2.2 q.1.2⟩)
  have zd := ctq_2 (P := fun t => (CHd L s0 τ A B ch t ∧ ¬ ∃ b, ACC τ A ρ B t b) ∧ gdq τ ρ t = 1) (Q := fun t => (CHd L s0 τ A B ch t ∧ ¬ ∃ b, ACC τ A ρ B t b) ∧ ¬ gdq τ ρ t = 1) (R := fun t => CHd L s0 τ A B ch t ∧ ¬ ∃ b, ACC τ A ρ B t b) (s := 7 * r0) (7 * n) (fun t _ _ => ⟨fun q => q.1, fun q => q.1, fun q => q.2.2 q.1.2⟩)
  have ax := ctq_2 (P := AXs τ A ρ B) (Q := AXk τ A ρ B) (R := AXt τ A ρ B) (s := 7 * r0) (7 * n) (fun t _ _ => ⟨fun q => q.1, fun q => q.1, fun q => q.2.2 q.1.2⟩)
  have e := T3 h (n := 7 * n) h1
  have f := gq_sum τ (7 * r0) (7 * n)
  have d := T4x hR h h7 h1 (by omega : 7 * r0 + 7 * n ≤ 7 * L) (fun _ => False)
  have z0 : ctq (fun t => False ∧ ∃ b, ACC τ A ρ B t b) (7 * r0) (7 * n) = 0 := ctq_off _ (fun t _ _ q => q.1)
  have dj := ctq_2 (P := fun b => (gq τ (b - 1) = 1 ∧ NAb L s0 τ A ρ B b) ∧ X b) (Q := fun b => (gq τ (b - 1) = 1 ∧ NAb L s0 τ A ρ B b) ∧ ¬ X b) (R := fun b => gq τ (b - 1) = 1 ∧ NAb L s0 τ A ρ B b) (s := 7 * r0 - 448) (7 * n + 448) (fun b _ _ => ⟨fun q => q.1, fun q => q.1, fun q => q.2.2 q.1.2⟩)
  have sp := ctq_add (P := fun b => gq τ (b - 1) = 1 ∧ NAb L s0 τ A ρ B b) (Q := X) (s := 7 * r0 - 448) (7 * n + 448)
  have mm : ∀ (P : Nat → Prop) (k : Int), (k = 5 ∨ k = 6) → ctq (fun b => NAb L s0 τ A ρ B b ∧ ∃ t i, 7 * r0 ≤ t ∧ t < 7 * r0 + 7 * n ∧ i < 3 ∧ P t ∧ rdk τ A ρ B k t i b) (7 * r0 - 448) (7 * n + 448) ≤ ctq (fun b => (NAb L s0 τ A ρ B b ∧ X b) ∧ ∃ t i, 7 * r0 ≤ t ∧ t < 7 * r0 + 7 * n ∧ i < 3 ∧ P t ∧ rdk τ A ρ B k t i b) (7 * r0 - 448) (7 * n + 448) + ctq (fun b => (gq τ (b - 1) = 1 ∧ NAb L s0 τ A ρ B b) ∧ ¬ X b) (7 * r0 - 448) (7 * n + 448) := fun P k hk => ctq_or _ (fun b b1 b2 q => by
    obtain ⟨na, t, i, t1, t2, hi, hp, hr⟩ := q
    by_cases c : X b
    · exact Or.inl ⟨⟨na, c⟩, t, i, t1, t2, hi, hp, hr⟩
    · exact Or.inr ⟨⟨rd_g h hk (by omega) (by omega) hi (by omega) hr, na⟩, c⟩)
  have m1 := mm (CHc ch) 5 (Or.inl rfl)
  have m2 := mm (CHc ch) 6 (Or.inr rfl)
  have m3 := mm (CHd L s0 τ A B ch) 5 (Or.inl rfl)
  have m4 := mm (CHd L s0 τ A B ch) 6 (Or.inr rfl)
  omega



-- STW14: kills on arrival cancel
theorem STW14 {L s0 : Nat} {τ : Nat → qS} (hR : RNN L τ) {A : Nat → List (Ms × Nat × Nat)} {ρ : Nat → qS × qS × qS} {B : Nat → List (Ms × Nat × Nat) × List (Ms × Nat × Nat) × List (Ms × Nat × Nat)} (h : ANC L s0 τ A ρ B) (h7 : 224 ≤ s0) {ch : Nat → Nat} {r0 n : Nat} (h1 : s0 + 900 ≤ 7 * r0) (h2 : r0 + n ≤ L) (hc : ∀ r, ch r < 6) (ht : ∀ r, r0 ≤ r → r < r0 + n → T1t A (7 * r + ch r)) (X : Nat → Prop) :
    ctq (fun t => (CHc ch t ∧ ¬ ∃ b, ACC τ A ρ B t b) ∧ ¬ gdq τ ρ t = 1) (7 * r0) (7 * n) + 2 * ctq (fun t => (CHd L s0 τ A B ch t ∧ ¬ ∃ b, ACC τ A ρ B t b) ∧ ¬ gdq τ ρ t = 1) (7 * r0) (7 * n) + 7 * smq (gtq τ) (7 * r0) (7 * n) + 3 * smq (jkq τ ρ) (7 * r0) (7 * n) + 6 * ctq (GAt τ) (7 * r0) (7 * n) + 6 * smq (msq τ) (7 * r0) (7 * n) + 6 * ctq (fun b => (gq τ (b - 1) = 1 ∧ NAb L s0 τ A ρ B b) ∧ X b) (7 * r0 - 448) (7 * n + 448)
    ≤ 4 * ctq (NDr L s0 τ A B) r0 n + 3 * ctq (Kst τ A ρ B) (7 * r0) (7 * n) + 4 * ctq (DNt τ ρ) (7 * r0) (7 * n) + 6 * smq (jsq τ ρ) (7 * r0) (7 * n) + 2 * ctq (fun u => gtq τ u = 1 ∧ OWb L s0 τ A ρ B (u - 90)) (7 * r0) (7 * n) + 2 * ctq (fun b => PNb L s0 τ A ρ B b ∧ ∃ t i, 7 * r0 ≤ t ∧ t < 7 * r0 + 7 * n ∧ i < 3 ∧ CHd L s0 τ A B ch t ∧ rdk τ A ρ B 5 t i b) (7 * r0 - 448) (7 * n + 448)
      + (ctq (fun b => (NAb L s0 τ A ρ B b ∧ X b) ∧ ∃ t i, 7 * r0 ≤ t ∧ t < 7 * r0 + 7 * n ∧ i < 3 ∧ CHc ch t ∧ rdk τ A ρ B 6 t i b) (7 * r0 - 448) (7 * n + 448) + ctq (fun b => (NAb L s0 τ A ρ B b ∧ X b) ∧ ∃ t i, 7 * r0 ≤ t ∧ t < 7 * r0 + 7 * n ∧ i < 3 ∧ CHc ch t ∧ rdk τ A ρ B 5 t i b) (7 * r0 - 448) (7 * n + 448)) + 2 * (ctq (fun b => (NAb L s0 τ A ρ B b ∧ X b) ∧ ∃ t i, 7 * r0 ≤ t ∧ t < 7 * r0 + 7 * n ∧ i < 3 ∧ CHd L s0 τ A B ch t ∧ rdk τ A ρ B 6 t i b) (7 * r0 - 448) (7 * n + 448) + ctq (fun b => (NAb L s0 τ A ρ B b ∧ X b) ∧ ∃ t i, 7 * r0 ≤ t ∧ t < 7 * r0 + 7 * n ∧ i < 3 ∧ CHd L s0 τ A B ch t ∧ rdk τ A ρ B 5 t i b) (7 * r0 - 448) (7 * n + 448)) + 22100 := by
  have x := STW13 hR h h7 h1 h2 hc ht X
  have b := KLA hR (s := 7 * r0) (7 * n) (by omega)
  have c := KA_s (τ := τ) (A := A) (ρ := ρ) (B := B) (s := 7 * r0) (k := 7 * n)
  have e : rrs (τ (7 * r0 + 7 * n)) ≤ 6 := by
    unfold rrs
    have := rr_b (τ (7 * r0 + 7 * n)) 0
    have := rr_b (τ (7 * r0 + 7 * n)) 1
    have := rr_b (τ (7 * r0 + 7 * n)) 2
    have := rr_b (τ (7 * r0 + 7 * n)) 3
    have := rr_b (τ (7 * r0 + 7 * n)) 4
    have := rr_b (τ (7 * r0 + 7 * n)) 5
    omega
  omega



-- SUM3: as SUM2, nondead rounds counted as they are, for all jobs; as SUM1, with the chosen ticks that neither accept nor start, and with late standing kills (Klt)
theorem SUM3 {L s0 : Nat} {τ : Nat → qS} (hR : RNN L τ) {A : Nat → List (Ms × Nat × Nat)} {ρ : Nat → qS × qS × qS} {B : Nat → List (Ms × Nat × Nat) × List (Ms × Nat × Nat) × List (Ms × Nat × Nat)} (h : ANC L s0 τ A ρ B) (h7 : 224 ≤ s0) {ch : Nat → Nat} {r0 n : Nat} (h1 : s0 + 3000 ≤ 7 * r0) (h2 : r0 + n + 300 ≤ L) (hn : 300 ≤ n) (hc : ∀ r, ch r < 6) (ht : ∀ r, r0 ≤ r → r < r0 + n → T1t A (7 * r + ch r)) :
    ctq (fun t => (CHc ch t ∧ ¬ ∃ b, ACC τ A ρ B t b) ∧ ¬ gdq τ ρ t = 1) (7 * r0) (7 * n) + 2 * ctq (fun t => (CHd L s0 τ A B ch t ∧ ¬ ∃ b, ACC τ A ρ B t b) ∧ ¬ gdq τ ρ t = 1) (7 * r0) (7 * n) + 147 * ctq (LKt τ) (7 * r0) (7 * n) + 3 * smq (jkq τ ρ) (7 * r0) (7 * n) + 3 * ctq (GAt τ) (7 * r0) (7 * n) + 6 * smq (msq τ) (7 * r0) (7 * n)
    ≤ 4 * ctq (NDr L s0 τ A B) r0 n + 3 * ctq (Klt τ A ρ B) (7 * r0) (7 * n) + 4 * ctq (DNt τ ρ) (7 * r0) (7 * n) + 6 * smq (jsq τ ρ) (7 * r0) (7 * n) + 6 * ctq (fun b => XNz τ (7 * r0 + 7 * n - 1) 12 b ∧ OWb L s0 τ A ρ B b) (7 * r0) (7 * n) + 6 * ctq (SLx τ A ρ B) (7 * r0) (7 * n + 448) + 2 * ctq (fun b => PNb L s0 τ A ρ B b ∧ ∃ t i, 7 * r0 ≤ t ∧ t < 7 * r0 + 7 * n ∧ i < 3 ∧ CHd L s0 τ A B ch t ∧ rdk τ A ρ B 5 t i b) (7 * r0 - 448) (7 * n + 448)
      + (ctq (fun b => (NAb L s0 τ A ρ B b ∧ XNz τ (7 * r0 + 7 * n - 1) 12 b) ∧ ∃ t i, 7 * r0 ≤ t ∧ t < 7 * r0 + 7 * n ∧ i < 3 ∧ CHc ch t ∧ rdk τ A ρ B 6 t i b) (7 * r0 - 448) (7 * n + 448) + ctq (fun b => (NAb L s0 τ A ρ B b ∧ XNz τ (7 * r0 + 7 * n - 1) 12 b) ∧ ∃ t i, 7 * r0 ≤ t ∧ t < 7 * r0 + 7 * n ∧ i < 3 ∧ CHc ch t ∧ rdk τ A ρ B 5 t i b) (7 * r0 - 448) (7 * n + 448)) + 2 * (ctq (fun b => (NAb L s0 τ A ρ B b ∧ XNz τ (7 * r0 + 7 * n - 1) 12 b) ∧ ∃ t i, 7 * r0 ≤ t ∧ t < 7 * r0 + 7 * n ∧ i < 3 ∧ CHd L s0 τ A B ch t ∧ rdk τ A ρ B 6 t i b) (7 * r0 - 448) (7 * n + 448) + ctq (fun b => (NAb L s0 τ A ρ B b ∧ XNz τ (7 * r0 + 7 * n - 1) 12 b) ∧ ∃ t i, 7 * r0 ≤ t ∧ t < 7 * r0 + 7 * n ∧ i < 3 ∧ CHd L s0 τ A B ch t ∧ rdk τ A ρ B 5 t i b) (7 * r0 - 448) (7 * n + 448)) + 400100 := by
  obtain ⟨k, hk⟩ : ∃ k, k + 1002 = 7 * n := ⟨7 * n - 1002, by omega⟩
  obtain ⟨s, es⟩ : ∃ s, s = 7 * r0 := ⟨_, rfl⟩
  obtain ⟨E, hE⟩ : ∃ E, E = s + 1001 + k := ⟨_, rfl⟩
  have eE : 7 * r0 + 7 * n - 1 = E := by omega
  rw [eE]
  have x := STW14 hR h h7 (ch := ch) (r0 := r0) (n := n) (by omega) (by omega) hc ht (XNz τ E 12)
  have nx := NXA hR h h7 (s := s) (k := k) (by omega) (by omega)
  have to := TO11 hR (s := s) (k := k) (by omega) (by omega)
  have tow := TOo2 hR h h7 (s := s) (k := k) (by omega) (by omega)
  rw [← hE, hk, show k + 1450 = 7 * n + 448 by omega] at nx
  have tl := ctq_tail (P := fun u => gtq τ u = 1 ∧ OWb L s0 τ A ρ B (u - 90)) (s := s) (n := k + 1001) 1
  rw [show k + 1001 + 1 = 7 * n by omega] at tl
  have tg : smq (gtq τ) s (k + 1001) ≤ smq (gtq τ) s (7 * n) := by
    obtain ⟨m, hm⟩ : ∃ m, m = k + 1001 := ⟨_, rfl⟩
    rw [← hm, show 7 * n = m + 1 by omega]
    exact smq_s1 _ _ _
  have j3 := ctq_jn (P := LKt τ) (s := s) 1001 (k + 1)
  rw [show 1001 + (k + 1) = 7 * n by omega] at j3
  have j4 := ctq_le (P := LKt τ) (s := s) 1001
  have j5 := ctq_tail (P := LKt τ) (s := s + 1001) (n := k) 1
  have ex := ctq_ext (P := fun b => (gq τ (b - 1) = 1 ∧ NAb L s0 τ A ρ B b) ∧ XNz τ E 12 b) (s := s) (n := 7 * n) 448 (by omega)
  have kl := Kst_l hR h (s := s) (k := 7 * n) (by omega)
  rw [← es] at x ⊢
  omega

