-- SUMH: one chosen tick for each round that has one; each other round costs six
theorem SUMH {L s0 : Nat} {τ : Nat → qS} (hR : RNN L τ) {A : Nat → List (Ms × Nat × Nat)} {ρ : Nat → qS × qS × qS} {B : Nat → List (Ms × Nat × Nat) × List (Ms × Nat × Nat) × List (Ms × Nat × Nat)} (h : ANC L s0 τ A ρ B) (h7 : 224 ≤ s0) {ch : Nat → Nat} {r0 n : Nat} (h1 : s0 + 3000 ≤ 7 * r0) (h2 : r0 + n + 300 ≤ L) (hn : 300 ≤ n) (hc : ∀ r, ch r < 6) (ht : ∀ r, (∃ v, v < 6 ∧ T1t A (7 * r + v)) → T1t A (7 * r + ch r)) :
    ctq (fun t => ((CHc ch t ∧ T1t A t) ∧ ¬ ∃ b, ACC τ A ρ B t b) ∧ ¬ gdq τ ρ t = 1) (7 * r0) (7 * n) + 2 * ctq (fun t => ((CHd L s0 τ A B ch t ∧ T1t A t) ∧ ¬ ∃ b, ACC τ A ρ B t b) ∧ ¬ gdq τ ρ t = 1) (7 * r0) (7 * n) + 147 * ctq (LKt τ) (7 * r0) (7 * n) + 3 * smq (jkq τ ρ) (7 * r0) (7 * n) + 3 * ctq (GAt τ) (7 * r0) (7 * n) + 6 * smq (msq τ) (7 * r0) (7 * n)
    ≤ 4 * ctq (NDr L s0 τ A B) r0 n + 6 * ctq (fun r => ¬ ∃ v, v < 6 ∧ T1t A (7 * r + v)) r0 n + 3 * ctq (Klt τ A ρ B) (7 * r0) (7 * n) + 4 * ctq (DNt τ ρ) (7 * r0) (7 * n) + 6 * smq (jsq τ ρ) (7 * r0) (7 * n) + 6 * ctq (fun b => XNz τ (7 * r0 + 7 * n - 1) 12 b ∧ OWb L s0 τ A ρ B b) (7 * r0) (7 * n) + 6 * ctq (SLx τ A ρ B) (7 * r0) (7 * n + 448) + 2 * ctq (fun b => PNb L s0 τ A ρ B b ∧ ∃ t i, 7 * r0 ≤ t ∧ t < 7 * r0 + 7 * n ∧ i < 3 ∧ (CHd L s0 τ A B ch t ∧ T1t A t) ∧ rdk τ A ρ B 5 t i b) (7 * r0 - 448) (7 * n + 448)
      + (ctq (fun b => (NAb L s0 τ A ρ B b ∧ XNz τ (7 * r0 + 7 * n - 1) 12 b) ∧ ∃ t i, 7 * r0 ≤ t ∧ t < 7 * r0 + 7 * n ∧ i < 3 ∧ (CHc ch t ∧ T1t A t) ∧ rdk τ A ρ B 6 t i b) (7 * r0 - 448) (7 * n + 448) + ctq (fun b => (NAb L s0 τ A ρ B b ∧ XNz τ (7 * r0 + 7 * n - 1) 12 b) ∧ ∃ t i, 7 * r0 ≤ t ∧ t < 7 * r0 + 7 * n ∧ i < 3 ∧ (CHc ch t ∧ T1t A t) ∧ rdk τ A ρ B 5 t i b) (7 * r0 - 448) (7 * n + 448)) + 2 * (ctq (fun b => (NAb L s0 τ A ρ B b ∧ XNz τ (7 * r0 + 7 * n - 1) 12 b) ∧ ∃ t i, 7 * r0 ≤ t ∧ t < 7 * r0 + 7 * n ∧ i < 3 ∧ (CHd L s0 τ A B ch t ∧ T1t A t) ∧ rdk τ A ρ B 6 t i b) (7 * r0 - 448) (7 * n + 448) + ctq (fun b => (NAb L s0 τ A ρ B b ∧ XNz τ (7 * r0 + 7 * n - 1) 12 b) ∧ ∃ t i, 7 * r0 ≤ t ∧ t < 7 * r0 + 7 * n ∧ i < 3 ∧ (CHd L s0 τ A B ch t ∧ T1t A t) ∧ rdk τ A ρ B 5 t i b) (7 * r0 - 448) (7 * n + 448)) + 400100 := by
  have x := SUMG hR h h7 (C := fun t => CHc ch t ∧ T1t A t) (D := fun t => CHd L s0 τ A B ch t ∧ T1t A t) (r0 := r0) (n := n) h1 h2 hn (fun t t1 t2 q => ⟨q.2.1, T1f h.1 (by omega) (by omega) q.2⟩) (fun t t1 t2 q => ⟨q.2, fun f => q.1.2 ⟨t, by omega, by have := q.2.1; omega, f⟩⟩)
  have c1 := CH_n hc (P := fun r => ∃ v, v < 6 ∧ T1t A (7 * r + v)) (r0 := r0) (n := n)
  have c2 := ctq_mo (P := fun t => CHc ch t ∧ ∃ v, v < 6 ∧ T1t A (7 * (t / 7) + v)) (Q := fun t => CHc ch t ∧ T1t A t) (s := 7 * r0) (7 * n) (fun t t1 t2 q => ⟨q.1, by
    have := ht (t / 7) q.2
    rw [← q.1] at this
    exact this⟩)
  have c3 := ctq_add (P := fun _ => True) (Q := fun r => ∃ v, v < 6 ∧ T1t A (7 * r + v)) (s := r0) n
  rw [ctq_all n (fun _ _ _ => trivial)] at c3
  have c4 := ctq_mo (P := fun r => True ∧ ∃ v, v < 6 ∧ T1t A (7 * r + v)) (Q := fun r => ∃ v, v < 6 ∧ T1t A (7 * r + v)) (s := r0) n (fun _ _ _ q => q.2)
  have c5 := ctq_mo (P := fun r => True ∧ ¬ ∃ v, v < 6 ∧ T1t A (7 * r + v)) (Q := fun r => ¬ ∃ v, v < 6 ∧ T1t A (7 * r + v)) (s := r0) n (fun _ _ _ q => q.2)
  have d1 := CH_n hc (P := fun r => ¬ NDr L s0 τ A B r ∧ ∃ v, v < 6 ∧ T1t A (7 * r + v)) (r0 := r0) (n := n)
  have d2 := ctq_mo (P := fun t => CHc ch t ∧ (¬ NDr L s0 τ A B (t / 7) ∧ ∃ v, v < 6 ∧ T1t A (7 * (t / 7) + v))) (Q := fun t => CHd L s0 τ A B ch t ∧ T1t A t) (s := 7 * r0) (7 * n) (fun t t1 t2 q => ⟨⟨q.1, q.2.1⟩, by
    have := ht (t / 7) q.2.2
    rw [← q.1] at this
    exact this⟩)
  have d3 := ctq_or (P := fun r => ∃ v, v < 6 ∧ T1t A (7 * r + v)) (Q := fun r => ¬ NDr L s0 τ A B r ∧ ∃ v, v < 6 ∧ T1t A (7 * r + v)) (R := NDr L s0 τ A B) (s := r0) n (fun r _ _ q => by
    by_cases c : NDr L s0 τ A B r
    · exact Or.inr c
    · exact Or.inl ⟨c, q⟩)
  omega

