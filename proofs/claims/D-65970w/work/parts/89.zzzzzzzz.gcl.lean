-- GCy inside C
theorem GCl {L s0 : Nat} {τ : Nat → qS} (hR : RNN L τ) {A : Nat → List (Ms × Nat × Nat)} {ρ : Nat → qS × qS × qS} {B : Nat → List (Ms × Nat × Nat) × List (Ms × Nat × Nat) × List (Ms × Nat × Nat)} (h : ANC L s0 τ A ρ B) {s k : Nat} (h1 : s0 ≤ s) (hl : s + k ≤ 7 * L) (C : Nat → Prop) : ctq (RK τ A ρ B C (fun _ _ => True) 2 0) s k + ctq (RK τ A ρ B C (fun _ _ => True) 2 1) s k + ctq (RK τ A ρ B C (fun _ _ => True) 2 2) s k ≤ ctq (fun t => (C t ∧ ¬ ∃ b, ACC τ A ρ B t b) ∧ gdq τ ρ t = 1) s k + ctq (fun t => C t ∧ AXs τ A ρ B t) s k + smq (fun t => @ite Nat (C t) (Classical.propDecidable _) (jkq τ ρ t) 0) s k := by
  have one : ∀ t, s ≤ t → t < s + k → (@ite Nat (RK τ A ρ B C (fun _ _ => True) 2 0 t) (Classical.propDecidable _) 1 0) + (@ite Nat (RK τ A ρ B C (fun _ _ => True) 2 1 t) (Classical.propDecidable _) 1 0) + (@ite Nat (RK τ A ρ B C (fun _ _ => True) 2 2 t) (Classical.propDecidable _) 1 0) ≤ (@ite Nat ((C t ∧ ¬ ∃ b, ACC τ A ρ B t b) ∧ gdq τ ρ t = 1) (Classical.propDecidable _) 1 0) + (@ite Nat (C t ∧ AXs τ A ρ B t) (Classical.propDecidable _) 1 0) + (@ite Nat (C t) (Classical.propDecidable _) (jkq τ ρ t) 0) := fun t t1 t2 => by
    have z : ∀ i, i < 3 → RK τ A ρ B C (fun _ _ => True) 2 i t → C t ∧ t % 7 < 6 ∧ nk 2 ((t % 7 : Nat) : Int) (stQ τ ρ t i) = 1 := fun i hi ⟨hc, b, hb, _⟩ => ⟨hc, hb.1, rd2_n h (by omega) (by omega) hi hb⟩
    by_cases c : C t ∧ t % 7 < 6
    · have h6 := c.2
      have jc : (@ite Nat (C t) (Classical.propDecidable _) (jkq τ ρ t) 0) = jkq τ ρ t := if_pos c.1
      have i0 : (@ite Nat (RK τ A ρ B C (fun _ _ => True) 2 0 t) (Classical.propDecidable _) 1 0) ≤ nk 2 ((t % 7 : Nat) : Int) (τ t) := by
        split
        · rename_i q; have := (z 0 (by omega) q).2.2; exact Nat.le_of_eq this.symm
        · exact Nat.zero_le _
      have i1 : (@ite Nat (RK τ A ρ B C (fun _ _ => True) 2 1 t) (Classical.propDecidable _) 1 0) ≤ nk 2 ((t % 7 : Nat) : Int) (ρ t).1 := by
        split
        · rename_i q; have := (z 1 (by omega) q).2.2; exact Nat.le_of_eq this.symm
        · exact Nat.zero_le _
      have i2 : (@ite Nat (RK τ A ρ B C (fun _ _ => True) 2 2 t) (Classical.propDecidable _) 1 0) ≤ nk 2 ((t % 7 : Nat) : Int) (ρ t).2.1 := by
        split
        · rename_i q; have := (z 2 (by omega) q).2.2; exact Nat.le_of_eq this.symm
        · exact Nat.zero_le _
      have g : gvq τ ρ t = nk 2 ((t % 7 : Nat) : Int) (τ t) + nk 2 ((t % 7 : Nat) : Int) (ρ t).1 + nk 2 ((t % 7 : Nat) : Int) (ρ t).2.1 := by unfold gvq; exact if_pos h6
      have gg := gd_gv hR h (t := t) (by omega) (by omega)
      have jj : jkq τ ρ t = gvq τ ρ t - gdq τ ρ t := rfl
      have key : gdq τ ρ t ≤ (@ite Nat ((C t ∧ ¬ ∃ b, ACC τ A ρ B t b) ∧ gdq τ ρ t = 1) (Classical.propDecidable _) 1 0) + (@ite Nat (C t ∧ AXs τ A ρ B t) (Classical.propDecidable _) 1 0) := by
        by_cases d : t % 7 < 6 ∧ τ t 62 ((t % 7 : Nat) : Int) = -1 ∧ (ρ t).2.2 62 ((t % 7 : Nat) : Int) ≠ -1
        · have g1 : gdq τ ρ t = 1 := by unfold gdq; exact if_pos d
          by_cases a : ∃ b, ACC τ A ρ B t b
          · have ff : ffq τ t ≠ 1 := by
              unfold ffq
              have gb := gq_b τ t
              by_cases g1 : gq τ t = 1
              · have : gsq τ t = 1 := by unfold gsq; exact if_pos ⟨g1, d.2.1⟩
                omega
              · omega
            rw [if_pos (show C t ∧ AXs τ A ρ B t from ⟨c.1, ⟨a, ff⟩, d.2.1⟩), g1]
            omega
          · rw [if_pos (show (C t ∧ ¬ ∃ b, ACC τ A ρ B t b) ∧ gdq τ ρ t = 1 from ⟨⟨c.1, a⟩, g1⟩), g1]
            omega
        · have g0 : gdq τ ρ t = 0 := by unfold gdq; exact if_neg d
          omega
      omega
    · rw [if_neg (fun q => c ⟨(z 0 (by omega) q).1, (z 0 (by omega) q).2.1⟩), if_neg (fun q => c ⟨(z 1 (by omega) q).1, (z 1 (by omega) q).2.1⟩), if_neg (fun q => c ⟨(z 2 (by omega) q).1, (z 2 (by omega) q).2.1⟩)]
      omega
  have sm : ∀ k', k' ≤ k → ctq (RK τ A ρ B C (fun _ _ => True) 2 0) s k' + ctq (RK τ A ρ B C (fun _ _ => True) 2 1) s k' + ctq (RK τ A ρ B C (fun _ _ => True) 2 2) s k' ≤ ctq (fun t => (C t ∧ ¬ ∃ b, ACC τ A ρ B t b) ∧ gdq τ ρ t = 1) s k' + ctq (fun t => C t ∧ AXs τ A ρ B t) s k' + smq (fun t => @ite Nat (C t) (Classical.propDecidable _) (jkq τ ρ t) 0) s k' := fun k' => by
    induction k' with
    | zero => intro _; simp [ctq, smq]
    | succ k' ih =>
      intro q
      have a := ih (by omega)
      have o := one (s + k') (by omega) (by omega)
      simp only [ctq, smq]
      omega
  exact sm k (Nat.le_refl _)

