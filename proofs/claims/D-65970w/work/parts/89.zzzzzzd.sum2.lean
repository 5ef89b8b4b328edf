theorem GCy {L s0 : Nat} {τ : Nat → qS} (hR : RNN L τ) {A : Nat → List (Ms × Nat × Nat)} {ρ : Nat → qS × qS × qS} {B : Nat → List (Ms × Nat × Nat) × List (Ms × Nat × Nat) × List (Ms × Nat × Nat)} (h : ANC L s0 τ A ρ B) {s k : Nat} (h1 : s0 ≤ s) (hl : s + k ≤ 7 * L) (C : Nat → Prop) : ctq (RK τ A ρ B C (fun _ _ => True) 2 0) s k + ctq (RK τ A ρ B C (fun _ _ => True) 2 1) s k + ctq (RK τ A ρ B C (fun _ _ => True) 2 2) s k ≤ ctq (fun t => (C t ∧ ¬ ∃ b, ACC τ A ρ B t b) ∧ gdq τ ρ t = 1) s k + ctq (AXs τ A ρ B) s k + smq (jkq τ ρ) s k := by
  have one : ∀ t, s ≤ t → t < s + k → (@ite Nat (RK τ A ρ B C (fun _ _ => True) 2 0 t) (Classical.propDecidable _) 1 0) + (@ite Nat (RK τ A ρ B C (fun _ _ => True) 2 1 t) (Classical.propDecidable _) 1 0) + (@ite Nat (RK τ A ρ B C (fun _ _ => True) 2 2 t) (Classical.propDecidable _) 1 0) ≤ (@ite Nat ((C t ∧ ¬ ∃ b, ACC τ A ρ B t b) ∧ gdq τ ρ t = 1) (Classical.propDecidable _) 1 0) + (@ite Nat (AXs τ A ρ B t) (Classical.propDecidable _) 1 0) + jkq τ ρ t := fun t t1 t2 => by
    have z : ∀ i, i < 3 → RK τ A ρ B C (fun _ _ => True) 2 i t → C t ∧ t % 7 < 6 ∧ nk 2 ((t % 7 : Nat) : Int) (stQ τ ρ t i) = 1 := fun i hi ⟨hc, b, hb, _⟩ => ⟨hc, hb.1, rd2_n h (by omega) (by omega) hi hb⟩
    by_cases c : C t ∧ t % 7 < 6
    · have h6 := c.2
      have i0 : (@ite Nat (RK τ A ρ B C (fun _ _ => True) 2 0 t) (Classical.propDecidable _) 1 0) ≤ nk 2 ((t % 7 : Nat) : Int) (τ t) := by
        split
        · rename_i q; have := (z 0 (by omega) q).2.2; exact Nat.le_of_eq this.symm
        · exact Nat.zero_le _
      have i1 : (@ite Nat (RK τ A ρ B C (fun _ _ => True) 2 1 t) (Classical.propDecidable _) 1 0) ≤ nk 2 ((t % 7 : Nat) : Int) (ρ t).1 := by
        split
        · rename_i q; have := (z 1 (by omega) q).2.2; exact Nat.le_of_eq this.symm
        · exact Nat.zero_le _
      have i2 : (@ite Nat (RK τ A ρ B C (fun _ _ => True) 2 2 t) (Classical.propDecidable _) 1 0) ≤ nk 2 ((t % 7 : Nat) : Int) (ρ t).2.1 := by
        split
        · rename_i q; have := (z 2 (by omega) q).2.2; exact Nat.le_of_eq this.symm
        · exact Nat.zero_le _
      have g : gvq τ ρ t = nk 2 ((t % 7 : Nat) : Int) (τ t) + nk 2 ((t % 7 : Nat) : Int) (ρ t).1 + nk 2 ((t % 7 : Nat) : Int) (ρ t).2.1 := by unfold gvq; exact if_pos h6
      have gg := gd_gv hR h (t := t) (by omega) (by omega)
      have jj : jkq τ ρ t = gvq τ ρ t - gdq τ ρ t := rfl
      have key : gdq τ ρ t ≤ (@ite Nat ((C t ∧ ¬ ∃ b, ACC τ A ρ B t b) ∧ gdq τ ρ t = 1) (Classical.propDecidable _) 1 0) + (@ite Nat (AXs τ A ρ B t) (Classical.propDecidable _) 1 0) := by
        by_cases d : t % 7 < 6 ∧ τ t 62 ((t % 7 : Nat) : Int) = -1 ∧ (ρ t).2.2 62 ((t % 7 : Nat) : Int) ≠ -1
        · have g1 : gdq τ ρ t = 1 := by unfold gdq; exact if_pos d
          by_cases a : ∃ b, ACC τ A ρ B t b
          · have ff : ffq τ t ≠ 1 := by
              unfold ffq
              have gb := gq_b τ t
              by_cases g1 : gq τ t = 1
              · have : gsq τ t = 1 := by unfold gsq; exact if_pos ⟨g1, d.2.1⟩
                omega
              · omega
            rw [if_pos (show AXs τ A ρ B t from ⟨⟨a, ff⟩, d.2.1⟩), g1]
            omega
          · rw [if_pos (show (C t ∧ ¬ ∃ b, ACC τ A ρ B t b) ∧ gdq τ ρ t = 1 from ⟨⟨c.1, a⟩, g1⟩), g1]
            omega
        · have g0 : gdq τ ρ t = 0 := by unfold gdq; exact if_neg d
          omega
      omega
    · rw [if_neg (fun q => c ⟨(z 0 (by omega) q).1, (z 0 (by omega) q).2.1⟩), if_neg (fun q => c ⟨(z 1 (by omega) q).1, (z 1 (by omega) q).2.1⟩), if_neg (fun q => c ⟨(z 2 (by omega) q).1, (z 2 (by omega) q).2.1⟩)]
      omega
  have sm : ∀ k', k' ≤ k → ctq (RK τ A ρ B C (fun _ _ => True) 2 0) s k' + ctq (RK τ A ρ B C (fun _ _ => True) 2 1) s k' + ctq (RK τ A ρ B C (fun _ _ => True) 2 2) s k' ≤ ctq (fun t => (C t ∧ ¬ ∃ b, ACC τ A ρ B t b) ∧ gdq τ ρ t = 1) s k' + ctq (AXs τ A ρ B) s k' + smq (jkq τ ρ) s k' := fun k' => by
    induction k' with
    | zero => intro _; simp [ctq, smq]
    | succ k' ih =>
      intro q
      have a := ih (by omega)
      have o := one (s + k') (by omega) (by omega)
      simp only [ctq, smq]
      omega
  exact sm k (Nat.le_refl _)
-- late standing kills: the next tick sends no ASK that will be heard while a split is undone
def Klt (τ : Nat → qS) (A : Nat → List (Ms × Nat × Nat)) (ρ : Nat → qS × qS × qS) (B : Nat → List (Ms × Nat × Nat) × List (Ms × Nat × Nat) × List (Ms × Nat × Nat)) (t : Nat) : Prop := Kst τ A ρ B t ∧ ¬ GAt τ (t + 7)
theorem Kst_l {L s0 : Nat} {τ : Nat → qS} (hR : RNN L τ) {A : Nat → List (Ms × Nat × Nat)} {ρ : Nat → qS × qS × qS} {B : Nat → List (Ms × Nat × Nat) × List (Ms × Nat × Nat) × List (Ms × Nat × Nat)} (h : ANC L s0 τ A ρ B) {s k : Nat} (h2 : s + k ≤ 7 * L) : ctq (Kst τ A ρ B) s k ≤ ctq (GAt τ) s k + ctq (Klt τ A ρ B) s k + 7 := by
  have a := ctq_or (P := Kst τ A ρ B) (Q := fun t => GAt τ (t + 7)) (R := Klt τ A ρ B) (s := s) k (fun t _ _ q => by
    by_cases c : GAt τ (t + 7)
    · exact Or.inl c
    · exact Or.inr ⟨q, c⟩)
  have b := ctq_inj (P := fun t => GAt τ (t + 7)) (f := fun t => t + 7) (s := s) (a := s) (m := k + 7) k (GAt τ) (fun t t1 t2 q => ⟨by omega, by omega, q⟩) (fun t t' _ _ _ _ _ _ e => by
    have e' : t + 7 = t' + 7 := e
    omega)
  have c := ctq_tail (P := GAt τ) (s := s) (n := k) 7
  omega
-- STAR13: as STAR11, with the chosen ticks that neither accept nor start
theorem STAR13 {L s0 : Nat} {τ : Nat → qS} (hR : RNN L τ) (hs : ∀ t, t ≤ 7 * L → psame (τ 0) (τ t)) (hJ : ∀ t, t ≤ 7 * L → JOm (τ t) ≠ none) {A : Nat → List (Ms × Nat × Nat)} {ρ : Nat → qS × qS × qS} {B : Nat → List (Ms × Nat × Nat) × List (Ms × Nat × Nat) × List (Ms × Nat × Nat)} (h : ANC L s0 τ A ρ B) (h7 : 224 ≤ s0) {ch : Nat → Nat} {r0 n : Nat} (h1 : s0 + 900 ≤ 7 * r0) (h2 : r0 + n ≤ L) (hc : ∀ r, ch r < 6) (ht : ∀ r, r0 ≤ r → r < r0 + n → T1t A (7 * r + ch r)) (X : Nat → Prop) :
    ctq (fun t => (CHc ch t ∧ ¬ ∃ b, ACC τ A ρ B t b) ∧ ¬ gdq τ ρ t = 1) (7 * r0) (7 * n) + 2 * ctq (fun t => (CHd L s0 τ A B ch t ∧ ¬ ∃ b, ACC τ A ρ B t b) ∧ ¬ gdq τ ρ t = 1) (7 * r0) (7 * n) + 7 * smq (gtq τ) (7 * r0) (7 * n) + 3 * ctq (AXk τ A ρ B) (7 * r0) (7 * n) + 3 * smq (jkq τ ρ) (7 * r0) (7 * n) + 6 * ctq (GAt τ) (7 * r0) (7 * n) + 6 * smq (msq τ) (7 * r0) (7 * n) + 6 * ctq (fun b => (gq τ (b - 1) = 1 ∧ NAb L s0 τ A ρ B b) ∧ X b) (7 * r0 - 448) (7 * n + 448) + 124 * lkc τ (7 * r0 - 217)
    ≤ 124 * lkc τ (7 * r0 + 7 * n) + 3 * smq (gsq τ) (7 * r0) (7 * n) + 4 * ctq (DNt τ ρ) (7 * r0) (7 * n) + 6 * smq (jsq τ ρ) (7 * r0) (7 * n) + 2 * ctq (fun u => gtq τ u = 1 ∧ OWb L s0 τ A ρ B (u - 90)) (7 * r0) (7 * n) + 2 * ctq (fun b => PNb L s0 τ A ρ B b ∧ ∃ t i, 7 * r0 ≤ t ∧ t < 7 * r0 + 7 * n ∧ i < 3 ∧ CHd L s0 τ A B ch t ∧ rdk τ A ρ B 5 t i b) (7 * r0 - 448) (7 * n + 448)
      + (ctq (fun b => (NAb L s0 τ A ρ B b ∧ X b) ∧ ∃ t i, 7 * r0 ≤ t ∧ t < 7 * r0 + 7 * n ∧ i < 3 ∧ CHc ch t ∧ rdk τ A ρ B 6 t i b) (7 * r0 - 448) (7 * n + 448) + ctq (fun b => (NAb L s0 τ A ρ B b ∧ X b) ∧ ∃ t i, 7 * r0 ≤ t ∧ t < 7 * r0 + 7 * n ∧ i < 3 ∧ CHc ch t ∧ rdk τ A ρ B 5 t i b) (7 * r0 - 448) (7 * n + 448)) + 2 * (ctq (fun b => (NAb L s0 τ A ρ B b ∧ X b) ∧ ∃ t i, 7 * r0 ≤ t ∧ t < 7 * r0 + 7 * n ∧ i < 3 ∧ CHd L s0 τ A B ch t ∧ rdk τ A ρ B 6 t i b) (7 * r0 - 448) (7 * n + 448) + ctq (fun b => (NAb L s0 τ A ρ B b ∧ X b) ∧ ∃ t i, 7 * r0 ≤ t ∧ t < 7 * r0 + 7 * n ∧ i < 3 ∧ CHd L s0 τ A B ch t ∧ rdk τ A ρ B 5 t i b) (7 * r0 - 448) (7 * n + 448)) + 22000 := by
  have x := STAR3 hR hs hJ h h7 h1 h2 hc ht
  have gc := GCy hR h (s := 7 * r0) (k := 7 * n) (by omega) (by omega) (CHc ch)
  have gd := GCy hR h (s := 7 * r0) (k := 7 * n) (by omega) (by omega) (CHd L s0 τ A B ch)
  have ix := IDX4 hR h (s := 7 * r0) (k := 7 * n) (by omega) (by omega) (by omega)
  have zc := ctq_2 (P := fun t => (CHc ch t ∧ ¬ ∃ b, ACC τ A ρ B t b) ∧ gdq τ ρ t = 1) (Q := fun t => (CHc ch t ∧ ¬ ∃ b, ACC τ A ρ B t b) ∧ ¬ gdq τ ρ t = 1) (R := fun t => CHc ch t ∧ ¬ ∃ b, ACC τ A ρ B t b) (s := 7 * r0) (7 * n) (fun t _ _ => ⟨fun q => q.1, fun q => q.1, fun q => q.2.2 q.1.2⟩)
  have zd := ctq_2 (P := fun t => (CHd L s0 τ A B ch t ∧ ¬ ∃ b, ACC τ A ρ B t b) ∧ gdq τ ρ t = 1) (Q := fun t => (CHd L s0 τ A B ch t ∧ ¬ ∃ b, ACC τ A ρ B t b) ∧ ¬ gdq τ ρ t = 1) (R := fun t => CHd L s0 τ A B ch t ∧ ¬ ∃ b, ACC τ A ρ B t b) (s := 7 * r0) (7 * n) (fun t _ _ => ⟨fun q => q.1, fun q => q.1, fun q => q.2.2 q.1.2⟩)
  have ax := ctq_2 (P := AXs τ A ρ B) (Q := AXk τ A ρ B) (R := AXt τ A ρ B) (s := 7 * r0) (7 * n) (fun t _ _ => ⟨fun q => q.1, fun q => q.1, fun q => q.2.2 q.1.2⟩)
  have e := T3 h (n := 7 * n) h1
  have f := gq_sum τ (7 * r0) (7 * n)
  have d := T4x hR h h7 h1 (by omega : 7 * r0 + 7 * n ≤ 7 * L) (fun _ => False)
  have z0 : ctq (fun t => False ∧ ∃ b, ACC τ A ρ B t b) (7 * r0) (7 * n) = 0 := ctq_off _ (fun t _ _ q => q.1)
  have dj := ctq_2 (P := fun b => (gq τ (b - 1) = 1 ∧ NAb L s0 τ A ρ B b) ∧ X b) (Q := fun b => (gq τ (b - 1) = 1 ∧ NAb L s0 τ A ρ B b) ∧ ¬ X b) (R := fun b => gq τ (b - 1) = 1 ∧ NAb L s0 τ A ρ B b) (s := 7 * r0 - 448) (7 * n + 448) (fun b _ _ => ⟨fun q => q.1, fun q => q.1, fun q => q.2.2 q.1.2⟩)
  have sp := ctq_add (P := fun b => gq τ (b - 1) = 1 ∧ NAb L s0 τ A ρ B b) (Q := X) (s := 7 * r0 - 448) (7 * n + 448)
  have mm : ∀ (P : Nat → Prop) (k : Int), (k = 5 ∨ k = 6) → ctq (fun b => NAb L s0 τ A ρ B b ∧ ∃ t i, 7 * r0 ≤ t ∧ t < 7 * r0 + 7 * n ∧ i < 3 ∧ P t ∧ rdk τ A ρ B k t i b) (7 * r0 - 448) (7 * n + 448) ≤ ctq (fun b => (NAb L s0 τ A ρ B b ∧ X b) ∧ ∃ t i, 7 * r0 ≤ t ∧ t < 7 * r0 + 7 * n ∧ i < 3 ∧ P t ∧ rdk τ A ρ B k t i b) (7 * r0 - 448) (7 * n + 448) + ctq (fun b => (gq τ (b - 1) = 1 ∧ NAb L s0 τ A ρ B b) ∧ ¬ X b) (7 * r0 - 448) (7 * n + 448) := fun P k hk => ctq_or _ (fun b b1 b2 q => by
    obtain ⟨na, t, i, t1, t2, hi, hp, hr⟩ := q
    by_cases c : X b
    · exact Or.inl ⟨⟨na, c⟩, t, i, t1, t2, hi, hp, hr⟩
    · exact Or.inr ⟨⟨rd_g h hk (by omega) (by omega) hi (by omega) hr, na⟩, c⟩)
  have m1 := mm (CHc ch) 5 (Or.inl rfl)
  have m2 := mm (CHc ch) 6 (Or.inr rfl)
  have m3 := mm (CHd L s0 τ A B ch) 5 (Or.inl rfl)
  have m4 := mm (CHd L s0 τ A B ch) 6 (Or.inr rfl)
  omega


-- STAR14: kills on arrival cancel
theorem STAR14 {L s0 : Nat} {τ : Nat → qS} (hR : RNN L τ) (hs : ∀ t, t ≤ 7 * L → psame (τ 0) (τ t)) (hJ : ∀ t, t ≤ 7 * L → JOm (τ t) ≠ none) {A : Nat → List (Ms × Nat × Nat)} {ρ : Nat → qS × qS × qS} {B : Nat → List (Ms × Nat × Nat) × List (Ms × Nat × Nat) × List (Ms × Nat × Nat)} (h : ANC L s0 τ A ρ B) (h7 : 224 ≤ s0) {ch : Nat → Nat} {r0 n : Nat} (h1 : s0 + 900 ≤ 7 * r0) (h2 : r0 + n ≤ L) (hc : ∀ r, ch r < 6) (ht : ∀ r, r0 ≤ r → r < r0 + n → T1t A (7 * r + ch r)) (X : Nat → Prop) :
    ctq (fun t => (CHc ch t ∧ ¬ ∃ b, ACC τ A ρ B t b) ∧ ¬ gdq τ ρ t = 1) (7 * r0) (7 * n) + 2 * ctq (fun t => (CHd L s0 τ A B ch t ∧ ¬ ∃ b, ACC τ A ρ B t b) ∧ ¬ gdq τ ρ t = 1) (7 * r0) (7 * n) + 7 * smq (gtq τ) (7 * r0) (7 * n) + 3 * smq (jkq τ ρ) (7 * r0) (7 * n) + 6 * ctq (GAt τ) (7 * r0) (7 * n) + 6 * smq (msq τ) (7 * r0) (7 * n) + 6 * ctq (fun b => (gq τ (b - 1) = 1 ∧ NAb L s0 τ A ρ B b) ∧ X b) (7 * r0 - 448) (7 * n + 448) + 124 * lkc τ (7 * r0 - 217)
    ≤ 124 * lkc τ (7 * r0 + 7 * n) + 3 * ctq (Kst τ A ρ B) (7 * r0) (7 * n) + 4 * ctq (DNt τ ρ) (7 * r0) (7 * n) + 6 * smq (jsq τ ρ) (7 * r0) (7 * n) + 2 * ctq (fun u => gtq τ u = 1 ∧ OWb L s0 τ A ρ B (u - 90)) (7 * r0) (7 * n) + 2 * ctq (fun b => PNb L s0 τ A ρ B b ∧ ∃ t i, 7 * r0 ≤ t ∧ t < 7 * r0 + 7 * n ∧ i < 3 ∧ CHd L s0 τ A B ch t ∧ rdk τ A ρ B 5 t i b) (7 * r0 - 448) (7 * n + 448)
      + (ctq (fun b => (NAb L s0 τ A ρ B b ∧ X b) ∧ ∃ t i, 7 * r0 ≤ t ∧ t < 7 * r0 + 7 * n ∧ i < 3 ∧ CHc ch t ∧ rdk τ A ρ B 6 t i b) (7 * r0 - 448) (7 * n + 448) + ctq (fun b => (NAb L s0 τ A ρ B b ∧ X b) ∧ ∃ t i, 7 * r0 ≤ t ∧ t < 7 * r0 + 7 * n ∧ i < 3 ∧ CHc ch t ∧ rdk τ A ρ B 5 t i b) (7 * r0 - 448) (7 * n + 448)) + 2 * (ctq (fun b => (NAb L s0 τ A ρ B b ∧ X b) ∧ ∃ t i, 7 * r0 ≤ t ∧ t < 7 * r0 + 7 * n ∧ i < 3 ∧ CHd L s0 τ A B ch t ∧ rdk τ A ρ B 6 t i b) (7 * r0 - 448) (7 * n + 448) + ctq (fun b => (NAb L s0 τ A ρ B b ∧ X b) ∧ ∃ t i, 7 * r0 ≤ t ∧ t < 7 * r0 + 7 * n ∧ i < 3 ∧ CHd L s0 τ A B ch t ∧ rdk τ A ρ B 5 t i b) (7 * r0 - 448) (7 * n + 448)) + 22100 := by
  have x := STAR13 hR hs hJ h h7 h1 h2 hc ht X
  have b := KLA hR (s := 7 * r0) (7 * n) (by omega)
  have c := KA_s (τ := τ) (A := A) (ρ := ρ) (B := B) (s := 7 * r0) (k := 7 * n)
  have e : rrs (τ (7 * r0 + 7 * n)) ≤ 6 := by
    unfold rrs
    have := rr_b (τ (7 * r0 + 7 * n)) 0
    have := rr_b (τ (7 * r0 + 7 * n)) 1
    have := rr_b (τ (7 * r0 + 7 * n)) 2
    have := rr_b (τ (7 * r0 + 7 * n)) 3
    have := rr_b (τ (7 * r0 + 7 * n)) 4
    have := rr_b (τ (7 * r0 + 7 * n)) 5
    omega
  omega


-- SUM2: as SUM1, with the chosen ticks that neither accept nor start, and with late standing kills (Klt)
theorem SUM2 {L s0 : Nat} {τ : Nat → qS} (hR : RNN L τ) (hs : ∀ t, t ≤ 7 * L → psame (τ 0) (τ t)) (hJ : ∀ t, t ≤ 7 * L → JOm (τ t) ≠ none) {A : Nat → List (Ms × Nat × Nat)} {ρ : Nat → qS × qS × qS} {B : Nat → List (Ms × Nat × Nat) × List (Ms × Nat × Nat) × List (Ms × Nat × Nat)} (h : ANC L s0 τ A ρ B) (h7 : 224 ≤ s0) {ch : Nat → Nat} {r0 n : Nat} (h1 : s0 + 3000 ≤ 7 * r0) (h2 : r0 + n + 300 ≤ L) (hn : 300 ≤ n) (hc : ∀ r, ch r < 6) (ht : ∀ r, r0 ≤ r → r < r0 + n → T1t A (7 * r + ch r)) :
    ctq (fun t => (CHc ch t ∧ ¬ ∃ b, ACC τ A ρ B t b) ∧ ¬ gdq τ ρ t = 1) (7 * r0) (7 * n) + 2 * ctq (fun t => (CHd L s0 τ A B ch t ∧ ¬ ∃ b, ACC τ A ρ B t b) ∧ ¬ gdq τ ρ t = 1) (7 * r0) (7 * n) + 23 * ctq (LKt τ) (7 * r0) (7 * n) + 3 * smq (jkq τ ρ) (7 * r0) (7 * n) + 3 * ctq (GAt τ) (7 * r0) (7 * n) + 6 * smq (msq τ) (7 * r0) (7 * n)
    ≤ 3 * ctq (Klt τ A ρ B) (7 * r0) (7 * n) + 4 * ctq (DNt τ ρ) (7 * r0) (7 * n) + 6 * smq (jsq τ ρ) (7 * r0) (7 * n) + 6 * ctq (fun b => XNz τ (7 * r0 + 7 * n - 1) 12 b ∧ OWb L s0 τ A ρ B b) (7 * r0) (7 * n) + 6 * ctq (SLx τ A ρ B) (7 * r0) (7 * n + 448) + 2 * ctq (fun b => PNb L s0 τ A ρ B b ∧ ∃ t i, 7 * r0 ≤ t ∧ t < 7 * r0 + 7 * n ∧ i < 3 ∧ CHd L s0 τ A B ch t ∧ rdk τ A ρ B 5 t i b) (7 * r0 - 448) (7 * n + 448)
      + (ctq (fun b => (NAb L s0 τ A ρ B b ∧ XNz τ (7 * r0 + 7 * n - 1) 12 b) ∧ ∃ t i, 7 * r0 ≤ t ∧ t < 7 * r0 + 7 * n ∧ i < 3 ∧ CHc ch t ∧ rdk τ A ρ B 6 t i b) (7 * r0 - 448) (7 * n + 448) + ctq (fun b => (NAb L s0 τ A ρ B b ∧ XNz τ (7 * r0 + 7 * n - 1) 12 b) ∧ ∃ t i, 7 * r0 ≤ t ∧ t < 7 * r0 + 7 * n ∧ i < 3 ∧ CHc ch t ∧ rdk τ A ρ B 5 t i b) (7 * r0 - 448) (7 * n + 448)) + 2 * (ctq (fun b => (NAb L s0 τ A ρ B b ∧ XNz τ (7 * r0 + 7 * n - 1) 12 b) ∧ ∃ t i, 7 * r0 ≤ t ∧ t < 7 * r0 + 7 * n ∧ i < 3 ∧ CHd L s0 τ A B ch t ∧ rdk τ A ρ B 6 t i b) (7 * r0 - 448) (7 * n + 448) + ctq (fun b => (NAb L s0 τ A ρ B b ∧ XNz τ (7 * r0 + 7 * n - 1) 12 b) ∧ ∃ t i, 7 * r0 ≤ t ∧ t < 7 * r0 + 7 * n ∧ i < 3 ∧ CHd L s0 τ A B ch t ∧ rdk τ A ρ B 5 t i b) (7 * r0 - 448) (7 * n + 448)) + 400100 := by
  obtain ⟨k, hk⟩ : ∃ k, k + 1002 = 7 * n := ⟨7 * n - 1002, by omega⟩
  obtain ⟨s, es⟩ : ∃ s, s = 7 * r0 := ⟨_, rfl⟩
  obtain ⟨E, hE⟩ : ∃ E, E = s + 1001 + k := ⟨_, rfl⟩
  have eE : 7 * r0 + 7 * n - 1 = E := by omega
  rw [eE]
  have x := STAR14 hR hs hJ h h7 (ch := ch) (r0 := r0) (n := n) (by omega) (by omega) hc ht (XNz τ E 12)
  have nx := NXA hR h h7 (s := s) (k := k) (by omega) (by omega)
  have to := TO11 hR (s := s) (k := k) (by omega) (by omega)
  have tow := TOo2 hR h h7 (s := s) (k := k) (by omega) (by omega)
  rw [← hE, hk, show k + 1450 = 7 * n + 448 by omega] at nx
  have tl := ctq_tail (P := fun u => gtq τ u = 1 ∧ OWb L s0 τ A ρ B (u - 90)) (s := s) (n := k + 1001) 1
  rw [show k + 1001 + 1 = 7 * n by omega] at tl
  have tg : smq (gtq τ) s (k + 1001) ≤ smq (gtq τ) s (7 * n) := by
    obtain ⟨m, hm⟩ : ∃ m, m = k + 1001 := ⟨_, rfl⟩
    rw [← hm, show 7 * n = m + 1 by omega]
    exact smq_s1 _ _ _
  have lk := lkc_c τ (s - 217) (217 + 7 * n)
  rw [show s - 217 + (217 + 7 * n) = s + 7 * n by omega] at lk
  have j1 := ctq_jn (P := LKt τ) (s := s - 217) 217 (7 * n)
  rw [show s - 217 + 217 = s by omega] at j1
  have j2 := ctq_le (P := LKt τ) (s := s - 217) 217
  have j3 := ctq_jn (P := LKt τ) (s := s) 1001 (k + 1)
  rw [show 1001 + (k + 1) = 7 * n by omega] at j3
  have j4 := ctq_le (P := LKt τ) (s := s) 1001
  have j5 := ctq_tail (P := LKt τ) (s := s + 1001) (n := k) 1
  have ex := ctq_ext (P := fun b => (gq τ (b - 1) = 1 ∧ NAb L s0 τ A ρ B b) ∧ XNz τ E 12 b) (s := s) (n := 7 * n) 448 (by omega)
  have kl := Kst_l hR h (s := s) (k := 7 * n) (by omega)
  rw [← es] at x ⊢
  omega

