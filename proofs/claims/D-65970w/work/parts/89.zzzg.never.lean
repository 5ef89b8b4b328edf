noncomputable def ctq (P : Nat → Prop) (s : Nat) : Nat → Nat
  | 0 => 0
  | k + 1 => ctq P s k + @ite Nat (P (s + k)) (Classical.propDecidable _) 1 0
theorem ctq_mo {P Q : Nat → Prop} {s : Nat} : ∀ k, (∀ t, s ≤ t → t < s + k → P t → Q t) → ctq P s k ≤ ctq Q s k
  | 0, _ => Nat.le_refl _
  | k + 1, h => by
    have a := ctq_mo k (fun t h1 h2 => h t h1 (by omega))
    simp only [ctq]
    by_cases c : P (s + k)
    · rw [if_pos c, if_pos (h (s + k) (by omega) (by omega) c)]; omega
    · rw [if_neg c]; omega
theorem ctq_or {P Q R : Nat → Prop} {s : Nat} : ∀ k, (∀ t, s ≤ t → t < s + k → P t → Q t ∨ R t) → ctq P s k ≤ ctq Q s k + ctq R s k
  | 0, _ => by simp [ctq]
  | k + 1, h => by
    have a := ctq_or k (fun t h1 h2 => h t h1 (by omega))
    simp only [ctq]
    by_cases c : P (s + k)
    · rw [if_pos c]
      rcases h (s + k) (by omega) (by omega) c with d | d
      · rw [if_pos d]; omega
      · rw [if_pos d]; omega
    · rw [if_neg c]; omega
theorem ctq_rm {Q : Nat → Prop} {a x : Nat} : ∀ m, a ≤ x → x < a + m → Q x → ctq (fun u => Q u ∧ u ≠ x) a m + 1 ≤ ctq Q a m
  | 0, h1, h2, _ => by omega
  | m + 1, h1, h2, hq => by
    simp only [ctq]
    by_cases e : x = a + m
    · have b := ctq_mo (P := fun u => Q u ∧ u ≠ x) (Q := Q) (s := a) m (fun t _ _ h => h.1)
      rw [if_neg (fun z => z.2 e.symm), ← e, if_pos hq]
      omega
    · have b := ctq_rm (Q := Q) (a := a) (x := x) m h1 (by omega) hq
      by_cases c : Q (a + m)
      · rw [if_pos ⟨c, fun z => e z.symm⟩, if_pos c]; omega
      · rw [if_neg (fun z => c z.1), if_neg c]; omega
theorem ctq_inj {P : Nat → Prop} {f : Nat → Nat} {s a m : Nat} : ∀ (k : Nat) (Q : Nat → Prop), (∀ t, s ≤ t → t < s + k → P t → a ≤ f t ∧ f t < a + m ∧ Q (f t)) → (∀ t t', s ≤ t → t < s + k → s ≤ t' → t' < s + k → P t → P t' → f t = f t' → t = t') → ctq P s k ≤ ctq Q a m
  | 0, _, _, _ => Nat.zero_le _
  | k + 1, Q, h1, h2 => by
    simp only [ctq]
    by_cases c : P (s + k)
    · rw [if_pos c]
      obtain ⟨x1, x2, x3⟩ := h1 (s + k) (by omega) (by omega) c
      have r := ctq_rm m x1 x2 x3
      have i := ctq_inj k (fun u => Q u ∧ u ≠ f (s + k)) (fun t q1 q2 q3 => by
        obtain ⟨y1, y2, y3⟩ := h1 t q1 (by omega) q3
        refine ⟨y1, y2, y3, fun e => ?_⟩
        have := h2 t (s + k) q1 (by omega) (by omega) (by omega) q3 c e
        omega) (fun t t' q1 q2 q3 q4 => h2 t t' q1 (by omega) q3 (by omega))
      omega
    · rw [if_neg c]
      have i := ctq_inj k Q (fun t q1 q2 => h1 t q1 (by omega)) (fun t t' q1 q2 q3 q4 => h2 t t' q1 (by omega) q3 (by omega))
      omega
theorem ctq_sm {P : Nat → Prop} {f : Nat → Nat} {s : Nat} : ∀ k, (∀ t, s ≤ t → t < s + k → f t ≤ 1 ∧ (f t = 1 → P t)) → smq f s k ≤ ctq P s k
  | 0, _ => Nat.le_refl _
  | k + 1, h => by
    have a := ctq_sm k (fun t h1 h2 => h t h1 (by omega))
    obtain ⟨b1, b2⟩ := h (s + k) (by omega) (by omega)
    simp only [smq, ctq]
    by_cases c : f (s + k) = 1
    · rw [if_pos (b2 c)]; omega
    · omega
theorem ctq_sm' {P : Nat → Prop} {f : Nat → Nat} {s : Nat} : ∀ k, (∀ t, s ≤ t → t < s + k → P t → 1 ≤ f t) → ctq P s k ≤ smq f s k
  | 0, _ => Nat.le_refl _
  | k + 1, h => by
    have a := ctq_sm' k (fun t h1 h2 => h t h1 (by omega))
    simp only [smq, ctq]
    by_cases c : P (s + k)
    · have := h (s + k) (by omega) (by omega) c
      rw [if_pos c]; omega
    · rw [if_neg c]; omega
def ioc (s0 : Nat) (A : List (Ms × Nat × Nat)) : Nat := A.countP (fun y => tokb y && decide (y.2.2 ≤ s0))
theorem ioc_sub (s0 : Nat) {A B : List (Ms × Nat × Nat)} (h : B.Sublist A) : ioc s0 B ≤ ioc s0 A := List.Sublist.countP_le h
theorem ioc_ap (s0 : Nat) (A : List (Ms × Nat × Nat)) (z : Ms) (a c : Nat) : ioc s0 (A ++ [(z, a, c)]) ≤ ioc s0 A + (if c ≤ s0 then 1 else 0) := by
  unfold ioc
  rw [List.countP_append, List.countP_cons, List.countP_nil]
  by_cases e : c ≤ s0
  · rw [if_pos e]
    split <;> omega
  · rw [if_neg e]
    have : (tokb (z, a, c) && decide ((z, a, c).2.2 ≤ s0)) = false := by
      rw [Bool.and_eq_false_iff]
      right
      exact decide_eq_false e
    rw [this]
    simp
theorem RDn_io {s0 t : Nat} {w e : Int} {A A' : List (Ms × Nat × Nat)} (h : RDn w e t A A') : ioc s0 A' ≤ ioc s0 A := by
  rcases h with ⟨-, rfl⟩ | ⟨i, y, -, c2, c⟩
  · exact Nat.le_refl _
  · rcases c with ⟨-, rfl⟩ | ⟨-, d5, z, -, -, -, -, -, -, rfl⟩
    · exact ioc_sub s0 (List.eraseIdx_sublist A i)
    · have p := cpA_er (fun y => tokb y && decide (y.2.2 ≤ s0)) A i y c2
      have q := ioc_ap s0 (tlA (A.eraseIdx i)) z (t + 1) y.2.2
      have r := ioc_sub s0 (tlA_sub (A.eraseIdx i))
      have k : tokb y = true := (tokb_i y).mpr (Or.inl d5)
      rw [k] at p
      unfold ioc at q r ⊢
      by_cases e : y.2.2 ≤ s0
      · rw [if_pos e] at q
        rw [if_pos (by rw [decide_eq_true e]; rfl)] at p
        omega
      · rw [if_neg e] at q
        rw [if_neg (by rw [decide_eq_false e]; decide)] at p
        omega
theorem HRn_io {s0 t : Nat} (ht : s0 ≤ t) {A A' : List (Ms × Nat × Nat)} (h : HRn t A A') : ioc s0 A' ≤ ioc s0 A := by
  rcases h with ⟨-, rfl⟩ | ⟨i, y, -, -, c⟩
  · exact Nat.le_refl _
  · rcases c with rfl | ⟨z, z0, rfl⟩
    · exact ioc_sub s0 (List.eraseIdx_sublist A i)
    · have q := ioc_ap s0 (tlA (A.eraseIdx i)) z (t + 1) (t + 1)
      rw [if_neg (by omega)] at q
      exact Nat.le_trans q (Nat.le_trans (ioc_sub s0 (tlA_sub _)) (ioc_sub s0 (List.eraseIdx_sublist A i)))
theorem ACn_io {s0 t : Nat} (ht : s0 ≤ t) {A A' : List (Ms × Nat × Nat)} {s : List Ms} (h : ACn t A A' s) : ioc s0 A' ≤ ioc s0 A := by
  rcases h with ⟨rfl, -⟩ | ⟨z, rfl, -⟩ | ⟨z, z', rfl, -⟩
  · exact Nat.le_refl _
  · have q := ioc_ap s0 (tlA A) z (t + 1) (t + 1)
    rw [if_neg (by omega)] at q
    exact Nat.le_trans q (ioc_sub s0 (tlA_sub _))
  · have q := ioc_ap s0 (tlA A) z (t + 1) (t + 1)
    have q' := ioc_ap s0 (tlA (tlA A ++ [(z, t + 1, t + 1)])) z' (t + 1) (t + 1)
    rw [if_neg (by omega)] at q q'
    have r := ioc_sub s0 (tlA_sub A)
    have r' := ioc_sub s0 (tlA_sub (tlA A ++ [(z, t + 1, t + 1)]))
    omega
theorem acy_io {s0 : Nat} {w e : Int} {t : Nat} {σ : qS} {A A' : List (Ms × Nat × Nat)} {y : Ms × Nat × Nat} (h : acy w σ A y) (hy : y.2.2 ≤ s0) (r : RDn w e t A A') : ioc s0 A' + 1 ≤ ioc s0 A := by
  obtain ⟨⟨i, a, b⟩, -, h6, -⟩ := h
  rcases r with ⟨c, -⟩ | ⟨j, y', c1, c2, c⟩
  · rw [a] at c; cases c
  · have ey : y = y' := hdA_u ⟨i, a, b⟩ ⟨j, c1, c2⟩
    subst ey
    rcases c with ⟨-, rfl⟩ | ⟨-, d5, -⟩
    · have p := cpA_er (fun x => tokb x && decide (x.2.2 ≤ s0)) A j y c2
      have k : tokb y = true := (tokb_i y).mpr (Or.inr h6)
      rw [if_pos (by rw [k, decide_eq_true hy]; rfl)] at p
      unfold ioc
      omega
    · omega
theorem ANC_io {L s0 : Nat} {τ : Nat → qS} {A : Nat → List (Ms × Nat × Nat)} {ρ : Nat → qS × qS × qS} {B : Nat → List (Ms × Nat × Nat) × List (Ms × Nat × Nat) × List (Ms × Nat × Nat)} (h : ANC L s0 τ A ρ B) : ∀ k, s0 + k ≤ 7 * L → ctq (fun t => ∃ b, b ≤ s0 ∧ ACC τ A ρ B t b) s0 k + ioc s0 (A (s0 + k)) ≤ ioc s0 (A s0)
  | 0, _ => by rw [Nat.add_zero]; simp [ctq]
  | k + 1, hk => by
    have ih := ANC_io h k (by omega)
    rw [show s0 + (k + 1) = s0 + k + 1 by omega]
    simp only [ctq]
    by_cases h6 : (s0 + k) % 7 < 6
    · obtain ⟨-, -, r1, r2, r3, s, a, -⟩ := h.2 (s0 + k) (by omega) (by omega) h6
      have x1 := RDn_io (s0 := s0) r1
      have x2 := RDn_io (s0 := s0) r2
      have x3 := RDn_io (s0 := s0) r3
      have x4 := ACn_io (s0 := s0) (by omega) a
      by_cases c : ∃ b, b ≤ s0 ∧ ACC τ A ρ B (s0 + k) b
      · rw [if_pos c]
        obtain ⟨b, hb, -, y, rfl, d⟩ := c
        rcases d with d | d | d
        · have := acy_io d hb r1; omega
        · have := acy_io d hb r2; omega
        · have := acy_io d hb r3; omega
      · rw [if_neg c]; omega
    · rw [if_neg (fun c => by obtain ⟨b, -, c, -⟩ := c; exact h6 c)]
      rcases h.1.2.2 (s0 + k) (by omega) (by omega) with ⟨e, -⟩ | ⟨-, σ1, σ2, A1, A2, -, -, -, -, q1, q2, q3⟩
      · exact absurd e h6
      · have y1 := HRn_io (s0 := s0) (by omega) q1
        have y2 := HRn_io (s0 := s0) (by omega) q2
        have y3 := HRn_io (s0 := s0) (by omega) q3
        omega
theorem NA_1 {L s0 : Nat} {τ : Nat → qS} (hR : RNN L τ) {A : Nat → List (Ms × Nat × Nat)} {ρ : Nat → qS × qS × qS} {B : Nat → List (Ms × Nat × Nat) × List (Ms × Nat × Nat) × List (Ms × Nat × Nat)} (h : ANC L s0 τ A ρ B) (h7 : 7 ≤ s0) {k : Nat} (hk : s0 + k ≤ 7 * L) : smq (ffq τ) s0 k ≤ 95 + ctq (fun u => ∃ t, s0 ≤ t ∧ t < s0 + k ∧ ACC τ A ρ B t (u + 1)) s0 k := by
  have a1 : smq (ffq τ) s0 k ≤ ctq (fun t => ∃ b, ACC τ A ρ B t b) s0 k := ctq_sm k (fun t h1 h2 => by
    have g1 := gq_b τ t
    have g2 := gsq_b τ t
    exact ⟨by unfold ffq; omega, fun e => ANC_ff hR h (by omega) h1 (by omega) e⟩)
  have a2 : ctq (fun t => ∃ b, ACC τ A ρ B t b) s0 k ≤ ctq (fun t => ∃ b, b ≤ s0 ∧ ACC τ A ρ B t b) s0 k + ctq (fun t => ∃ b, s0 < b ∧ ACC τ A ρ B t b) s0 k := ctq_or k (fun t _ _ hp => by
    obtain ⟨b, hb⟩ := hp
    by_cases c : b ≤ s0
    · exact Or.inl ⟨b, c, hb⟩
    · exact Or.inr ⟨b, by omega, hb⟩)
  have a3 := ANC_io h k hk
  have a4 : ioc s0 (A s0) ≤ 95 := by
    have l := run_95 hR (by omega) h7 (by omega : s0 ≤ 7 * L)
    rw [← h.1.2.1 s0 (Nat.le_refl _) (by omega), pr_len] at l
    have : ioc s0 (A s0) ≤ (A s0).length := List.countP_le_length
    omega
  have a5 : ctq (fun t => ∃ b, s0 < b ∧ ACC τ A ρ B t b) s0 k ≤ ctq (fun u => ∃ t, s0 ≤ t ∧ t < s0 + k ∧ ACC τ A ρ B t (u + 1)) s0 k := by
    have nb : ∀ t, ∃ b, (∃ b, s0 < b ∧ ACC τ A ρ B t b) → s0 < b ∧ ACC τ A ρ B t b := fun t => by
      by_cases c : ∃ b, s0 < b ∧ ACC τ A ρ B t b
      · obtain ⟨b, hb⟩ := c
        exact ⟨b, fun _ => hb⟩
      · exact ⟨0, fun e => absurd e c⟩
    obtain ⟨β, hβ⟩ := Classical.skolem.mp nb
    refine ctq_inj (f := fun t => β t - 1) k _ (fun t q1 q2 q3 => ?_) (fun t t' q1 q2 q3 q4 p1 p2 e => ?_)
    · obtain ⟨z1, z2⟩ := hβ t q3
      have o := ANC_once h z1 q1 (by omega) z2
      refine ⟨by show s0 ≤ β t - 1; omega, by show β t - 1 < s0 + k; have := o.2.1; omega, t, q1, q2, ?_⟩
      rw [show β t - 1 + 1 = β t by omega]
      exact z2
    · obtain ⟨z1, z2⟩ := hβ t p1
      obtain ⟨z1', z2'⟩ := hβ t' p2
      have e' : β t = β t' := by
        have : β t - 1 = β t' - 1 := e
        omega
      rw [← e'] at z2'
      have o := ANC_once h z1 q1 (by omega) z2
      have o' := ANC_once h z1 q3 (by omega) z2'
      apply Classical.byContradiction
      intro n
      rcases Nat.lt_or_gt_of_ne n with d | d
      · have := o.2.2 t' d (by omega); omega
      · have := o'.2.2 t d (by omega); omega
  omega

