-- own names of LACKS waits: at most one for each LACKS
theorem OXc {L s0 : Nat} {τ : Nat → qS} (hR : RNN L τ) {A : Nat → List (Ms × Nat × Nat)} {ρ : Nat → qS × qS × qS} {B : Nat → List (Ms × Nat × Nat) × List (Ms × Nat × Nat) × List (Ms × Nat × Nat)} (h : ANC L s0 τ A ρ B) (h7 : 224 ≤ s0) {s k E : Nat} (h1 : s0 + 2600 ≤ s) (hE : E < 7 * L) (h2 : s + k ≤ E) : ctq (fun b => XNz τ E 12 b ∧ OWb L s0 τ A ρ B b) s k ≤ ctq (LKt τ) (s - 1) (k + 1002) := by
  have pick : ∀ b, ∃ l, XNz τ E 12 b → LKt τ l ∧ l < E ∧ ∃ j, j < 12 ∧ l = b + 91 * j - 1 := fun b => by
    by_cases c : XNz τ E 12 b
    · obtain ⟨j, j1, j2, j3⟩ := c
      exact ⟨b + 91 * j - 1, fun _ => ⟨j2, j3, j, j1, rfl⟩⟩
    · exact ⟨0, fun q => absurd q c⟩
  obtain ⟨f, hf⟩ : ∃ f : Nat → Nat, ∀ b, XNz τ E 12 b → LKt τ (f b) ∧ f b < E ∧ ∃ j, j < 12 ∧ f b = b + 91 * j - 1 := ⟨fun b => Classical.choose (pick b), fun b => Classical.choose_spec (pick b)⟩
  exact ctq_inj (P := fun b => XNz τ E 12 b ∧ OWb L s0 τ A ρ B b) (f := f) (s := s) (a := s - 1) (m := k + 1002) k (LKt τ) (fun b b1 b2 q => by
    obtain ⟨f1, f2, j, j1, j2⟩ := hf b q.1
    exact ⟨by omega, by omega, f1⟩) (fun b b' b1 b2 b1' b2' q q' e => by
    obtain ⟨f1, f2, j, j1, j2⟩ := hf b q.1
    obtain ⟨-, -, j', j1', j2'⟩ := hf b' q'.1
    have o : OWb L s0 τ A ρ B (f b + 1 - 91 * j) := by
      rw [show f b + 1 - 91 * j = b by omega]
      exact q.2
    have o' : OWb L s0 τ A ρ B (f b + 1 - 91 * j') := by
      rw [show f b + 1 - 91 * j' = b' by omega]
      exact q'.2
    have := OWX hR h h7 (l := f b) (i := j) (j := j') (by omega) (by omega) f1 (by omega) (by omega) o o'
    omega)
-- other accepted names of LACKS waits: at most one for each start after the LACKS
theorem AXN {L s0 : Nat} {τ : Nat → qS} (hR : RNN L τ) {A : Nat → List (Ms × Nat × Nat)} {ρ : Nat → qS × qS × qS} {B : Nat → List (Ms × Nat × Nat) × List (Ms × Nat × Nat) × List (Ms × Nat × Nat)} (h : ANC L s0 τ A ρ B) (h7 : 224 ≤ s0) {s k E : Nat} (h1 : s0 + 2600 ≤ s) (hE : E < 7 * L) (h2 : s + k ≤ E) : ctq (fun b => XNz τ E 12 b ∧ (¬ NAb L s0 τ A ρ B b ∧ ¬ OWb L s0 τ A ρ B b)) s k ≤ ctq (SLx τ A ρ B) s (k + 448) := by
  have pick : ∀ b, ∃ x, s ≤ b → (XNz τ E 12 b ∧ (¬ NAb L s0 τ A ρ B b ∧ ¬ OWb L s0 τ A ρ B b)) → ∃ l j t, LKt τ l ∧ l < E ∧ j < 12 ∧ l + 1 = b + 91 * j ∧ s0 ≤ t ∧ t < 7 * L ∧ ACC τ A ρ B t b ∧ t % 7 = l % 7 ∧ SLx τ A ρ B x ∧ x % 7 = l % 7 ∧ l < x ∧ x ≤ t ∧ x ≤ l + 449 ∧ (∀ u, x < u → u ≤ t → 38 ≤ τ u 62 ((l % 7 : Nat) : Int)) ∧ t < b + 448 := fun b => by
    by_cases c : s ≤ b ∧ (XNz τ E 12 b ∧ (¬ NAb L s0 τ A ρ B b ∧ ¬ OWb L s0 τ A ρ B b))
    · obtain ⟨b1, ⟨j, j1, j2, j3⟩, na, no⟩ := c
      obtain ⟨t, t1, t2, ha⟩ : ∃ t, s0 ≤ t ∧ t < 7 * L ∧ ACC τ A ρ B t b := by
        apply Classical.byContradiction
        intro n
        exact na (fun t t1 t2 ha => n ⟨t, t1, t2, ha⟩)
      have eb : b + 91 * j - 1 + 1 - 91 * j = b := by omega
      obtain ⟨e1, x, x1, x2, x3, x4, x5, x6⟩ := Xac hR h h7 (l := b + 91 * j - 1) (j := j) (t := t) (by omega) (by omega) j2 (by omega) t1 t2 (by rw [eb]; exact ha) (by rw [eb]; exact no)
      have l64 := (ACC_64 hR h h7 (by omega) t2 ha).1
      exact ⟨x, fun _ _ => ⟨b + 91 * j - 1, j, t, j2, j3, j1, by omega, t1, t2, ha, e1, x1, x2, x3, x4, x5, x6, by omega⟩⟩
    · exact ⟨0, fun q1 q2 => absurd ⟨q1, q2⟩ c⟩
  obtain ⟨f, hf⟩ : ∃ f : Nat → Nat, ∀ b, s ≤ b → (XNz τ E 12 b ∧ (¬ NAb L s0 τ A ρ B b ∧ ¬ OWb L s0 τ A ρ B b)) → ∃ l j t, LKt τ l ∧ l < E ∧ j < 12 ∧ l + 1 = b + 91 * j ∧ s0 ≤ t ∧ t < 7 * L ∧ ACC τ A ρ B t b ∧ t % 7 = l % 7 ∧ SLx τ A ρ B (f b) ∧ f b % 7 = l % 7 ∧ l < f b ∧ f b ≤ t ∧ f b ≤ l + 449 ∧ (∀ u, f b < u → u ≤ t → 38 ≤ τ u 62 ((l % 7 : Nat) : Int)) ∧ t < b + 448 := ⟨fun b => Classical.choose (pick b), fun b => Classical.choose_spec (pick b)⟩
  exact ctq_inj (P := fun b => XNz τ E 12 b ∧ (¬ NAb L s0 τ A ρ B b ∧ ¬ OWb L s0 τ A ρ B b)) (f := f) (s := s) (a := s) (m := k + 448) k (SLx τ A ρ B) (fun b b1 b2 q => by
    obtain ⟨l, j, t, -, -, -, l4, -, -, -, -, l9, -, l11, l12, -, -, l15⟩ := hf b b1 q
    exact ⟨by omega, by omega, l9⟩) (fun b b' b1 b2 b1' b2' q q' e => by
    obtain ⟨l, j, t, l1, l2, l3, l4, l5, l6, l7, l8, l9, l10, l11, l12, l13, l14, l15⟩ := hf b b1 q
    obtain ⟨l', j', t', m1, m2, m3, m4, m5, m6, m7, m8, m9, m10, m11, m12, m13, m14, m15⟩ := hf b' b1' q'
    rw [← e] at m10 m11 m12 m13 m14
    have el : l = l' := by
      rcases Nat.lt_trichotomy l l' with c | c | c
      · have := LK_sp hR (t := l) (t' := l') (by omega) (by omega) l1 m1 (by omega) c
        omega
      · exact c
      · have := LK_sp hR (t := l') (t' := l) (by omega) (by omega) m1 l1 (by omega) c
        omega
    subst el
    have hb : s0 < b := by omega
    have hb' : s0 < b' := by omega
    have pb := X_pl hR (l := l) (j := j) (by omega) (by omega) l1 (by omega)
    have pb' := X_pl hR (l := l) (j := j') (by omega) (by omega) l1 (by omega)
    rw [show l + 1 - 91 * j = b by omega] at pb
    rw [show l + 1 - 91 * j' = b' by omega] at pb'
    have pp : plc (τ b) ((l % 7 : Nat) : Int) = plc (τ b') ((l % 7 : Nat) : Int) := by rw [pb, pb']
    rcases Nat.lt_trichotomy t t' with c | c | c
    · refine absurd ?_ (ACC_2 hR h hb hb' l5 m6 (by omega) (by rw [m8]; exact pp) l7 m7 c)
      intro u u1 u2
      rw [m8]
      exact m14 u (by omega) (by omega)
    · subst c
      exact ACC_1 hR h hb hb' l5 l6 (by rw [l8]; exact pp) l7 m7
    · refine absurd ?_ (ACC_2 hR h hb' hb m5 l6 (by omega) (by rw [l8]; exact pp.symm) m7 l7 c)
      intro u u1 u2
      rw [l8]
      exact l14 u (by omega) (by omega))
-- NXA: the names of LACKS waits that are never accepted
theorem NXA {L s0 : Nat} {τ : Nat → qS} (hR : RNN L τ) {A : Nat → List (Ms × Nat × Nat)} {ρ : Nat → qS × qS × qS} {B : Nat → List (Ms × Nat × Nat) × List (Ms × Nat × Nat) × List (Ms × Nat × Nat)} (h : ANC L s0 τ A ρ B) (h7 : 224 ≤ s0) {s k : Nat} (h1 : s0 + 2600 ≤ s) (h2 : s + 2010 + k ≤ 7 * L) : 12 * ctq (LKt τ) (s + 1001) k ≤ ctq (fun b => (gq τ (b - 1) = 1 ∧ NAb L s0 τ A ρ B b) ∧ XNz τ (s + 1001 + k) 12 b) s (k + 1002) + ctq (fun b => XNz τ (s + 1001 + k) 12 b ∧ OWb L s0 τ A ρ B b) s (k + 1002) + ctq (SLx τ A ρ B) s (k + 1450) := by
  have a := XNd hR (s := s) (k := k) (by omega) (by omega) 12 (Nat.le_refl _)
  have sp := ctq_or (P := XNz τ (s + 1001 + k) 12) (Q := fun b => (gq τ (b - 1) = 1 ∧ NAb L s0 τ A ρ B b) ∧ XNz τ (s + 1001 + k) 12 b) (R := fun b => (XNz τ (s + 1001 + k) 12 b ∧ OWb L s0 τ A ρ B b) ∨ (XNz τ (s + 1001 + k) 12 b ∧ (¬ NAb L s0 τ A ρ B b ∧ ¬ OWb L s0 τ A ρ B b))) (s := s) (k + 1002) (fun b b1 b2 q => by
    by_cases na : NAb L s0 τ A ρ B b
    · exact Or.inl ⟨⟨XNg hR h h7 (by omega) (by omega) q, na⟩, q⟩
    · by_cases ow : OWb L s0 τ A ρ B b
      · exact Or.inr (Or.inl ⟨q, ow⟩)
      · exact Or.inr (Or.inr ⟨q, na, ow⟩))
  have sp2 := ctq_or (P := fun b => (XNz τ (s + 1001 + k) 12 b ∧ OWb L s0 τ A ρ B b) ∨ (XNz τ (s + 1001 + k) 12 b ∧ (¬ NAb L s0 τ A ρ B b ∧ ¬ OWb L s0 τ A ρ B b))) (Q := fun b => XNz τ (s + 1001 + k) 12 b ∧ OWb L s0 τ A ρ B b) (R := fun b => XNz τ (s + 1001 + k) 12 b ∧ (¬ NAb L s0 τ A ρ B b ∧ ¬ OWb L s0 τ A ρ B b)) (s := s) (k + 1002) (fun b b1 b2 q => q)
  have c' : ctq (fun b => XNz τ (s + 1001 + k) 12 b ∧ (¬ NAb L s0 τ A ρ B b ∧ ¬ OWb L s0 τ A ρ B b)) s (k + 1002) ≤ ctq (SLx τ A ρ B) s (k + 1450) := by
    obtain ⟨E, hE⟩ : ∃ E, E = s + 1002 + k := ⟨_, rfl⟩
    obtain ⟨q, hq⟩ : ∃ q, q = k + 1002 := ⟨_, rfl⟩
    have z := AXN hR h h7 (s := s) (k := q) (E := E) h1 (by omega) (by omega)
    rw [hq] at z
    have m := ctq_mo (P := fun b => XNz τ (s + 1001 + k) 12 b ∧ (¬ NAb L s0 τ A ρ B b ∧ ¬ OWb L s0 τ A ρ B b)) (Q := fun b => XNz τ E 12 b ∧ (¬ NAb L s0 τ A ρ B b ∧ ¬ OWb L s0 τ A ρ B b)) (s := s) (k + 1002) (fun b _ _ q => ⟨by
      obtain ⟨j, j1, j2, j3⟩ := q.1
      exact ⟨j, j1, j2, by omega⟩, q.2⟩)
    rw [show k + 1002 + 448 = k + 1450 by omega] at z
    omega
  omega

