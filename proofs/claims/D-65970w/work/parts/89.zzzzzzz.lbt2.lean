-- a gain of left-behind tokens: a stay ends while its arrival token is on the line, by a kill without acceptance or by the acceptance of a time-out token
def GNt (τ : Nat → qS) (A : Nat → List (Ms × Nat × Nat)) (ρ : Nat → qS × qS × qS) (B : Nat → List (Ms × Nat × Nat) × List (Ms × Nat × Nat) × List (Ms × Nat × Nat)) (v s1 t : Nat) : Prop := t % 7 = v ∧ (∃ a, ATk τ v a ∧ a ≤ t ∧ STY τ v a t ∧ ¬ STY τ v a (t + 1) ∧ 1 ≤ tbc a (A (t + 1))) ∧ ((∀ b, ¬ ACC τ A ρ B t b) ∨ ∃ b, ACC τ A ρ B t b ∧ (b ≤ s1 ∨ TOb τ v b))
theorem LBT2 {L s0 : Nat} {τ : Nat → qS} (hR : RNN L τ) {A : Nat → List (Ms × Nat × Nat)} {ρ : Nat → qS × qS × qS} {B : Nat → List (Ms × Nat × Nat) × List (Ms × Nat × Nat) × List (Ms × Nat × Nat)} (h : ANC L s0 τ A ρ B) {v : Nat} (hv : v < 6) {s t : Nat} (hs : s0 < s) (hst : s ≤ t) (h2 : t < 7 * L) : ctq (AAl τ A v (t + 1)) s (t + 2 - s) + ctq (LSa τ A ρ B v t) s (t + 1 - s) ≤ ctq (AAl τ A v t) s (t + 1 - s) + @ite Nat (GNt τ A ρ B v (s - 1) t) (Classical.propDecidable _) 1 0 := by
  have top : ctq (AAl τ A v (t + 1)) s (t + 2 - s) = ctq (AAl τ A v (t + 1)) s (t + 1 - s) := by
    rw [show t + 2 - s = (t + 1 - s) + 1 by omega]
    simp only [ctq]
    rw [if_neg]
    · omega
    · rw [show s + (t + 1 - s) = t + 1 by omega]
      intro q0
      obtain ⟨a1, -, a3⟩ := q0
      exact a3 fun u u1 u2 => by
        have : u = t + 1 := by omega
        subst this
        exact ⟨(fe_r a1.2.2.1).1, rfl, rfl⟩
  rw [top]
  have mono : ∀ a, a ≤ t → tbc a (A (t + 1)) ≤ tbc a (A t) := fun a ha => (ANR_fb h.1 ha (by omega : s0 ≤ t) 1 (by omega)).2
  have gon : ∀ {a}, s0 < a → ACC τ A ρ B t a → tbc a (A (t + 1)) = 0 := fun {a} ha hc => (ANC_once h ha (by omega) h2 hc).2.2 (t + 1) (by omega) (by omega)
  -- new elements
  have new : ∀ a, s ≤ a → a ≤ t → AAl τ A v (t + 1) a → ¬ AAl τ A v t a → STY τ v a t ∧ ¬ STY τ v a (t + 1) := fun a a1 a2 ⟨b1, b2, b3⟩ n => by
    refine ⟨?_, b3⟩
    apply Classical.byContradiction
    intro q
    exact n ⟨b1, by have := mono a a2; omega, q⟩
  have dj : ∀ a, ¬ (AAl τ A v (t + 1) a ∧ LSa τ A ρ B v t a) := fun a ⟨⟨_, q, _⟩, _, r, _⟩ => by omega
  by_cases ex : ∃ a, s ≤ a ∧ a ≤ t ∧ AAl τ A v (t + 1) a ∧ ¬ AAl τ A v t a
  · obtain ⟨a, a1, a2, a3, a4⟩ := ex
    obtain ⟨st, ns⟩ := new a a1 a2 a3 a4
    have uni : ∀ a', s ≤ a' → a' < s + (t + 1 - s) → AAl τ A v (t + 1) a' → a' ≠ a → AAl τ A v t a' := fun a' q1 q2 q3 q4 => by
      apply Classical.byContradiction
      intro n
      exact q4 (sty_2 q3.1 a3.1 (new a' q1 (by omega) q3 n).1 st (by omega) a2)
    have c1 : ctq (AAl τ A v (t + 1)) s (t + 1 - s) ≤ ctq (fun u => AAl τ A v (t + 1) u ∧ u ≠ a) s (t + 1 - s) + ctq (fun u => u = a) s (t + 1 - s) := ctq_or _ (fun u _ _ q => by
      by_cases e : u = a
      · exact Or.inr e
      · exact Or.inl ⟨q, e⟩)
    have c2 : ctq (fun u => u = a) s (t + 1 - s) ≤ 1 := ctq_one _ (fun u u' _ _ _ _ e e' => e.trans e'.symm)
    have base : ctq (fun u => AAl τ A v (t + 1) u ∧ u ≠ a) s (t + 1 - s) + ctq (LSa τ A ρ B v t) s (t + 1 - s) ≤ ctq (AAl τ A v t) s (t + 1 - s) := ctq_2 _ (fun u q1 q2 => ⟨fun q => uni u q1 q2 q.1 q.2, fun q => q.1, fun q => dj u ⟨q.1.1, q.2⟩⟩)
    have r38 := (fe_r a3.1.2.2.1).1
    have s38 := (st t a2 (Nat.le_refl _)).1
    have tv : t % 7 = v := by
      apply Classical.byContradiction
      intro n
      apply ns
      intro u u1 u2
      by_cases e : u = t + 1
      · subst e
        by_cases g : 38 ≤ τ (t + 1) 62 (v : Int)
        · by_cases cg : CHG τ v t
          · exact absurd (cg_w hR hv h2 g cg).1 n
          · obtain ⟨z1, z2, z3⟩ := st t a2 (Nat.le_refl _)
            have e1 : τ t 62 (v : Int) = τ (t + 1) 62 (v : Int) := by
              apply Classical.byContradiction
              intro q
              exact cg (Or.inr (Or.inl q))
            have e2 : cd (τ t) v = cd (τ (t + 1)) v := by
              apply Classical.byContradiction
              intro q
              exact cg (Or.inr (Or.inr q))
            exact ⟨g, by omega, by rw [← e2]; exact z3⟩
        · exfalso
          exact n (tk_off hR hv h2 (Or.inl ⟨s38, by omega⟩))
      · exact st u u1 (by omega)
    by_cases gt : GNt τ A ρ B v (s - 1) t
    · rw [if_pos gt]; omega
    · rw [if_neg gt]
      obtain ⟨b, b1⟩ : ∃ b, ACC τ A ρ B t b := by
        apply Classical.byContradiction
        intro q
        exact gt ⟨tv, ⟨a, a3.1, a2, st, ns, a3.2.1⟩, Or.inl fun b hb => q ⟨b, hb⟩⟩
      have nb : ¬ (b ≤ s - 1 ∨ TOb τ v b) := fun q => gt ⟨tv, ⟨a, a3.1, a2, st, ns, a3.2.1⟩, Or.inr ⟨b, b1, q⟩⟩
      have bs : s ≤ b := by
        apply Classical.byContradiction
        intro q
        exact nb (Or.inl (by omega))
      obtain ⟨w, w1, w2, w3, w4, w5, -⟩ := ACC_tk h (by omega : s0 < b) (by omega) h2 b1
      have wv : w = v := by omega
      subst wv
      have cg : CHG τ w (b - 1) := by
        apply Classical.byContradiction
        intro q
        exact nb (Or.inr ⟨w2, w4, q⟩)
      have atb : ATk τ w b := ⟨w2, by omega, w4, cg⟩
      have gb := gon (by omega : s0 < b) b1
      have ba : b ≠ a := fun e => by
        subst e
        have := a3.2.1
        omega
      have nst : ¬ STY τ w b t := fun q => ba (sty_2 atb a3.1 q st w5 a2)
      have lb : AAl τ A w t b := ⟨atb, by have := (ANC_once h (by omega : s0 < b) (by omega) h2 b1).1; omega, nst⟩
      have fin := ctq_3 (P := fun u => AAl τ A w (t + 1) u ∧ u ≠ a) (Q := LSa τ A ρ B w t) (R := AAl τ A w t) (s := s) (x := b) (t + 1 - s) (fun u q1 q2 => ⟨fun q => ⟨uni u q1 q2 q.1 q.2, fun e => by
        subst e
        have := q.1.2.1
        omega⟩, fun q => ⟨q.1, fun e => by
        subst e
        exact q.2.2 b1⟩, fun q => dj u ⟨q.1.1, q.2⟩⟩) bs (by omega) lb
      omega
  · have sub : ∀ u, s ≤ u → u < s + (t + 1 - s) → AAl τ A v (t + 1) u → AAl τ A v t u := fun u q1 q2 q3 => by
      apply Classical.byContradiction
      intro n
      exact ex ⟨u, q1, by omega, q3, n⟩
    have base : ctq (AAl τ A v (t + 1)) s (t + 1 - s) + ctq (LSa τ A ρ B v t) s (t + 1 - s) ≤ ctq (AAl τ A v t) s (t + 1 - s) := ctq_2 _ (fun u q1 q2 => ⟨sub u q1 q2, fun q => q.1, dj u⟩)
    omega

theorem LBS2 {L s0 : Nat} {τ : Nat → qS} (hR : RNN L τ) {A : Nat → List (Ms × Nat × Nat)} {ρ : Nat → qS × qS × qS} {B : Nat → List (Ms × Nat × Nat) × List (Ms × Nat × Nat) × List (Ms × Nat × Nat)} (h : ANC L s0 τ A ρ B) {v : Nat} (hv : v < 6) {s t : Nat} (hs : s0 < s) (hst : s ≤ t) : ∀ k, t + k ≤ 7 * L → ctq (AAl τ A v (t + k)) s (t + k + 1 - s) + lsm τ A ρ B v s t k ≤ ctq (AAl τ A v t) s (t + 1 - s) + ctq (GNt τ A ρ B v (s - 1)) t k
  | 0, _ => by simp [lsm, ctq]
  | k + 1, hl => by
    have ih := LBS2 hR h hv hs hst k (by omega)
    have st := LBT2 hR h hv hs (by omega : s ≤ t + k) (by omega : t + k < 7 * L)
    rw [show t + (k + 1) = t + k + 1 by omega, show t + k + 1 + 1 - s = t + k + 2 - s by omega]
    simp only [lsm, ctq]
    omega

