-- accepted arrival tokens of a tick
def AcA (τ : Nat → qS) (A : Nat → List (Ms × Nat × Nat)) (ρ : Nat → qS × qS × qS) (B : Nat → List (Ms × Nat × Nat) × List (Ms × Nat × Nat) × List (Ms × Nat × Nat)) (v t b : Nat) : Prop := ATk τ v b ∧ ACC τ A ρ B t b
theorem LBT3 {L s0 : Nat} {τ : Nat → qS} (hR : RNN L τ) {A : Nat → List (Ms × Nat × Nat)} {ρ : Nat → qS × qS × qS} {B : Nat → List (Ms × Nat × Nat) × List (Ms × Nat × Nat) × List (Ms × Nat × Nat)} (h : ANC L s0 τ A ρ B) {v : Nat} (hv : v < 6) {s t : Nat} (hs : s0 < s) (hst : s ≤ t) (h2 : t < 7 * L) : ctq (AAl τ A v (t + 1)) s (t + 2 - s) + ctq (LSa τ A ρ B v t) s (t + 1 - s) + ctq (AcA τ A ρ B v t) s (t + 1 - s) ≤ ctq (AAl τ A v t) s (t + 1 - s) + @ite Nat (∃ b, s ≤ b ∧ AcA τ A ρ B v t b) (Classical.propDecidable _) 1 0 + @ite Nat (GNt τ A ρ B v (s - 1) t) (Classical.propDecidable _) 1 0 := by
  by_cases ex : ∃ b, s ≤ b ∧ AcA τ A ρ B v t b
  · rw [if_pos ex]
    obtain ⟨b0, b01, b02⟩ := ex
    have top : ctq (AAl τ A v (t + 1)) s (t + 2 - s) = ctq (AAl τ A v (t + 1)) s (t + 1 - s) := by
      rw [show t + 2 - s = (t + 1 - s) + 1 by omega]
      simp only [ctq]
      rw [if_neg]
      · omega
      · rw [show s + (t + 1 - s) = t + 1 by omega]
        intro q0
        obtain ⟨a1, -, a3⟩ := q0
        exact a3 fun u u1 u2 => by
          have : u = t + 1 := by omega
          subst this
          exact ⟨(fe_r a1.2.2.1).1, rfl, rfl⟩
    rw [top]
    have mono : ∀ a, a ≤ t → tbc a (A (t + 1)) ≤ tbc a (A t) := fun a ha => (ANR_fb h.1 ha (by omega : s0 ≤ t) 1 (by omega)).2
    have gon : ∀ {a}, s0 < a → ACC τ A ρ B t a → tbc a (A (t + 1)) = 0 ∧ tbc a (A t) = 1 := fun {a} ha hc => ⟨(ANC_once h ha (by omega) h2 hc).2.2 (t + 1) (by omega) (by omega), (ANC_once h ha (by omega) h2 hc).1⟩
    -- the one arrival token that may be new or own
    have key : ∃ x, ∀ a, s ≤ a → a ≤ t → (AAl τ A v (t + 1) a ∨ LSa τ A ρ B v t a ∨ AcA τ A ρ B v t a) → AAl τ A v t a ∨ a = x := by
      by_cases st : ∃ a, ATk τ v a ∧ a ≤ t ∧ STY τ v a t
      · obtain ⟨x, x1, x2, x3⟩ := st
        refine ⟨x, fun a a1 a2 q => ?_⟩
        by_cases c : STY τ v a t
        · rcases q with q | q | q
          · exact Or.inr (sty_2 q.1 x1 c x3 a2 x2)
          · exact Or.inr (sty_2 q.1.1 x1 c x3 a2 x2)
          · exact Or.inr (sty_2 q.1 x1 c x3 a2 x2)
        · rcases q with q | q | q
          · exact Or.inl ⟨q.1, by have := mono a a2; have := q.2.1; omega, c⟩
          · exact Or.inl q.1
          · exact Or.inl ⟨q.1, by have := (gon (by omega : s0 < a) q.2).2; omega, c⟩
      · refine ⟨0, fun a a1 a2 q => Or.inl ?_⟩
        have c : ATk τ v a → ¬ STY τ v a t := fun q1 q2 => st ⟨a, q1, a2, q2⟩
        rcases q with q | q | q
        · exact ⟨q.1, by have := mono a a2; have := q.2.1; omega, c q.1⟩
        · exact q.1
        · exact ⟨q.1, by have := (gon (by omega : s0 < a) q.2).2; omega, c q.1⟩
    obtain ⟨x, hx⟩ := key
    have d1 := ctq_2 (P := AAl τ A v (t + 1)) (Q := LSa τ A ρ B v t) (R := fun a => AAl τ A v (t + 1) a ∨ LSa τ A ρ B v t a) (s := s) (t + 1 - s) (fun a _ _ => ⟨Or.inl, Or.inr, fun ⟨⟨_, q, _⟩, _, r, _⟩ => by omega⟩)
    have d2 := ctq_2 (P := fun a => AAl τ A v (t + 1) a ∨ LSa τ A ρ B v t a) (Q := AcA τ A ρ B v t) (R := fun a => AAl τ A v (t + 1) a ∨ LSa τ A ρ B v t a ∨ AcA τ A ρ B v t a) (s := s) (t + 1 - s) (fun a a1 a2 => ⟨fun q => by
      rcases q with q | q
      · exact Or.inl q
      · exact Or.inr (Or.inl q), fun q => Or.inr (Or.inr q), fun ⟨q, r⟩ => by
      rcases q with q | q
      · have := (gon (by omega : s0 < a) r.2).1
        have := q.2.1
        omega
      · exact q.2.2 r.2⟩)
    have d3 := ctq_or (P := fun a => AAl τ A v (t + 1) a ∨ LSa τ A ρ B v t a ∨ AcA τ A ρ B v t a) (Q := AAl τ A v t) (R := fun a => a = x) (s := s) (t + 1 - s) (fun a a1 a2 q => hx a a1 (by omega) q)
    have d4 : ctq (fun a => a = x) s (t + 1 - s) ≤ 1 := ctq_one _ (fun u u' _ _ _ _ e e' => e.trans e'.symm)
    omega
  · rw [if_neg ex]
    have a := LBT2 hR h hv hs hst h2
    have b : ctq (AcA τ A ρ B v t) s (t + 1 - s) = 0 := ctq_off _ (fun b b1 _ q => ex ⟨b, b1, q⟩)
    omega
noncomputable def acm (τ : Nat → qS) (A : Nat → List (Ms × Nat × Nat)) (ρ : Nat → qS × qS × qS) (B : Nat → List (Ms × Nat × Nat) × List (Ms × Nat × Nat) × List (Ms × Nat × Nat)) (v s t : Nat) : Nat → Nat
  | 0 => 0
  | k + 1 => acm τ A ρ B v s t k + ctq (AcA τ A ρ B v (t + k)) s (t + k + 1 - s)
theorem LBS3 {L s0 : Nat} {τ : Nat → qS} (hR : RNN L τ) {A : Nat → List (Ms × Nat × Nat)} {ρ : Nat → qS × qS × qS} {B : Nat → List (Ms × Nat × Nat) × List (Ms × Nat × Nat) × List (Ms × Nat × Nat)} (h : ANC L s0 τ A ρ B) {v : Nat} (hv : v < 6) {s t : Nat} (hs : s0 < s) (hst : s ≤ t) : ∀ k, t + k ≤ 7 * L → ctq (AAl τ A v (t + k)) s (t + k + 1 - s) + lsm τ A ρ B v s t k + acm τ A ρ B v s t k ≤ ctq (AAl τ A v t) s (t + 1 - s) + ctq (fun u => ∃ b, s ≤ b ∧ AcA τ A ρ B v u b) t k + ctq (GNt τ A ρ B v (s - 1)) t k
  | 0, _ => by simp [lsm, acm, ctq]
  | k + 1, hl => by
    have ih := LBS3 hR h hv hs hst k (by omega)
    have st := LBT3 hR h hv hs (by omega : s ≤ t + k) (by omega : t + k < 7 * L)
    rw [show t + (k + 1) = t + k + 1 by omega, show t + k + 1 + 1 - s = t + k + 2 - s by omega]
    simp only [lsm, acm, ctq]
    omega

