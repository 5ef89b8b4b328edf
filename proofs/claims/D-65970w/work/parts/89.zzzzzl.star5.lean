theorem rd_g {L s0 : Nat} {τ : Nat → qS} {A : Nat → List (Ms × Nat × Nat)} {ρ : Nat → qS × qS × qS} {B : Nat → List (Ms × Nat × Nat) × List (Ms × Nat × Nat) × List (Ms × Nat × Nat)} (h : ANC L s0 τ A ρ B) {k : Int} (hk : k = 5 ∨ k = 6) {t i b : Nat} (h1 : s0 ≤ t) (h2 : t < 7 * L) (hi : i < 3) (hb : s0 < b) (hr : rdk τ A ρ B k t i b) : gq τ (b - 1) = 1 := by
  obtain ⟨h6, x, xb, xh, -, xk⟩ := hr
  have k0 := ANR_tk h.1 (t - s0) (by omega)
  rw [show s0 + (t - s0) = t by omega] at k0
  have tk : ∀ i, i ≤ 3 → TKa s0 τ t (stA A B t i) := fun i => by
    induction i with
    | zero => intro _; exact k0
    | succ i ih => intro q; exact RDn_tk (st_rd h h1 h2 h6 (i := i) (by omega)) (ih (by omega))
  obtain ⟨-, -, -, v, v6, v2, -, -, v5⟩ := tk i (by omega) x (hd_mem xh).1 ((tokb_i x).mpr (by rw [xk]; exact hk)) (by omega)
  rw [xb] at v2 v5
  unfold gq
  rw [if_pos (by omega), v2, show b - 1 + 1 = b by omega]
  exact v5
-- STAR5: U = births that are never accepted and read in no chosen tick
theorem STAR5 {L s0 : Nat} {τ : Nat → qS} (hR : RNN L τ) (hs : ∀ t, t ≤ 7 * L → psame (τ 0) (τ t)) (hJ : ∀ t, t ≤ 7 * L → JOm (τ t) ≠ none) {A : Nat → List (Ms × Nat × Nat)} {ρ : Nat → qS × qS × qS} {B : Nat → List (Ms × Nat × Nat) × List (Ms × Nat × Nat) × List (Ms × Nat × Nat)} (h : ANC L s0 τ A ρ B) (h7 : 224 ≤ s0) {ch : Nat → Nat} {r0 n : Nat} (h1 : s0 + 900 ≤ 7 * r0) (h2 : r0 + n ≤ L) (hc : ∀ r, ch r < 6) (ht : ∀ r, r0 ≤ r → r < r0 + n → T1t A (7 * r + ch r)) :
    ctq (fun t => CHc ch t ∧ ¬ ∃ b, ACC τ A ρ B t b) (7 * r0) (7 * n) + 2 * ctq (fun t => CHd L s0 τ A B ch t ∧ ¬ ∃ b, ACC τ A ρ B t b) (7 * r0) (7 * n) + 7 * smq (gtq τ) (7 * r0) (7 * n) + 3 * ctq (AXt τ A ρ B) (7 * r0) (7 * n) + 6 * ctq (fun b => (gq τ (b - 1) = 1 ∧ NAb L s0 τ A ρ B b) ∧ ¬ ∃ t i, 7 * r0 ≤ t ∧ t < 7 * r0 + 7 * n ∧ i < 3 ∧ CHc ch t ∧ (rdk τ A ρ B 5 t i b ∨ rdk τ A ρ B 6 t i b)) (7 * r0 - 448) (7 * n + 448) + 124 * lkc τ (7 * r0 - 217)
    ≤ 124 * lkc τ (7 * r0 + 7 * n) + 4 * smq (gsq τ) (7 * r0) (7 * n) + 2 * ctq (fun u => gtq τ u = 1 ∧ OWb L s0 τ A ρ B (u - 90)) (7 * r0) (7 * n) + 2 * (ctq (RK τ A ρ B (CHd L s0 τ A B ch) (fun _ _ => True) 2 0) (7 * r0) (7 * n) + ctq (RK τ A ρ B (CHd L s0 τ A B ch) (fun _ _ => True) 2 1) (7 * r0) (7 * n) + ctq (RK τ A ρ B (CHd L s0 τ A B ch) (fun _ _ => True) 2 2) (7 * r0) (7 * n)) + 2 * ctq (fun b => PNb L s0 τ A ρ B b ∧ ∃ t i, 7 * r0 ≤ t ∧ t < 7 * r0 + 7 * n ∧ i < 3 ∧ CHd L s0 τ A B ch t ∧ rdk τ A ρ B 5 t i b) (7 * r0 - 448) (7 * n + 448) + 18495 := by
  have x := STAR4 hR hs hJ h h7 h1 h2 hc ht
  have e := T3 h (n := 7 * n) h1
  have f := gq_sum τ (7 * r0) (7 * n)
  have d := T4x hR h h7 h1 (by omega : 7 * r0 + 7 * n ≤ 7 * L) (fun _ => False)
  have z0 : ctq (fun t => False ∧ ∃ b, ACC τ A ρ B t b) (7 * r0) (7 * n) = 0 := ctq_off _ (fun t _ _ q => q.1)
  have sp := ctq_add (P := fun b => gq τ (b - 1) = 1 ∧ NAb L s0 τ A ρ B b) (Q := fun b => ∃ t i, 7 * r0 ≤ t ∧ t < 7 * r0 + 7 * n ∧ i < 3 ∧ CHc ch t ∧ (rdk τ A ρ B 5 t i b ∨ rdk τ A ρ B 6 t i b)) (s := 7 * r0 - 448) (7 * n + 448)
  have dj := ctq_2 (P := fun b => (gq τ (b - 1) = 1 ∧ NAb L s0 τ A ρ B b) ∧ ∃ t i, 7 * r0 ≤ t ∧ t < 7 * r0 + 7 * n ∧ i < 3 ∧ CHc ch t ∧ (rdk τ A ρ B 5 t i b ∨ rdk τ A ρ B 6 t i b)) (Q := fun b => (gq τ (b - 1) = 1 ∧ NAb L s0 τ A ρ B b) ∧ ¬ ∃ t i, 7 * r0 ≤ t ∧ t < 7 * r0 + 7 * n ∧ i < 3 ∧ CHc ch t ∧ (rdk τ A ρ B 5 t i b ∨ rdk τ A ρ B 6 t i b)) (R := fun b => gq τ (b - 1) = 1 ∧ NAb L s0 τ A ρ B b) (s := 7 * r0 - 448) (7 * n + 448) (fun b _ _ => ⟨fun q => q.1, fun q => q.1, fun q => q.2.2 q.1.2⟩)
  have mm : ∀ (P : Nat → Prop) (k : Int), (k = 5 ∨ k = 6) → (∀ t, P t → CHc ch t) → ctq (fun b => NAb L s0 τ A ρ B b ∧ ∃ t i, 7 * r0 ≤ t ∧ t < 7 * r0 + 7 * n ∧ i < 3 ∧ P t ∧ rdk τ A ρ B k t i b) (7 * r0 - 448) (7 * n + 448) ≤ ctq (fun b => (gq τ (b - 1) = 1 ∧ NAb L s0 τ A ρ B b) ∧ ∃ t i, 7 * r0 ≤ t ∧ t < 7 * r0 + 7 * n ∧ i < 3 ∧ CHc ch t ∧ (rdk τ A ρ B 5 t i b ∨ rdk τ A ρ B 6 t i b)) (7 * r0 - 448) (7 * n + 448) := fun P k hk hP => ctq_mo _ (fun b b1 b2 ⟨na, t, i, t1, t2, hi, hp, hr⟩ => ⟨⟨rd_g h hk (by omega) (by omega) hi (by omega) hr, na⟩, t, i, t1, t2, hi, hP t hp, by
    rcases hk with e | e
    · subst e; exact Or.inl hr
    · subst e; exact Or.inr hr⟩)
  have m1 := mm (CHc ch) 5 (Or.inl rfl) (fun _ q => q)
  have m2 := mm (CHc ch) 6 (Or.inr rfl) (fun _ q => q)
  have m3 := mm (CHd L s0 τ A B ch) 5 (Or.inl rfl) (fun _ q => q.1)
  have m4 := mm (CHd L s0 τ A B ch) 6 (Or.inr rfl) (fun _ q => q.1)
  omega

