-- a start within 64 rounds after an own LACKS that is not the first one after it
def SL2 (τ : Nat → qS) (A : Nat → List (Ms × Nat × Nat)) (ρ : Nat → qS × qS × qS) (B : Nat → List (Ms × Nat × Nat) × List (Ms × Nat × Nat) × List (Ms × Nat × Nat)) (x : Nat) : Prop := SLx τ A ρ B x ∧ ∃ l x', LKt τ l ∧ l % 7 = x % 7 ∧ l < x' ∧ x' < x ∧ x ≤ l + 449 ∧ x' % 7 = x % 7 ∧ SLx τ A ρ B x'
theorem SL_1 {L : Nat} {τ : Nat → qS} (hR : RNN L τ) {A : Nat → List (Ms × Nat × Nat)} {ρ : Nat → qS × qS × qS} {B : Nat → List (Ms × Nat × Nat) × List (Ms × Nat × Nat) × List (Ms × Nat × Nat)} {s k : Nat} (h1 : 7 * 145 + 449 ≤ s) (h2 : s + k ≤ 7 * L) : ctq (SLx τ A ρ B) s k ≤ ctq (LKt τ) (s - 449) (k + 449) + ctq (SL2 τ A ρ B) s k := by
  have sp := ctq_or (P := SLx τ A ρ B) (Q := fun x => SLx τ A ρ B x ∧ ¬ SL2 τ A ρ B x) (R := SL2 τ A ρ B) (s := s) k (fun x _ _ q => by
    by_cases c : SL2 τ A ρ B x
    · exact Or.inr c
    · exact Or.inl ⟨q, c⟩)
  have pick : ∀ x, ∃ l, SLx τ A ρ B x → LKt τ l ∧ l % 7 = x % 7 ∧ l < x ∧ x ≤ l + 449 := fun x => by
    by_cases c : SLx τ A ρ B x
    · obtain ⟨-, -, -, l, q⟩ := c
      exact ⟨l, fun _ => q⟩
    · exact ⟨0, fun q => absurd q c⟩
  obtain ⟨f, hf⟩ : ∃ f : Nat → Nat, ∀ x, SLx τ A ρ B x → LKt τ (f x) ∧ f x % 7 = x % 7 ∧ f x < x ∧ x ≤ f x + 449 := ⟨fun x => Classical.choose (pick x), fun x => Classical.choose_spec (pick x)⟩
  have i := ctq_inj (P := fun x => SLx τ A ρ B x ∧ ¬ SL2 τ A ρ B x) (f := f) (s := s) (a := s - 449) (m := k + 449) k (LKt τ) (fun x x1 x2 q => by
    obtain ⟨a, b, c, d⟩ := hf x q.1
    exact ⟨by omega, by omega, a⟩) (fun x x' x1 x2 x1' x2' q q' e => by
    obtain ⟨a, b, c, d⟩ := hf x q.1
    obtain ⟨a', b', c', d'⟩ := hf x' q'.1
    rw [← e] at a' b' c' d'
    rcases Nat.lt_trichotomy x x' with z | z | z
    · exact absurd ⟨q'.1, f x, x, a, b', c, z, d', by omega, q.1⟩ q'.2
    · exact z
    · exact absurd ⟨q.1, f x, x', a, b, c', z, d, by omega, q'.1⟩ q.2)
  omega
-- SUMU: the first start after an own LACKS is paid
theorem SUMU {L s0 : Nat} {τ : Nat → qS} (hR : RNN L τ) (hs : ∀ t, t ≤ 7 * L → psame (τ 0) (τ t)) {A : Nat → List (Ms × Nat × Nat)} {ρ : Nat → qS × qS × qS} {B : Nat → List (Ms × Nat × Nat) × List (Ms × Nat × Nat) × List (Ms × Nat × Nat)} (h : ANC L s0 τ A ρ B) (h7 : 224 ≤ s0) {ch : Nat → Nat} {r0 n : Nat} (h1 : s0 + 3000 ≤ 7 * r0) (h2 : r0 + n + 300 ≤ L) (hn : 300 ≤ n) (hc : ∀ r, ch r < 6) (ht : ∀ r, (∃ v, v < 6 ∧ T1t A (7 * r + v)) → T1t A (7 * r + ch r)) :
    ctq (fun t => ((CHc ch t ∧ T1t A t) ∧ ¬ ∃ b, ACC τ A ρ B t b) ∧ ¬ gdq τ ρ t = 1) (7 * r0) (7 * n) + 2 * ctq (fun t => ((CHk L s0 τ A B ch t ∧ T1t A t) ∧ ¬ ∃ b, ACC τ A ρ B t b) ∧ ¬ gdq τ ρ t = 1) (7 * r0) (7 * n) + ctq (LKt τ) (7 * r0) (7 * n) + 3 * ctq (WHt τ) (7 * r0) (7 * n) + 3 * smq (jkq τ ρ) (7 * r0) (7 * n) + 6 * smq (rvq τ ρ) (7 * r0) (7 * n)
    ≤ 6 * ctq (fun r => ¬ ∃ v, v < 6 ∧ T1t A (7 * r + v)) r0 n + 6 * ctq (fun b => XNz τ (7 * r0 + 7 * n - 1) 12 b ∧ OWb L s0 τ A ρ B b) (7 * r0) (7 * n) + 6 * ctq (SL2 τ A ρ B) (7 * r0) (7 * n + 448) + 2 * ctq (fun b => PNk L s0 τ A ρ B b ∧ ∃ t i, 7 * r0 ≤ t ∧ t < 7 * r0 + 7 * n ∧ i < 3 ∧ (CHk L s0 τ A B ch t ∧ T1t A t) ∧ rdk τ A ρ B 5 t i b) (7 * r0 - 448) (7 * n + 448)
      + (ctq (fun b => (NAb L s0 τ A ρ B b ∧ XNz τ (7 * r0 + 7 * n - 1) 12 b) ∧ ∃ t i, 7 * r0 ≤ t ∧ t < 7 * r0 + 7 * n ∧ i < 3 ∧ (CHc ch t ∧ T1t A t) ∧ rdk τ A ρ B 6 t i b) (7 * r0 - 448) (7 * n + 448) + ctq (fun b => (NAb L s0 τ A ρ B b ∧ XNz τ (7 * r0 + 7 * n - 1) 12 b) ∧ ∃ t i, 7 * r0 ≤ t ∧ t < 7 * r0 + 7 * n ∧ i < 3 ∧ (CHc ch t ∧ T1t A t) ∧ rdk τ A ρ B 5 t i b) (7 * r0 - 448) (7 * n + 448)) + 2 * (ctq (fun b => (NAb L s0 τ A ρ B b ∧ XNz τ (7 * r0 + 7 * n - 1) 12 b) ∧ ∃ t i, 7 * r0 ≤ t ∧ t < 7 * r0 + 7 * n ∧ i < 3 ∧ (CHk L s0 τ A B ch t ∧ T1t A t) ∧ rdk τ A ρ B 6 t i b) (7 * r0 - 448) (7 * n + 448) + ctq (fun b => (NAb L s0 τ A ρ B b ∧ XNz τ (7 * r0 + 7 * n - 1) 12 b) ∧ ∃ t i, 7 * r0 ≤ t ∧ t < 7 * r0 + 7 * n ∧ i < 3 ∧ (CHk L s0 τ A B ch t ∧ T1t A t) ∧ rdk τ A ρ B 5 t i b) (7 * r0 - 448) (7 * n + 448)) + 710000 := by
  have x := SUMT hR hs h h7 (ch := ch) (r0 := r0) (n := n) h1 h2 hn hc ht
  obtain ⟨p, hp⟩ : ∃ p, p = 7 * n + 448 := ⟨_, rfl⟩
  obtain ⟨q, hq⟩ : ∃ q, q = p + 449 := ⟨_, rfl⟩
  have y := SL_1 hR (A := A) (ρ := ρ) (B := B) (s := 7 * r0) (k := p) (by omega) (by omega)
  rw [← hq] at y
  rw [← hp] at x ⊢
  have j1 := ctq_jn (P := LKt τ) (s := 7 * r0 - 449) 449 (7 * n)
  rw [show 7 * r0 - 449 + 449 = 7 * r0 by omega] at j1
  have j2 := ctq_le (P := LKt τ) (s := 7 * r0 - 449) 449
  have j3 := ctq_jn (P := LKt τ) (s := 7 * r0 - 449) (449 + 7 * n) 448
  have j4 := ctq_le (P := LKt τ) (s := 7 * r0 - 449 + (449 + 7 * n)) 448
  rw [show 449 + 7 * n + 448 = q by omega] at j3
  omega

