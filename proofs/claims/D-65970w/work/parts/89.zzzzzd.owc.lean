theorem rd5_t {L s0 : Nat} {τ : Nat → qS} {A : Nat → List (Ms × Nat × Nat)} {ρ : Nat → qS × qS × qS} {B : Nat → List (Ms × Nat × Nat) × List (Ms × Nat × Nat) × List (Ms × Nat × Nat)} (h : ANC L s0 τ A ρ B) {φ i b t : Nat} (hb : s0 < b) (f1 : s0 ≤ φ) (f2 : φ < 7 * L) (hi : i < 3) (hr : rdk τ A ρ B 5 φ i b) (h1 : s0 ≤ t) (h2 : t < 7 * L) (ha : ACC τ A ρ B t b) : φ ≤ t := by
  apply Classical.byContradiction
  intro n
  have z := (ANC_once h hb h1 h2 ha).2.2 φ (by omega) (by omega)
  obtain ⟨f6, x, xb, xh, -, x5⟩ := hr
  have xA := st_f5 h f1 f2 f6 i (by omega) x (hd_mem xh).1 x5
  unfold tbc at z
  have := List.countP_eq_zero.mp z x xA
  rw [(tokb_i x).mpr (Or.inl x5), decide_eq_true xb] at this
  exact this rfl
def AXt (τ : Nat → qS) (A : Nat → List (Ms × Nat × Nat)) (ρ : Nat → qS × qS × qS) (B : Nat → List (Ms × Nat × Nat) × List (Ms × Nat × Nat) × List (Ms × Nat × Nat)) (t : Nat) : Prop := (∃ b, ACC τ A ρ B t b) ∧ ffq τ t ≠ 1
theorem ctq_tail {P : Nat → Prop} {s n : Nat} (d : Nat) : ctq P s (n + d) ≤ ctq P s n + d := by
  rw [ctq_jn]
  have := ctq_le (P := P) (s := s + n) d
  omega
-- T6: own tokens that are read in chosen ticks
theorem OWCt {L s0 : Nat} {τ : Nat → qS} (hR : RNN L τ) {A : Nat → List (Ms × Nat × Nat)} {ρ : Nat → qS × qS × qS} {B : Nat → List (Ms × Nat × Nat) × List (Ms × Nat × Nat) × List (Ms × Nat × Nat)} (h : ANC L s0 τ A ρ B) (h7 : 224 ≤ s0) {D : Nat → Prop} {s n : Nat} (h1 : s0 + 900 ≤ s) (h2 : s + n ≤ 7 * L) (hD : ∀ t, s ≤ t → t < s + n → D t → T1t A t) : 2 * ctq (fun b => OWb L s0 τ A ρ B b ∧ ∃ t i, s ≤ t ∧ t < s + n ∧ i < 3 ∧ D t ∧ rdk τ A ρ B 5 t i b) (s - 448) (n + 448) ≤ 2 * ctq (fun u => gtq τ u = 1 ∧ OWb L s0 τ A ρ B (u - 90)) s n + smq (wFq τ) s n + 2 * ctq (AXt τ A ρ B) s n + 3600 := by
  have pick : ∀ b, ∃ t', OWb L s0 τ A ρ B b → s0 ≤ t' ∧ t' < 7 * L ∧ ACC τ A ρ B t' b ∧ SEG τ (t' % 7) b (t' - b) := fun b => by
    by_cases c : OWb L s0 τ A ρ B b
    · obtain ⟨t', a1, a2, a3, a4⟩ := c; exact ⟨t', fun _ => ⟨a1, a2, a3, a4⟩⟩
    · exact ⟨0, fun q => absurd q c⟩
  obtain ⟨f, hf⟩ : ∃ f : Nat → Nat, ∀ b, OWb L s0 τ A ρ B b → s0 ≤ f b ∧ f b < 7 * L ∧ ACC τ A ρ B (f b) b ∧ SEG τ (f b % 7) b (f b - b) := ⟨fun b => Classical.choose (pick b), fun b => Classical.choose_spec (pick b)⟩
  have bas : ∀ b, s - 448 ≤ b → (OWb L s0 τ A ρ B b ∧ ∃ t i, s ≤ t ∧ t < s + n ∧ i < 3 ∧ D t ∧ rdk τ A ρ B 5 t i b) → b < s + n ∧ s ≤ f b ∧ f b < s + n + 448 ∧ (gtq τ (b + 90) = 1 ∨ (τ (f b) 65 ((f b % 7 : Nat) : Int) * 7 + b = f b + 1 ∧ 2 ≤ pag (τ (f b)) ((f b % 7 : Nat) : Int))) := fun b b1 ⟨ow, t, i, t1, t2, hi, hd, hr⟩ => by
    obtain ⟨f1, f2, f3, f4⟩ := hf b ow
    have hb : s0 < b := by omega
    have r5 := rd5_b hR h h7 (by omega) (by omega) hi hr
    have le := rd5_t h hb (by omega) (by omega) hi hr f1 f2 f3
    have b14 := T1b hR h (by omega) (by omega) (by omega) (hD t t1 t2 hd) hi hr
    have l64 := (ACC_64 hR h h7 (by omega) f2 f3).1
    exact ⟨by omega, by omega, by omega, OW_1 hR h (by omega) hb f1 f2 f3 f4 (by omega)⟩
  have a := ctq_add (P := fun b => OWb L s0 τ A ρ B b ∧ ∃ t i, s ≤ t ∧ t < s + n ∧ i < 3 ∧ D t ∧ rdk τ A ρ B 5 t i b) (Q := fun b => gtq τ (b + 90) = 1) (s := s - 448) (n + 448)
  have a2 := ctq_add (P := fun b => (OWb L s0 τ A ρ B b ∧ ∃ t i, s ≤ t ∧ t < s + n ∧ i < 3 ∧ D t ∧ rdk τ A ρ B 5 t i b) ∧ ¬ gtq τ (b + 90) = 1) (Q := fun b => ffq τ (f b) = 1) (s := s - 448) (n + 448)
  -- time-outs
  have c1 : ctq (fun b => (OWb L s0 τ A ρ B b ∧ ∃ t i, s ≤ t ∧ t < s + n ∧ i < 3 ∧ D t ∧ rdk τ A ρ B 5 t i b) ∧ gtq τ (b + 90) = 1) (s - 448) (n + 448) ≤ ctq (fun u => gtq τ u = 1 ∧ OWb L s0 τ A ρ B (u - 90)) s n + 900 := by
    have i1 := ctq_inj (P := fun b => (OWb L s0 τ A ρ B b ∧ ∃ t i, s ≤ t ∧ t < s + n ∧ i < 3 ∧ D t ∧ rdk τ A ρ B 5 t i b) ∧ gtq τ (b + 90) = 1) (f := fun b => b + 90) (s := s - 448) (a := s - 448) (m := n + 448 + 90) (n + 448) (fun u => gtq τ u = 1 ∧ OWb L s0 τ A ρ B (u - 90)) (fun b q1 q2 q => ⟨by omega, by omega, q.2, by rw [show b + 90 - 90 = b by omega]; exact q.1.1⟩) (fun b b' _ _ _ _ _ _ e => by
      have e' : b + 90 = b' + 90 := e
      omega)
    have i2 := ctq_tail (P := fun u => gtq τ u = 1 ∧ OWb L s0 τ A ρ B (u - 90)) (s := s - 448) (n := n + 448) 90
    have j := ctq_jn (P := fun u => gtq τ u = 1 ∧ OWb L s0 τ A ρ B (u - 90)) (s := s - 448) 448 n
    rw [show s - 448 + 448 = s by omega, show 448 + n = n + 448 by omega] at j
    have i3 := ctq_le (P := fun u => gtq τ u = 1 ∧ OWb L s0 τ A ρ B (u - 90)) (s := s - 448) 448
    omega
  -- stays that end by a FETCH
  have ij : ∀ (P : Nat → Prop), (∀ b, P b → (OWb L s0 τ A ρ B b ∧ ∃ t i, s ≤ t ∧ t < s + n ∧ i < 3 ∧ D t ∧ rdk τ A ρ B 5 t i b) ∧ ¬ gtq τ (b + 90) = 1) → ∀ (Q : Nat → Prop), (∀ b, s - 448 ≤ b → P b → 2 ≤ pag (τ (f b)) ((f b % 7 : Nat) : Int) → Q (f b)) → ctq P (s - 448) (n + 448) ≤ ctq Q s (n + 448) := fun P hP Q hQ => ctq_inj (P := P) (f := f) (s := s - 448) (a := s) (m := n + 448) (n + 448) Q (fun b q1 q2 q => by
    obtain ⟨p1, p2⟩ := hP b q
    obtain ⟨z1, z2, z3, z4⟩ := bas b q1 p1
    rcases z4 with z4 | z4
    · exact absurd z4 p2
    · have z3' : f b < s + (n + 448) := Nat.lt_of_lt_of_eq z3 (Nat.add_assoc s n 448)
      exact ⟨z2, z3', hQ b q1 q z4.2⟩) (fun b b' q1 q2 q1' q2' q q' e => by
    obtain ⟨p1, p2⟩ := hP b q
    obtain ⟨p1', p2'⟩ := hP b' q'
    obtain ⟨-, -, -, z4⟩ := bas b q1 p1
    obtain ⟨-, -, -, z4'⟩ := bas b' q1' p1'
    rcases z4 with z4 | z4
    · exact absurd z4 p2
    · rcases z4' with z4' | z4'
      · exact absurd z4' p2'
      · rw [← e] at z4'
        omega)
  have c2 := ij (fun b => ((OWb L s0 τ A ρ B b ∧ ∃ t i, s ≤ t ∧ t < s + n ∧ i < 3 ∧ D t ∧ rdk τ A ρ B 5 t i b) ∧ ¬ gtq τ (b + 90) = 1) ∧ ffq τ (f b) = 1) (fun b q => q.1) (fun t => 2 ≤ wFq τ t) (fun b _ q p => by
    show 2 ≤ wFq τ (f b)
    unfold wFq
    rw [if_pos q.2]
    exact p)
  have c3 := ij (fun b => ((OWb L s0 τ A ρ B b ∧ ∃ t i, s ≤ t ∧ t < s + n ∧ i < 3 ∧ D t ∧ rdk τ A ρ B 5 t i b) ∧ ¬ gtq τ (b + 90) = 1) ∧ ¬ ffq τ (f b) = 1) (fun b q => q.1) (AXt τ A ρ B) (fun b _ q _ => ⟨⟨b, (hf b q.1.1.1).2.2.1⟩, q.2⟩)
  have d2 := ctq_tail (P := fun t => 2 ≤ wFq τ t) (s := s) (n := n) 448
  have d3 := ctq_tail (P := AXt τ A ρ B) (s := s) (n := n) 448
  have w2 : ∀ k, 2 * ctq (fun t => 2 ≤ wFq τ t) s k ≤ smq (wFq τ) s k := fun k => by
    induction k with
    | zero => simp [ctq]
    | succ k ih =>
      simp only [ctq, smq]
      by_cases c : 2 ≤ wFq τ (s + k)
      · rw [if_pos c]; omega
      · rw [if_neg c]; omega
  have w := w2 n
  omega

