-- the set D: dead XK ticks of chosen samples
theorem ctq_ex {Q : Nat → Prop} {P : Nat → Nat → Prop} {a x m N : Nat} (h : ∀ s, Q s → ctq (P s) x m ≤ N) : ∀ k, ctq (fun b => ∃ s, a ≤ s ∧ s < a + k ∧ Q s ∧ P s b) x m ≤ N * ctq Q a k
  | 0 => by
    rw [ctq_off m (fun b _ _ ⟨s, s1, s2, _⟩ => by omega)]
    exact Nat.zero_le _
  | k + 1 => by
    have ih := ctq_ex (Q := Q) (P := P) (a := a) (x := x) (m := m) (N := N) h k
    have o := ctq_or (P := fun b => ∃ s, a ≤ s ∧ s < a + (k + 1) ∧ Q s ∧ P s b) (Q := fun b => ∃ s, a ≤ s ∧ s < a + k ∧ Q s ∧ P s b) (R := fun b => Q (a + k) ∧ P (a + k) b) (s := x) m (fun b _ _ ⟨s, s1, s2, s3, s4⟩ => by
      by_cases e : s = a + k
      · right; rw [← e]; exact ⟨s3, s4⟩
      · exact Or.inl ⟨s, s1, by omega, s3, s4⟩)
    have j := ctq_jn (P := Q) (s := a) k 1
    rw [j, Nat.mul_add]
    by_cases c : Q (a + k)
    · have u := ctq_mo (P := fun b => Q (a + k) ∧ P (a + k) b) (Q := P (a + k)) (s := x) m (fun b _ _ q => q.2)
      have v := h (a + k) c
      have p := ctq_pt (P := Q) (s := a + k) (x := a + k) 1 (by omega) (by omega) c
      have w := Nat.mul_le_mul_left N p
      omega
    · have u := ctq_off (P := fun b => Q (a + k) ∧ P (a + k) b) (s := x) m (fun b _ _ q => c q.1)
      omega
def XD (L s0 : Nat) (τ : Nat → qS) (A : Nat → List (Ms × Nat × Nat)) (B : Nat → List (Ms × Nat × Nat) × List (Ms × Nat × Nat) × List (Ms × Nat × Nat)) (Q : Nat → Prop) (Tf : Nat → Nat) (a k t : Nat) : Prop := (∃ s, a ≤ s ∧ s < a + k ∧ Q s ∧ (XK A B s s t ∨ XK A B s (Tf s) t)) ∧ ¬ FRk L s0 τ A B t
theorem XD_cn {L s0 : Nat} {τ : Nat → qS} (hR : RNN L τ) {A : Nat → List (Ms × Nat × Nat)} {ρ : Nat → qS × qS × qS} {B : Nat → List (Ms × Nat × Nat) × List (Ms × Nat × Nat) × List (Ms × Nat × Nat)} (h : ANC L s0 τ A ρ B) {Q : Nat → Prop} {Tf : Nat → Nat} {a k t : Nat} (h0 : 224 ≤ t) (h1 : s0 ≤ t) (h2 : t < 7 * L) (hd : XD L s0 τ A B Q Tf a k t) : t % 7 < 6 ∧ 3 ≤ cn ((t % 7 : Nat) : Int) (ln (τ t)) ∧ ¬ FRk L s0 τ A B t := by
  obtain ⟨⟨s, -, -, -, c⟩, nf⟩ := hd
  have f : T0t A t := by
    rcases c with c | c
    · exact XK_0 hR h h0 h1 h2 c
    · exact XK_0 hR h h0 h1 h2 c
  have g := T0_cn h h1 (by omega) f
  exact ⟨g.1, g.2, nf⟩
-- own names whose FETCH is read in D: at most twelve for each chosen sample
theorem XD_ow {L s0 : Nat} {τ : Nat → qS} (hR : RNN L τ) {A : Nat → List (Ms × Nat × Nat)} {ρ : Nat → qS × qS × qS} {B : Nat → List (Ms × Nat × Nat) × List (Ms × Nat × Nat) × List (Ms × Nat × Nat)} (h : ANC L s0 τ A ρ B) (h7 : 224 ≤ s0) {Q : Nat → Prop} {Tf : Nat → Nat} {a k x m : Nat} (hx : s0 < x) : ctq (fun b => OWb L s0 τ A ρ B b ∧ ∃ t i, s0 ≤ t ∧ t < 7 * L ∧ i < 3 ∧ XD L s0 τ A B Q Tf a k t ∧ rdk τ A ρ B 5 t i b) x m ≤ 12 * ctq Q a k := by
  have e := ctq_ex (Q := Q) (P := fun s b => OWb L s0 τ A ρ B b ∧ ∃ t i, s0 ≤ t ∧ t < 7 * L ∧ i < 3 ∧ (XK A B s s t ∨ XK A B s (Tf s) t) ∧ rdk τ A ρ B 5 t i b) (a := a) (x := x) (m := m) (N := 12) (fun s _ => by
    have o := ctq_or (P := fun b => OWb L s0 τ A ρ B b ∧ ∃ t i, s0 ≤ t ∧ t < 7 * L ∧ i < 3 ∧ (XK A B s s t ∨ XK A B s (Tf s) t) ∧ rdk τ A ρ B 5 t i b) (Q := fun b => OWb L s0 τ A ρ B b ∧ ∃ t i, s0 ≤ t ∧ t < 7 * L ∧ i < 3 ∧ XK A B s s t ∧ rdk τ A ρ B 5 t i b) (R := fun b => OWb L s0 τ A ρ B b ∧ ∃ t i, s0 ≤ t ∧ t < 7 * L ∧ i < 3 ∧ XK A B s (Tf s) t ∧ rdk τ A ρ B 5 t i b) (s := x) m (fun b _ _ ⟨ob, t, i, t1, t2, hi, c, hr⟩ => by
      rcases c with c | c
      · exact Or.inl ⟨ob, t, i, t1, t2, hi, c, hr⟩
      · exact Or.inr ⟨ob, t, i, t1, t2, hi, c, hr⟩)
    have a1 := XK_ow hR h (s := s) (g := s) (x := x) (m := m) h7 hx
    have a2 := XK_ow hR h (s := s) (g := Tf s) (x := x) (m := m) h7 hx
    omega) k
  refine Nat.le_trans (ctq_mo m (fun b _ _ ⟨ob, t, i, t1, t2, hi, ⟨⟨s, s1, s2, s3, c⟩, _⟩, hr⟩ => ?_)) e
  exact ⟨s, s1, s2, s3, ob, t, i, t1, t2, hi, c, hr⟩

