-- WSUM: dead rounds of LACKS waits counted by the C-events ((i14))
noncomputable def fsl (P : Nat → Prop) : Nat → Nat → Nat
  | s, 0 => s
  | s, k + 1 => @ite Nat (P s) (Classical.propDecidable _) s (fsl P (s + 1) k)
theorem fsl_le {P : Nat → Prop} : ∀ k s, s ≤ fsl P s k ∧ fsl P s k ≤ s + k
  | 0, s => by simp [fsl]
  | k + 1, s => by
    have ih := fsl_le (P := P) k (s + 1)
    simp only [fsl]
    split <;> omega
theorem fsl_P {P : Nat → Prop} : ∀ k s, fsl P s k < s + k → P (fsl P s k)
  | 0, s, h => by simp [fsl] at h
  | k + 1, s, h => by
    simp only [fsl] at h ⊢
    split
    · assumption
    · rename_i c
      rw [if_neg c] at h
      exact fsl_P k (s + 1) (by omega)
theorem fsl_n {P : Nat → Prop} : ∀ k s t, s ≤ t → t < fsl P s k → ¬ P t
  | 0, s, t, h1, h2 => by simp [fsl] at h2; omega
  | k + 1, s, t, h1, h2 => by
    simp only [fsl] at h2
    split at h2
    · omega
    · rename_i c
      by_cases e : t = s
      · rw [e]; exact c
      · exact fsl_n k (s + 1) t (by omega) h2
theorem smq_sw {P : Nat → Nat → Prop} {a m s : Nat} : ∀ k, smq (fun c => ctq (fun r => P c r) a m) s k = smq (fun r => ctq (fun c => P c r) s k) a m
  | 0 => by
    have z : ∀ j, smq (fun r => ctq (fun c => P c r) s 0) a j = 0 := fun j => by
      induction j with
      | zero => rfl
      | succ j ih =>
        show smq (fun r => ctq (fun c => P c r) s 0) a j + ctq (fun c => P c (a + j)) s 0 = 0
        rw [ih]
        rfl
    rw [z]; rfl
  | k + 1 => by
    have ih := smq_sw (P := P) (a := a) (m := m) (s := s) k
    have g : ∀ j, smq (fun r => ctq (fun c => P c r) s (k + 1)) a j = smq (fun r => ctq (fun c => P c r) s k) a j + ctq (fun r => P (s + k) r) a j := fun j => by
      induction j with
      | zero => rfl
      | succ j ih => simp only [smq, ctq] at ih ⊢; omega
    rw [g, ← ih]
    rfl
theorem ctq_4 {S E : Nat → Prop} {s k N : Nat} (h : ∀ c, s ≤ c → c < s + k → S c → ctq (fun q => c < q ∧ S q) s k ≤ N) : ctq S s k ≤ N + 1 := by
  by_cases c : ∃ c, s ≤ c ∧ c < s + k ∧ S c
  · obtain ⟨c1, a1, a2, a3⟩ := c
    obtain ⟨c0, e0⟩ : ∃ c0, c0 = fsl S s k := ⟨_, rfl⟩
    have l := fsl_le (P := S) k s
    have lt : c0 < s + k := by
      apply Classical.byContradiction
      intro n
      exact fsl_n k s c1 a1 (by omega) a3
    have p0 : S c0 := by rw [e0]; exact fsl_P k s (by omega)
    have n0 : ∀ q, s ≤ q → q < c0 → ¬ S q := fun q q1 q2 => fsl_n k s q q1 (by omega)
    have a := h c0 (by omega) lt p0
    have b := ctq_or (P := S) (Q := fun q => c0 < q ∧ S q) (R := fun q => q = c0) (s := s) k (fun q q1 q2 hq => by
      by_cases e : q = c0
      · exact Or.inr e
      · left
        refine ⟨?_, hq⟩
        apply Classical.byContradiction
        intro n
        exact n0 q q1 (by omega) hq)
    have d := ctq_one (P := fun q => q = c0) (s := s) k (fun t t' _ _ _ _ e e' => by omega)
    omega
  · rw [ctq_off k (fun t t1 t2 q => c ⟨t, t1, t2, q⟩)]
    omega
noncomputable def lsq (τ : Nat → qS) (M q : Nat) : Nat := fsl (LKt τ) (7 * q + 1001) (M - (7 * q + 1001))
def CEr (τ : Nat → qS) (A : Nat → List (Ms × Nat × Nat)) (q : Nat) : Prop := CEk τ A (7 * q + 6)
noncomputable def ucq (τ : Nat → qS) (A : Nat → List (Ms × Nat × Nat)) (M q : Nat) : Nat := ctq (CEr τ A) (q + 1) (lsq τ M q / 7 - 1 - q)
def G3q (τ : Nat → qS) (A : Nat → List (Ms × Nat × Nat)) (M q : Nat) : Prop := CEr τ A q ∧ lsq τ M q < M ∧ ucq τ A M q ≤ 3
def Omq (τ : Nat → qS) (M q r : Nat) : Prop := lsq τ M q / 7 ≤ r + 141 ∧ r ≤ lsq τ M q / 7
noncomputable def wcq (τ : Nat → qS) (A : Nat → List (Ms × Nat × Nat)) (M q : Nat) : Nat := @ite Nat (G3q τ A M q) (Classical.propDecidable _) (142 - 31 * (1 + ucq τ A M q)) 0
theorem lsq_g {τ : Nat → qS} {M q : Nat} (h : lsq τ M q < M) : 7 * q + 1001 ≤ lsq τ M q ∧ LKt τ (lsq τ M q) := by
  have l := fsl_le (P := LKt τ) (M - (7 * q + 1001)) (7 * q + 1001)
  unfold lsq at h ⊢
  exact ⟨l.1, fsl_P _ _ (by omega)⟩
-- the dead rounds in the wait of the first LACKS later than 142 rounds after a C-event
theorem WIN1 {L s0 : Nat} {τ : Nat → qS} {A : Nat → List (Ms × Nat × Nat)} {ρ : Nat → qS × qS × qS} {B : Nat → List (Ms × Nat × Nat) × List (Ms × Nat × Nat) × List (Ms × Nat × Nat)} (h : ANC L s0 τ A ρ B) {M q a m : Nat} (hq : s0 + 500 ≤ 7 * q) (hl : lsq τ M q < M) (hM : M ≤ 7 * L) (ha : a ≤ q) (hm : M < 7 * (a + m)) : 142 ≤ ctq (fun r => (JGr τ r ∧ ¬ NDk L s0 τ A B r) ∧ Omq τ M q r) a m + 31 * (1 + ucq τ A M q) := by
  obtain ⟨g1, g2⟩ := lsq_g hl
  obtain ⟨w, ew⟩ : ∃ w, w = lsq τ M q / 7 := ⟨_, rfl⟩
  have jg : ∀ r, w ≤ r + 141 → r ≤ w → JGr τ r := fun r r1 r2 => ⟨lsq τ M q % 7, by have := g2.1; omega, by show (7 * r + lsq τ M q % 7) % 7 < 6; have := g2.1; omega, lsq τ M q, g2, by omega, by omega, by omega⟩
  have all := ctq_all (P := fun r => w ≤ r + 141 ∧ r ≤ w) (s := w - 141) 142 (fun r r1 r2 => ⟨by omega, by omega⟩)
  have inj := ctq_inj (P := fun r => w ≤ r + 141 ∧ r ≤ w) (f := fun r => r) (s := w - 141) (a := a) (m := m) 142 (fun r => w ≤ r + 141 ∧ r ≤ w) (fun r r1 r2 p => ⟨by omega, by omega, p⟩) (fun _ _ _ _ _ _ _ _ e => e)
  have sp := ctq_or (P := fun r => w ≤ r + 141 ∧ r ≤ w) (Q := fun r => (JGr τ r ∧ ¬ NDk L s0 τ A B r) ∧ Omq τ M q r) (R := fun r => (w ≤ r + 141 ∧ r ≤ w) ∧ NDk L s0 τ A B r) (s := a) m (fun r _ _ p => by
    by_cases c : NDk L s0 τ A B r
    · exact Or.inr ⟨p, c⟩
    · exact Or.inl ⟨⟨jg r p.1 p.2, c⟩, by unfold Omq; rw [← ew]; exact p⟩)
  have nd := ctq_or (P := fun r => (w ≤ r + 141 ∧ r ≤ w) ∧ NDk L s0 τ A B r) (Q := fun r => q < r ∧ r ≤ q + 31) (R := fun r => r ≤ w ∧ ∃ d, 1 ≤ d ∧ d ≤ 31 ∧ (fun x => (CEr τ A x ∧ q < x) ∧ x < w) (r - d)) (s := a) m (fun r _ _ ⟨p, φ, f1, f2, hf⟩ => by
    obtain ⟨c, c1, c2, c3⟩ := FRk_c h (by omega) hf
    have c6 := c1.1.1
    by_cases e : q < c / 7
    · right
      refine ⟨p.2, r - c / 7, by omega, by omega, ⟨?_, by omega⟩, by omega⟩
      show CEk τ A (7 * (r - (r - c / 7)) + 6)
      rw [show 7 * (r - (r - c / 7)) + 6 = c by omega]
      exact c1
    · exact Or.inl ⟨by omega, by omega⟩)
  have n1 : ctq (fun r => q < r ∧ r ≤ q + 31) a m ≤ 31 := by
    have x := ctq_inj (P := fun r => q < r ∧ r ≤ q + 31) (f := fun r => r) (s := a) (a := q + 1) (m := 31) m (fun _ => True) (fun r _ _ p => ⟨by omega, by omega, trivial⟩) (fun _ _ _ _ _ _ _ _ e => e)
    have y := ctq_le (P := fun _ => True) (s := q + 1) 31
    omega
  have n2 : ctq (fun r => r ≤ w ∧ ∃ d, 1 ≤ d ∧ d ≤ 31 ∧ (fun x => (CEr τ A x ∧ q < x) ∧ x < w) (r - d)) a m ≤ 31 * ucq τ A M q := by
    have x := ctq_inj (P := fun r => r ≤ w ∧ ∃ d, 1 ≤ d ∧ d ≤ 31 ∧ (fun x => (CEr τ A x ∧ q < x) ∧ x < w) (r - d)) (f := fun r => r) (s := a) (a := 32) (m := w) m (fun r => ∃ d, 1 ≤ d ∧ d ≤ 31 ∧ (fun x => (CEr τ A x ∧ q < x) ∧ x < w) (r - d)) (fun r _ _ p => ⟨by
      obtain ⟨-, d, d1, d2, ⟨-, d4⟩, -⟩ := p
      have : q < r - d := d4
      omega, by
      have := p.1
      omega, p.2⟩) (fun _ _ _ _ _ _ _ _ e => e)
    have y := ctq_win (P := fun x => (CEr τ A x ∧ q < x) ∧ x < w) (s := 32) (n := w) 31 (by omega)
    have z := ctq_inj (P := fun x => (CEr τ A x ∧ q < x) ∧ x < w) (f := fun r => r) (s := 32 - 31) (a := q + 1) (m := w - 1 - q) (w + 31) (CEr τ A) (fun r _ _ p => ⟨by omega, by omega, p.1.1⟩) (fun _ _ _ _ _ _ _ _ e => e)
    have eu : ucq τ A M q = ctq (CEr τ A) (q + 1) (w - 1 - q) := by unfold ucq; rw [← ew]
    rw [eu]
    exact Nat.le_trans x (Nat.le_trans y (Nat.mul_le_mul_left 31 z))
  have n3 : 31 * (1 + ucq τ A M q) = 31 + 31 * ucq τ A M q := by omega
  omega
-- a round lies in the waits of at most four such C-events
theorem WIN4 {τ : Nat → qS} {A : Nat → List (Ms × Nat × Nat)} {M r s k : Nat} : ctq (fun q => G3q τ A M q ∧ Omq τ M q r) s k ≤ 4 := by
  refine ctq_4 (E := CEr τ A) (N := 3) (fun c c1 c2 ⟨g, o⟩ => ?_)
  have l := lsq_g g.2.1
  have x := ctq_inj (P := fun q => c < q ∧ (G3q τ A M q ∧ Omq τ M q r)) (f := fun q => q) (s := s) (a := c + 1) (m := lsq τ M c / 7 - 1 - c) k (CEr τ A) (fun q _ _ ⟨q1, g', o'⟩ => by
    have l' := lsq_g g'.2.1
    have o1 := o.2
    have o2 := o'.1
    exact ⟨by omega, by omega, g'.1⟩) (fun _ _ _ _ _ _ _ _ e => e)
  exact Nat.le_trans x g.2.2
-- the sum
theorem smq_b {f : Nat → Nat} {b s : Nat} : ∀ k, (∀ r, s ≤ r → r < s + k → f r ≤ b) → smq f s k ≤ b * k
  | 0, _ => Nat.zero_le _
  | k + 1, h => by
    have ih := smq_b (f := f) (b := b) (s := s) k (fun r r1 r2 => h r r1 (by omega))
    have l := h (s + k) (by omega) (by omega)
    simp only [smq]
    rw [Nat.mul_add, Nat.mul_one]
    omega
theorem smq_cb {f : Nat → Nat} {P : Nat → Prop} {b s : Nat} : ∀ k, (∀ r, s ≤ r → r < s + k → f r ≤ b ∧ (¬ P r → f r = 0)) → smq f s k ≤ b * ctq P s k
  | 0, _ => Nat.zero_le _
  | k + 1, h => by
    have ih := smq_cb (f := f) (P := P) (b := b) (s := s) k (fun r r1 r2 => h r r1 (by omega))
    have l := h (s + k) (by omega) (by omega)
    simp only [smq, ctq]
    by_cases c : P (s + k)
    · rw [if_pos c, Nat.mul_add, Nat.mul_one]
      have := l.1
      omega
    · rw [if_neg c, Nat.add_zero]
      have := l.2 c
      omega
theorem WSUM {L s0 : Nat} {τ : Nat → qS} {A : Nat → List (Ms × Nat × Nat)} {ρ : Nat → qS × qS × qS} {B : Nat → List (Ms × Nat × Nat) × List (Ms × Nat × Nat) × List (Ms × Nat × Nat)} (h : ANC L s0 τ A ρ B) {M q0 k m : Nat} (hq : s0 + 500 ≤ 7 * q0) (hM : M ≤ 7 * L) (hm : M < 7 * (q0 + m)) : smq (wcq τ A M) q0 k ≤ 4 * ctq (fun r => JGr τ r ∧ ¬ NDk L s0 τ A B r) q0 m := by
  have a := smq_le (f := wcq τ A M) (g := fun q => ctq (fun r => (JGr τ r ∧ ¬ NDk L s0 τ A B r) ∧ (G3q τ A M q ∧ Omq τ M q r)) q0 m) (s := q0) k (fun i hi => by
    show wcq τ A M (q0 + i) ≤ ctq (fun r => (JGr τ r ∧ ¬ NDk L s0 τ A B r) ∧ (G3q τ A M (q0 + i) ∧ Omq τ M (q0 + i) r)) q0 m
    unfold wcq
    by_cases c : G3q τ A M (q0 + i)
    · rw [if_pos c]
      have w := WIN1 h (M := M) (q := q0 + i) (a := q0) (m := m) (by omega) c.2.1 hM (by omega) hm
      have e := ctq_mo (P := fun r => (JGr τ r ∧ ¬ NDk L s0 τ A B r) ∧ Omq τ M (q0 + i) r) (Q := fun r => (JGr τ r ∧ ¬ NDk L s0 τ A B r) ∧ (G3q τ A M (q0 + i) ∧ Omq τ M (q0 + i) r)) (s := q0) m (fun r _ _ p => ⟨p.1, c, p.2⟩)
      omega
    · rw [if_neg c]
      exact Nat.zero_le _)
  rw [smq_sw] at a
  have b := smq_cb (f := fun r => ctq (fun q => (JGr τ r ∧ ¬ NDk L s0 τ A B r) ∧ (G3q τ A M q ∧ Omq τ M q r)) q0 k) (P := fun r => JGr τ r ∧ ¬ NDk L s0 τ A B r) (b := 4) (s := q0) m (fun r _ _ => ⟨by
    have x := ctq_mo (P := fun q => (JGr τ r ∧ ¬ NDk L s0 τ A B r) ∧ (G3q τ A M q ∧ Omq τ M q r)) (Q := fun q => G3q τ A M q ∧ Omq τ M q r) (s := q0) k (fun q _ _ p => p.2)
    exact Nat.le_trans x WIN4, fun n => ctq_off k (fun q _ _ p => n p.1)⟩)
  exact Nat.le_trans a b

