-- a standing kill of a worker that has stood for 64 rounds: it gains no left-behind token
def OKt (τ : Nat → qS) (A : Nat → List (Ms × Nat × Nat)) (ρ : Nat → qS × qS × qS) (B : Nat → List (Ms × Nat × Nat) × List (Ms × Nat × Nat) × List (Ms × Nat × Nat)) (t : Nat) : Prop := Kst τ A ρ B t ∧ ∃ u, u + 448 ≤ t ∧ STY τ (t % 7) u t
theorem GN_k2 {L s0 : Nat} {τ : Nat → qS} (hR : RNN L τ) {A : Nat → List (Ms × Nat × Nat)} {ρ : Nat → qS × qS × qS} {B : Nat → List (Ms × Nat × Nat) × List (Ms × Nat × Nat) × List (Ms × Nat × Nat)} (h : ANC L s0 τ A ρ B) (h7 : 224 ≤ s0) {v s1 t : Nat} (hv : v < 6) (h1 : s0 + 448 ≤ t) (h2 : t < 7 * L) (g : GNt τ A ρ B v s1 t) : (Kst τ A ρ B t ∧ ¬ OKt τ A ρ B t) ∨ TAt τ A ρ B s1 t := by
  rcases GN_k h hv (by omega) h2 g with c | c
  · refine Or.inl ⟨c, fun ⟨_, u, u1, u2⟩ => ?_⟩
    obtain ⟨e, ⟨a, a1, a2, a3, a4, a5⟩, -⟩ := g
    subst e
    have au : a ≤ u := by
      apply Classical.byContradiction
      intro n
      obtain ⟨z1, z2, z3⟩ := u2 (a - 1) (by omega) (by omega)
      obtain ⟨y1, y2, y3⟩ := u2 a (by omega) a2
      have ea : a - 1 + 1 = a := by have := a1.2.1; omega
      rcases a1.2.2.2 with q | q | q
      · omega
      · rw [ea] at q; omega
      · rw [ea] at q; omega
    unfold tbc at a5
    obtain ⟨x, hx, px⟩ := List.countP_pos_iff.mp (by omega : 0 < (A (t + 1)).countP (fun x => tokb x && decide (x.2.2 = a)))
    rw [Bool.and_eq_true] at px
    have xb := of_decide_eq_true px.2
    have := LIFE64 hR h.1 h7 (t := t + 1) (by omega) (by omega) hx px.1
    omega
  · exact Or.inr c
theorem GN_s2 {L s0 : Nat} {τ : Nat → qS} (hR : RNN L τ) {A : Nat → List (Ms × Nat × Nat)} {ρ : Nat → qS × qS × qS} {B : Nat → List (Ms × Nat × Nat) × List (Ms × Nat × Nat) × List (Ms × Nat × Nat)} (h : ANC L s0 τ A ρ B) (h7 : 224 ≤ s0) {s1 s k : Nat} (h1 : s0 + 448 ≤ s) (h2 : s + k ≤ 7 * L) : ctq (GNt τ A ρ B 0 s1) s k + ctq (GNt τ A ρ B 1 s1) s k + ctq (GNt τ A ρ B 2 s1) s k + ctq (GNt τ A ρ B 3 s1) s k + ctq (GNt τ A ρ B 4 s1) s k + ctq (GNt τ A ρ B 5 s1) s k + ctq (OKt τ A ρ B) s k ≤ ctq (Kst τ A ρ B) s k + ctq (TAt τ A ρ B s1) s k := by
  have a := ctq_6v (P := fun v t => GNt τ A ρ B v s1 t) (fun v t q => q.1) (s := s) k
  have b := ctq_or (P := fun t => ∃ v, v < 6 ∧ GNt τ A ρ B v s1 t) (Q := fun t => Kst τ A ρ B t ∧ ¬ OKt τ A ρ B t) (R := TAt τ A ρ B s1) (s := s) k (fun t t1 t2 ⟨v, hv, q⟩ => GN_k2 hR h h7 hv (by omega) (by omega) q)
  have ab : ctq (GNt τ A ρ B 0 s1) s k + ctq (GNt τ A ρ B 1 s1) s k + ctq (GNt τ A ρ B 2 s1) s k + ctq (GNt τ A ρ B 3 s1) s k + ctq (GNt τ A ρ B 4 s1) s k + ctq (GNt τ A ρ B 5 s1) s k ≤ ctq (fun t => Kst τ A ρ B t ∧ ¬ OKt τ A ρ B t) s k + ctq (TAt τ A ρ B s1) s k := Nat.le_trans a b
  have c := ctq_2 (P := fun t => Kst τ A ρ B t ∧ ¬ OKt τ A ρ B t) (Q := OKt τ A ρ B) (R := Kst τ A ρ B) (s := s) k (fun t _ _ => ⟨fun q => q.1, fun q => q.1, fun q => q.1.2 q.2⟩)
  omega
-- LACKS whose sender is killed where it waited, before it sends another one
def GLk (L : Nat) (τ : Nat → qS) (A : Nat → List (Ms × Nat × Nat)) (ρ : Nat → qS × qS × qS) (B : Nat → List (Ms × Nat × Nat) × List (Ms × Nat × Nat) × List (Ms × Nat × Nat)) (l : Nat) : Prop := LKt τ l ∧ ∃ κ, l < κ ∧ κ ≤ l + 1001 ∧ κ < 7 * L ∧ κ % 7 = l % 7 ∧ OKt τ A ρ B κ ∧ ∀ u, l < u → u < κ → u % 7 = l % 7 → ¬ LKt τ u
theorem GL_o {L : Nat} {τ : Nat → qS} {A : Nat → List (Ms × Nat × Nat)} {ρ : Nat → qS × qS × qS} {B : Nat → List (Ms × Nat × Nat) × List (Ms × Nat × Nat) × List (Ms × Nat × Nat)} {s k m : Nat} (hm : k + 1002 = m) : ctq (GLk L τ A ρ B) s k ≤ ctq (OKt τ A ρ B) s m := by
  have pick : ∀ l, ∃ κ, GLk L τ A ρ B l → LKt τ l ∧ l < κ ∧ κ ≤ l + 1001 ∧ κ % 7 = l % 7 ∧ OKt τ A ρ B κ ∧ ∀ u, l < u → u < κ → u % 7 = l % 7 → ¬ LKt τ u := fun l => by
    by_cases c : GLk L τ A ρ B l
    · obtain ⟨c1, κ, k1, k2, k3, k4, k5, k6⟩ := c
      exact ⟨κ, fun _ => ⟨c1, k1, k2, k4, k5, k6⟩⟩
    · exact ⟨0, fun q => absurd q c⟩
  obtain ⟨f, hf⟩ : ∃ f : Nat → Nat, ∀ l, GLk L τ A ρ B l → LKt τ l ∧ l < f l ∧ f l ≤ l + 1001 ∧ f l % 7 = l % 7 ∧ OKt τ A ρ B (f l) ∧ ∀ u, l < u → u < f l → u % 7 = l % 7 → ¬ LKt τ u := ⟨fun l => Classical.choose (pick l), fun l => Classical.choose_spec (pick l)⟩
  refine ctq_inj (P := GLk L τ A ρ B) (f := f) (s := s) (a := s) (m := m) k (OKt τ A ρ B) (fun l l1 l2 q => by
    obtain ⟨-, f2, f3, -, f5, -⟩ := hf l q
    exact ⟨by omega, by omega, f5⟩) (fun l l' l1 l2 l1' l2' q q' e => by
    obtain ⟨c1, f2, f3, f4, f5, f6⟩ := hf l q
    obtain ⟨c1', f2', f3', f4', f5', f6'⟩ := hf l' q'
    rcases Nat.lt_trichotomy l l' with c | c | c
    · exact absurd c1' (f6 l' c (by omega) (by omega))
    · exact c
    · exact absurd c1 (f6' l c (by omega) (by omega)))

theorem STE3 {L s0 : Nat} {τ : Nat → qS} (hR : RNN L τ) (hs : ∀ t, t ≤ 7 * L → psame (τ 0) (τ t)) {A : Nat → List (Ms × Nat × Nat)} {ρ : Nat → qS × qS × qS} {B : Nat → List (Ms × Nat × Nat) × List (Ms × Nat × Nat) × List (Ms × Nat × Nat)} (h : ANC L s0 τ A ρ B) (h7 : 224 ≤ s0) {D : Nat → Prop} {s n : Nat} (h1 : s0 + 1500 ≤ s) (h2 : s + n + 1450 ≤ 7 * L) (hD : ∀ t, s ≤ t → t < s + n → D t → t % 7 < 6 ∧ 3 ≤ cn ((t % 7 : Nat) : Int) (ln (τ t)) ∧ ¬ FRk L s0 τ A B t) : 3 * ctq D s n + 2 * ctq (WHt τ) s n ≤ ctq (RK τ A ρ B D (fun _ _ => True) 2 0) s n + ctq (RK τ A ρ B D (fun _ _ => True) 2 1) s n + ctq (RK τ A ρ B D (fun _ _ => True) 2 2) s n + ctq (fun t => D t ∧ ∃ b, ACC τ A ρ B t b) s n + ctq (fun b => TOb τ ((b - 1) % 7) b ∧ ∃ t, s ≤ t ∧ t < s + n ∧ D t ∧ ACC τ A ρ B t b) (s - 448) (n + 448) + ctq (fun b => NLb L s0 τ A ρ B s (n + 448) b ∧ ∃ t i, s ≤ t ∧ t < s + n ∧ i < 3 ∧ D t ∧ rdk τ A ρ B 6 t i b) (s - 448) (n + 448) + ctq (fun b => NLb L s0 τ A ρ B s (n + 448) b ∧ ∃ t i, s ≤ t ∧ t < s + n ∧ i < 3 ∧ D t ∧ rdk τ A ρ B 5 t i b) (s - 448) (n + 448) + ctq (fun b => (OWb L s0 τ A ρ B b ∨ PNk L s0 τ A ρ B b) ∧ ∃ t i, s ≤ t ∧ t < s + n ∧ i < 3 ∧ D t ∧ rdk τ A ρ B 5 t i b) (s - 448) (n + 448) + 10 * ctq (LKt τ) s n + 2 * ctq (fun l => LKt τ l ∧ ¬ GLk L τ A ρ B l) s n + 2 * ctq (TAt τ A ρ B (s - 449)) s n + 30000 := by
  have x := DEADK hR hs h h7 (D := D) (s := s) (n := n) (by omega) (by omega) hD
  have ls : ∀ v, v < 6 → ctq (fun b => ∃ u, s ≤ u ∧ u < s + (n + 448) ∧ LSa τ A ρ B v u b) (s - 448) (n + 448) ≤ 449 + ctq (GNt τ A ρ B v (s - 449)) s (n + 448) := fun v hv => by
    obtain ⟨K, hK⟩ : ∃ K, K = n + 448 := ⟨_, rfl⟩
    obtain ⟨s1, hs1⟩ : ∃ s1, s1 = s - 448 := ⟨_, rfl⟩
    rw [← hK, ← hs1]
    have a := lsm_n (ρ := ρ) (B := B) h.1 (v := v) (s := s1) (t := s) (by omega) (by omega) K K (by omega)
    have b := LBS2 hR h hv (s := s1) (t := s) (by omega) (by omega) K (by omega)
    rw [show s1 - 1 = s - 449 by omega] at b
    have c := ctq_le (P := AAl τ A v s) (s := s1) (s + 1 - s1)
    omega
  have al : ∀ v, v < 6 → ctq (fun b => ∃ u, s ≤ u ∧ u < s + (n + 448) ∧ (D u ∧ u < s + n) ∧ AcA τ A ρ B v u b) (s - 448) (n + 448) + ctq (fun b => ∃ u, s ≤ u ∧ u < s + (n + 448) ∧ LSa τ A ρ B v u b) (s - 448) (n + 448) ≤ ctq (fun u => (D u ∧ u < s + n) ∧ u % 7 = v ∧ ∃ b, ACC τ A ρ B u b) s (n + 448) + 449 + ctq (GNt τ A ρ B v (s - 449)) s (n + 448) := fun v hv => by
    obtain ⟨K, hK⟩ : ∃ K, K = n + 448 := ⟨_, rfl⟩
    rw [← hK]
    exact AL_v hR h (D := fun u => D u ∧ u < s + n) hv (s := s) (K := K) (m := K) (by omega) (by omega)
  have e : ∀ (P Q : Nat → Prop), ctq (fun b => P b ∨ Q b) (s - 448) (n + 448) ≤ ctq P (s - 448) (n + 448) + ctq Q (s - 448) (n + 448) := fun P Q => ctq_or _ (fun b _ _ q => q)
  have s5 := ctq_mo (P := fun b => NAb L s0 τ A ρ B b ∧ ∃ t i, s ≤ t ∧ t < s + n ∧ i < 3 ∧ D t ∧ rdk τ A ρ B 5 t i b) (Q := fun b => (((((((NLb L s0 τ A ρ B s (n + 448) b ∧ ∃ t i, s ≤ t ∧ t < s + n ∧ i < 3 ∧ D t ∧ rdk τ A ρ B 5 t i b) ∨ (∃ u, s ≤ u ∧ u < s + (n + 448) ∧ LSa τ A ρ B 0 u b)) ∨ (∃ u, s ≤ u ∧ u < s + (n + 448) ∧ LSa τ A ρ B 1 u b)) ∨ (∃ u, s ≤ u ∧ u < s + (n + 448) ∧ LSa τ A ρ B 2 u b)) ∨ (∃ u, s ≤ u ∧ u < s + (n + 448) ∧ LSa τ A ρ B 3 u b)) ∨ (∃ u, s ≤ u ∧ u < s + (n + 448) ∧ LSa τ A ρ B 4 u b)) ∨ (∃ u, s ≤ u ∧ u < s + (n + 448) ∧ LSa τ A ρ B 5 u b))) (s := s - 448) (n + 448) (fun b _ _ q => by
    by_cases c : ∃ v u, v < 6 ∧ s ≤ u ∧ u < s + (n + 448) ∧ LSa τ A ρ B v u b
    · obtain ⟨v, u, v6, u1, u2, u3⟩ := c
      rcases (by omega : v = 0 ∨ v = 1 ∨ v = 2 ∨ v = 3 ∨ v = 4 ∨ v = 5) with e | e | e | e | e | e
      · subst e; have q' : (∃ u, s ≤ u ∧ u < s + (n + 448) ∧ LSa τ A ρ B 0 u b) := ⟨u, u1, u2, u3⟩; exact Or.inl (Or.inl (Or.inl (Or.inl (Or.inl (Or.inr q')))))
      · subst e; have q' : (∃ u, s ≤ u ∧ u < s + (n + 448) ∧ LSa τ A ρ B 1 u b) := ⟨u, u1, u2, u3⟩; exact Or.inl (Or.inl (Or.inl (Or.inl (Or.inr q'))))
      · subst e; have q' : (∃ u, s ≤ u ∧ u < s + (n + 448) ∧ LSa τ A ρ B 2 u b) := ⟨u, u1, u2, u3⟩; exact Or.inl (Or.inl (Or.inl (Or.inr q')))
      · subst e; have q' : (∃ u, s ≤ u ∧ u < s + (n + 448) ∧ LSa τ A ρ B 3 u b) := ⟨u, u1, u2, u3⟩; exact Or.inl (Or.inl (Or.inr q'))
      · subst e; have q' : (∃ u, s ≤ u ∧ u < s + (n + 448) ∧ LSa τ A ρ B 4 u b) := ⟨u, u1, u2, u3⟩; exact Or.inl (Or.inr q')
      · subst e; have q' : (∃ u, s ≤ u ∧ u < s + (n + 448) ∧ LSa τ A ρ B 5 u b) := ⟨u, u1, u2, u3⟩; exact Or.inr q'
    · have q' : (NLb L s0 τ A ρ B s (n + 448) b ∧ ∃ t i, s ≤ t ∧ t < s + n ∧ i < 3 ∧ D t ∧ rdk τ A ρ B 5 t i b) := ⟨⟨q.1, c⟩, q.2⟩; exact Or.inl (Or.inl (Or.inl (Or.inl (Or.inl (Or.inl (q')))))))
  have s50 := e (fun b => (NLb L s0 τ A ρ B s (n + 448) b ∧ ∃ t i, s ≤ t ∧ t < s + n ∧ i < 3 ∧ D t ∧ rdk τ A ρ B 5 t i b)) (fun b => (∃ u, s ≤ u ∧ u < s + (n + 448) ∧ LSa τ A ρ B 0 u b))
  have s51 := e (fun b => ((NLb L s0 τ A ρ B s (n + 448) b ∧ ∃ t i, s ≤ t ∧ t < s + n ∧ i < 3 ∧ D t ∧ rdk τ A ρ B 5 t i b) ∨ (∃ u, s ≤ u ∧ u < s + (n + 448) ∧ LSa τ A ρ B 0 u b))) (fun b => (∃ u, s ≤ u ∧ u < s + (n + 448) ∧ LSa τ A ρ B 1 u b))
  have s52 := e (fun b => (((NLb L s0 τ A ρ B s (n + 448) b ∧ ∃ t i, s ≤ t ∧ t < s + n ∧ i < 3 ∧ D t ∧ rdk τ A ρ B 5 t i b) ∨ (∃ u, s ≤ u ∧ u < s + (n + 448) ∧ LSa τ A ρ B 0 u b)) ∨ (∃ u, s ≤ u ∧ u < s + (n + 448) ∧ LSa τ A ρ B 1 u b))) (fun b => (∃ u, s ≤ u ∧ u < s + (n + 448) ∧ LSa τ A ρ B 2 u b))
  have s53 := e (fun b => ((((NLb L s0 τ A ρ B s (n + 448) b ∧ ∃ t i, s ≤ t ∧ t < s + n ∧ i < 3 ∧ D t ∧ rdk τ A ρ B 5 t i b) ∨ (∃ u, s ≤ u ∧ u < s + (n + 448) ∧ LSa τ A ρ B 0 u b)) ∨ (∃ u, s ≤ u ∧ u < s + (n + 448) ∧ LSa τ A ρ B 1 u b)) ∨ (∃ u, s ≤ u ∧ u < s + (n + 448) ∧ LSa τ A ρ B 2 u b))) (fun b => (∃ u, s ≤ u ∧ u < s + (n + 448) ∧ LSa τ A ρ B 3 u b))
  have s54 := e (fun b => (((((NLb L s0 τ A ρ B s (n + 448) b ∧ ∃ t i, s ≤ t ∧ t < s + n ∧ i < 3 ∧ D t ∧ rdk τ A ρ B 5 t i b) ∨ (∃ u, s ≤ u ∧ u < s + (n + 448) ∧ LSa τ A ρ B 0 u b)) ∨ (∃ u, s ≤ u ∧ u < s + (n + 448) ∧ LSa τ A ρ B 1 u b)) ∨ (∃ u, s ≤ u ∧ u < s + (n + 448) ∧ LSa τ A ρ B 2 u b)) ∨ (∃ u, s ≤ u ∧ u < s + (n + 448) ∧ LSa τ A ρ B 3 u b))) (fun b => (∃ u, s ≤ u ∧ u < s + (n + 448) ∧ LSa τ A ρ B 4 u b))
  have s55 := e (fun b => ((((((NLb L s0 τ A ρ B s (n + 448) b ∧ ∃ t i, s ≤ t ∧ t < s + n ∧ i < 3 ∧ D t ∧ rdk τ A ρ B 5 t i b) ∨ (∃ u, s ≤ u ∧ u < s + (n + 448) ∧ LSa τ A ρ B 0 u b)) ∨ (∃ u, s ≤ u ∧ u < s + (n + 448) ∧ LSa τ A ρ B 1 u b)) ∨ (∃ u, s ≤ u ∧ u < s + (n + 448) ∧ LSa τ A ρ B 2 u b)) ∨ (∃ u, s ≤ u ∧ u < s + (n + 448) ∧ LSa τ A ρ B 3 u b)) ∨ (∃ u, s ≤ u ∧ u < s + (n + 448) ∧ LSa τ A ρ B 4 u b))) (fun b => (∃ u, s ≤ u ∧ u < s + (n + 448) ∧ LSa τ A ρ B 5 u b))
  have s6 := ctq_mo (P := fun b => NAb L s0 τ A ρ B b ∧ ∃ t i, s ≤ t ∧ t < s + n ∧ i < 3 ∧ D t ∧ rdk τ A ρ B 6 t i b) (Q := fun b => (((((((NLb L s0 τ A ρ B s (n + 448) b ∧ ∃ t i, s ≤ t ∧ t < s + n ∧ i < 3 ∧ D t ∧ rdk τ A ρ B 6 t i b) ∨ (∃ u, s ≤ u ∧ u < s + (n + 448) ∧ LSa τ A ρ B 0 u b)) ∨ (∃ u, s ≤ u ∧ u < s + (n + 448) ∧ LSa τ A ρ B 1 u b)) ∨ (∃ u, s ≤ u ∧ u < s + (n + 448) ∧ LSa τ A ρ B 2 u b)) ∨ (∃ u, s ≤ u ∧ u < s + (n + 448) ∧ LSa τ A ρ B 3 u b)) ∨ (∃ u, s ≤ u ∧ u < s + (n + 448) ∧ LSa τ A ρ B 4 u b)) ∨ (∃ u, s ≤ u ∧ u < s + (n + 448) ∧ LSa τ A ρ B 5 u b))) (s := s - 448) (n + 448) (fun b _ _ q => by
    by_cases c : ∃ v u, v < 6 ∧ s ≤ u ∧ u < s + (n + 448) ∧ LSa τ A ρ B v u b
    · obtain ⟨v, u, v6, u1, u2, u3⟩ := c
      rcases (by omega : v = 0 ∨ v = 1 ∨ v = 2 ∨ v = 3 ∨ v = 4 ∨ v = 5) with e | e | e | e | e | e
      · subst e; have q' : (∃ u, s ≤ u ∧ u < s + (n + 448) ∧ LSa τ A ρ B 0 u b) := ⟨u, u1, u2, u3⟩; exact Or.inl (Or.inl (Or.inl (Or.inl (Or.inl (Or.inr q')))))
      · subst e; have q' : (∃ u, s ≤ u ∧ u < s + (n + 448) ∧ LSa τ A ρ B 1 u b) := ⟨u, u1, u2, u3⟩; exact Or.inl (Or.inl (Or.inl (Or.inl (Or.inr q'))))
      · subst e; have q' : (∃ u, s ≤ u ∧ u < s + (n + 448) ∧ LSa τ A ρ B 2 u b) := ⟨u, u1, u2, u3⟩; exact Or.inl (Or.inl (Or.inl (Or.inr q')))
      · subst e; have q' : (∃ u, s ≤ u ∧ u < s + (n + 448) ∧ LSa τ A ρ B 3 u b) := ⟨u, u1, u2, u3⟩; exact Or.inl (Or.inl (Or.inr q'))
      · subst e; have q' : (∃ u, s ≤ u ∧ u < s + (n + 448) ∧ LSa τ A ρ B 4 u b) := ⟨u, u1, u2, u3⟩; exact Or.inl (Or.inr q')
      · subst e; have q' : (∃ u, s ≤ u ∧ u < s + (n + 448) ∧ LSa τ A ρ B 5 u b) := ⟨u, u1, u2, u3⟩; exact Or.inr q'
    · have q' : (NLb L s0 τ A ρ B s (n + 448) b ∧ ∃ t i, s ≤ t ∧ t < s + n ∧ i < 3 ∧ D t ∧ rdk τ A ρ B 6 t i b) := ⟨⟨q.1, c⟩, q.2⟩; exact Or.inl (Or.inl (Or.inl (Or.inl (Or.inl (Or.inl (q')))))))
  have s60 := e (fun b => (NLb L s0 τ A ρ B s (n + 448) b ∧ ∃ t i, s ≤ t ∧ t < s + n ∧ i < 3 ∧ D t ∧ rdk τ A ρ B 6 t i b)) (fun b => (∃ u, s ≤ u ∧ u < s + (n + 448) ∧ LSa τ A ρ B 0 u b))
  have s61 := e (fun b => ((NLb L s0 τ A ρ B s (n + 448) b ∧ ∃ t i, s ≤ t ∧ t < s + n ∧ i < 3 ∧ D t ∧ rdk τ A ρ B 6 t i b) ∨ (∃ u, s ≤ u ∧ u < s + (n + 448) ∧ LSa τ A ρ B 0 u b))) (fun b => (∃ u, s ≤ u ∧ u < s + (n + 448) ∧ LSa τ A ρ B 1 u b))
  have s62 := e (fun b => (((NLb L s0 τ A ρ B s (n + 448) b ∧ ∃ t i, s ≤ t ∧ t < s + n ∧ i < 3 ∧ D t ∧ rdk τ A ρ B 6 t i b) ∨ (∃ u, s ≤ u ∧ u < s + (n + 448) ∧ LSa τ A ρ B 0 u b)) ∨ (∃ u, s ≤ u ∧ u < s + (n + 448) ∧ LSa τ A ρ B 1 u b))) (fun b => (∃ u, s ≤ u ∧ u < s + (n + 448) ∧ LSa τ A ρ B 2 u b))
  have s63 := e (fun b => ((((NLb L s0 τ A ρ B s (n + 448) b ∧ ∃ t i, s ≤ t ∧ t < s + n ∧ i < 3 ∧ D t ∧ rdk τ A ρ B 6 t i b) ∨ (∃ u, s ≤ u ∧ u < s + (n + 448) ∧ LSa τ A ρ B 0 u b)) ∨ (∃ u, s ≤ u ∧ u < s + (n + 448) ∧ LSa τ A ρ B 1 u b)) ∨ (∃ u, s ≤ u ∧ u < s + (n + 448) ∧ LSa τ A ρ B 2 u b))) (fun b => (∃ u, s ≤ u ∧ u < s + (n + 448) ∧ LSa τ A ρ B 3 u b))
  have s64 := e (fun b => (((((NLb L s0 τ A ρ B s (n + 448) b ∧ ∃ t i, s ≤ t ∧ t < s + n ∧ i < 3 ∧ D t ∧ rdk τ A ρ B 6 t i b) ∨ (∃ u, s ≤ u ∧ u < s + (n + 448) ∧ LSa τ A ρ B 0 u b)) ∨ (∃ u, s ≤ u ∧ u < s + (n + 448) ∧ LSa τ A ρ B 1 u b)) ∨ (∃ u, s ≤ u ∧ u < s + (n + 448) ∧ LSa τ A ρ B 2 u b)) ∨ (∃ u, s ≤ u ∧ u < s + (n + 448) ∧ LSa τ A ρ B 3 u b))) (fun b => (∃ u, s ≤ u ∧ u < s + (n + 448) ∧ LSa τ A ρ B 4 u b))
  have s65 := e (fun b => ((((((NLb L s0 τ A ρ B s (n + 448) b ∧ ∃ t i, s ≤ t ∧ t < s + n ∧ i < 3 ∧ D t ∧ rdk τ A ρ B 6 t i b) ∨ (∃ u, s ≤ u ∧ u < s + (n + 448) ∧ LSa τ A ρ B 0 u b)) ∨ (∃ u, s ≤ u ∧ u < s + (n + 448) ∧ LSa τ A ρ B 1 u b)) ∨ (∃ u, s ≤ u ∧ u < s + (n + 448) ∧ LSa τ A ρ B 2 u b)) ∨ (∃ u, s ≤ u ∧ u < s + (n + 448) ∧ LSa τ A ρ B 3 u b)) ∨ (∃ u, s ≤ u ∧ u < s + (n + 448) ∧ LSa τ A ρ B 4 u b))) (fun b => (∃ u, s ≤ u ∧ u < s + (n + 448) ∧ LSa τ A ρ B 5 u b))
  have sa := ctq_mo (P := fun b => ∃ t, s ≤ t ∧ t < s + n ∧ D t ∧ ACC τ A ρ B t b) (Q := fun b => (((((((TOb τ ((b - 1) % 7) b ∧ ∃ t, s ≤ t ∧ t < s + n ∧ D t ∧ ACC τ A ρ B t b) ∨ (∃ u, s ≤ u ∧ u < s + (n + 448) ∧ (D u ∧ u < s + n) ∧ AcA τ A ρ B 0 u b)) ∨ (∃ u, s ≤ u ∧ u < s + (n + 448) ∧ (D u ∧ u < s + n) ∧ AcA τ A ρ B 1 u b)) ∨ (∃ u, s ≤ u ∧ u < s + (n + 448) ∧ (D u ∧ u < s + n) ∧ AcA τ A ρ B 2 u b)) ∨ (∃ u, s ≤ u ∧ u < s + (n + 448) ∧ (D u ∧ u < s + n) ∧ AcA τ A ρ B 3 u b)) ∨ (∃ u, s ≤ u ∧ u < s + (n + 448) ∧ (D u ∧ u < s + n) ∧ AcA τ A ρ B 4 u b)) ∨ (∃ u, s ≤ u ∧ u < s + (n + 448) ∧ (D u ∧ u < s + n) ∧ AcA τ A ρ B 5 u b))) (s := s - 448) (n + 448) (fun b b1 _ ⟨t, t1, t2, t3, t4⟩ => by
    obtain ⟨v, v6, v2, v3, v4, v5, -⟩ := ACC_tk h (by omega : s0 < b) (by omega) (by omega) t4
    by_cases c : CHG τ v (b - 1)
    · have at' : ATk τ v b := ⟨v2, by omega, v4, c⟩
      rcases (by omega : v = 0 ∨ v = 1 ∨ v = 2 ∨ v = 3 ∨ v = 4 ∨ v = 5) with e | e | e | e | e | e
      · rw [e] at at'; have q' : (∃ u, s ≤ u ∧ u < s + (n + 448) ∧ (D u ∧ u < s + n) ∧ AcA τ A ρ B 0 u b) := ⟨t, t1, by omega, ⟨t3, t2⟩, at', t4⟩; exact Or.inl (Or.inl (Or.inl (Or.inl (Or.inl (Or.inr q')))))
      · rw [e] at at'; have q' : (∃ u, s ≤ u ∧ u < s + (n + 448) ∧ (D u ∧ u < s + n) ∧ AcA τ A ρ B 1 u b) := ⟨t, t1, by omega, ⟨t3, t2⟩, at', t4⟩; exact Or.inl (Or.inl (Or.inl (Or.inl (Or.inr q'))))
      · rw [e] at at'; have q' : (∃ u, s ≤ u ∧ u < s + (n + 448) ∧ (D u ∧ u < s + n) ∧ AcA τ A ρ B 2 u b) := ⟨t, t1, by omega, ⟨t3, t2⟩, at', t4⟩; exact Or.inl (Or.inl (Or.inl (Or.inr q')))
      · rw [e] at at'; have q' : (∃ u, s ≤ u ∧ u < s + (n + 448) ∧ (D u ∧ u < s + n) ∧ AcA τ A ρ B 3 u b) := ⟨t, t1, by omega, ⟨t3, t2⟩, at', t4⟩; exact Or.inl (Or.inl (Or.inr q'))
      · rw [e] at at'; have q' : (∃ u, s ≤ u ∧ u < s + (n + 448) ∧ (D u ∧ u < s + n) ∧ AcA τ A ρ B 4 u b) := ⟨t, t1, by omega, ⟨t3, t2⟩, at', t4⟩; exact Or.inl (Or.inr q')
      · rw [e] at at'; have q' : (∃ u, s ≤ u ∧ u < s + (n + 448) ∧ (D u ∧ u < s + n) ∧ AcA τ A ρ B 5 u b) := ⟨t, t1, by omega, ⟨t3, t2⟩, at', t4⟩; exact Or.inr q'
    · have q' : (TOb τ ((b - 1) % 7) b ∧ ∃ t, s ≤ t ∧ t < s + n ∧ D t ∧ ACC τ A ρ B t b) := ⟨by rw [v2]; exact ⟨v2, v4, c⟩, t, t1, t2, t3, t4⟩; exact Or.inl (Or.inl (Or.inl (Or.inl (Or.inl (Or.inl (q')))))))
  have sa0 := e (fun b => (TOb τ ((b - 1) % 7) b ∧ ∃ t, s ≤ t ∧ t < s + n ∧ D t ∧ ACC τ A ρ B t b)) (fun b => (∃ u, s ≤ u ∧ u < s + (n + 448) ∧ (D u ∧ u < s + n) ∧ AcA τ A ρ B 0 u b))
  have sa1 := e (fun b => ((TOb τ ((b - 1) % 7) b ∧ ∃ t, s ≤ t ∧ t < s + n ∧ D t ∧ ACC τ A ρ B t b) ∨ (∃ u, s ≤ u ∧ u < s + (n + 448) ∧ (D u ∧ u < s + n) ∧ AcA τ A ρ B 0 u b))) (fun b => (∃ u, s ≤ u ∧ u < s + (n + 448) ∧ (D u ∧ u < s + n) ∧ AcA τ A ρ B 1 u b))
  have sa2 := e (fun b => (((TOb τ ((b - 1) % 7) b ∧ ∃ t, s ≤ t ∧ t < s + n ∧ D t ∧ ACC τ A ρ B t b) ∨ (∃ u, s ≤ u ∧ u < s + (n + 448) ∧ (D u ∧ u < s + n) ∧ AcA τ A ρ B 0 u b)) ∨ (∃ u, s ≤ u ∧ u < s + (n + 448) ∧ (D u ∧ u < s + n) ∧ AcA τ A ρ B 1 u b))) (fun b => (∃ u, s ≤ u ∧ u < s + (n + 448) ∧ (D u ∧ u < s + n) ∧ AcA τ A ρ B 2 u b))
  have sa3 := e (fun b => ((((TOb τ ((b - 1) % 7) b ∧ ∃ t, s ≤ t ∧ t < s + n ∧ D t ∧ ACC τ A ρ B t b) ∨ (∃ u, s ≤ u ∧ u < s + (n + 448) ∧ (D u ∧ u < s + n) ∧ AcA τ A ρ B 0 u b)) ∨ (∃ u, s ≤ u ∧ u < s + (n + 448) ∧ (D u ∧ u < s + n) ∧ AcA τ A ρ B 1 u b)) ∨ (∃ u, s ≤ u ∧ u < s + (n + 448) ∧ (D u ∧ u < s + n) ∧ AcA τ A ρ B 2 u b))) (fun b => (∃ u, s ≤ u ∧ u < s + (n + 448) ∧ (D u ∧ u < s + n) ∧ AcA τ A ρ B 3 u b))
  have sa4 := e (fun b => (((((TOb τ ((b - 1) % 7) b ∧ ∃ t, s ≤ t ∧ t < s + n ∧ D t ∧ ACC τ A ρ B t b) ∨ (∃ u, s ≤ u ∧ u < s + (n + 448) ∧ (D u ∧ u < s + n) ∧ AcA τ A ρ B 0 u b)) ∨ (∃ u, s ≤ u ∧ u < s + (n + 448) ∧ (D u ∧ u < s + n) ∧ AcA τ A ρ B 1 u b)) ∨ (∃ u, s ≤ u ∧ u < s + (n + 448) ∧ (D u ∧ u < s + n) ∧ AcA τ A ρ B 2 u b)) ∨ (∃ u, s ≤ u ∧ u < s + (n + 448) ∧ (D u ∧ u < s + n) ∧ AcA τ A ρ B 3 u b))) (fun b => (∃ u, s ≤ u ∧ u < s + (n + 448) ∧ (D u ∧ u < s + n) ∧ AcA τ A ρ B 4 u b))
  have sa5 := e (fun b => ((((((TOb τ ((b - 1) % 7) b ∧ ∃ t, s ≤ t ∧ t < s + n ∧ D t ∧ ACC τ A ρ B t b) ∨ (∃ u, s ≤ u ∧ u < s + (n + 448) ∧ (D u ∧ u < s + n) ∧ AcA τ A ρ B 0 u b)) ∨ (∃ u, s ≤ u ∧ u < s + (n + 448) ∧ (D u ∧ u < s + n) ∧ AcA τ A ρ B 1 u b)) ∨ (∃ u, s ≤ u ∧ u < s + (n + 448) ∧ (D u ∧ u < s + n) ∧ AcA τ A ρ B 2 u b)) ∨ (∃ u, s ≤ u ∧ u < s + (n + 448) ∧ (D u ∧ u < s + n) ∧ AcA τ A ρ B 3 u b)) ∨ (∃ u, s ≤ u ∧ u < s + (n + 448) ∧ (D u ∧ u < s + n) ∧ AcA τ A ρ B 4 u b))) (fun b => (∃ u, s ≤ u ∧ u < s + (n + 448) ∧ (D u ∧ u < s + n) ∧ AcA τ A ρ B 5 u b))
  have d6 := ctq_6v (P := fun v u => (D u ∧ u < s + n) ∧ u % 7 = v ∧ ∃ b, ACC τ A ρ B u b) (fun v u q => q.2.1) (s := s) (n + 448)
  have dm : ctq (fun u => ∃ v, v < 6 ∧ (D u ∧ u < s + n) ∧ u % 7 = v ∧ ∃ b, ACC τ A ρ B u b) s (n + 448) ≤ ctq (fun t => D t ∧ ∃ b, ACC τ A ρ B t b) s n := by
    have j := ctq_jn (P := fun u => ∃ v, v < 6 ∧ (D u ∧ u < s + n) ∧ u % 7 = v ∧ ∃ b, ACC τ A ρ B u b) (s := s) n 448
    have o : ctq (fun u => ∃ v, v < 6 ∧ (D u ∧ u < s + n) ∧ u % 7 = v ∧ ∃ b, ACC τ A ρ B u b) (s + n) 448 = 0 := ctq_off _ (fun u u1 _ ⟨v, _, q, _⟩ => by have := q.2; omega)
    have m := ctq_mo (P := fun u => ∃ v, v < 6 ∧ (D u ∧ u < s + n) ∧ u % 7 = v ∧ ∃ b, ACC τ A ρ B u b) (Q := fun t => D t ∧ ∃ b, ACC τ A ρ B t b) (s := s) n (fun u _ _ ⟨v, _, q, _, r⟩ => ⟨q.1, r⟩)
    omega
  have l0 := ls 0 (by omega)
  have a0 := al 0 (by omega)
  have l1 := ls 1 (by omega)
  have a1 := al 1 (by omega)
  have l2 := ls 2 (by omega)
  have a2 := al 2 (by omega)
  have l3 := ls 3 (by omega)
  have a3 := al 3 (by omega)
  have l4 := ls 4 (by omega)
  have a4 := al 4 (by omega)
  have l5 := ls 5 (by omega)
  have a5 := al 5 (by omega)
  have g0 : ∀ K, K = n + 448 → ctq (GNt τ A ρ B 0 (s - 449)) s K + ctq (GNt τ A ρ B 1 (s - 449)) s K + ctq (GNt τ A ρ B 2 (s - 449)) s K + ctq (GNt τ A ρ B 3 (s - 449)) s K + ctq (GNt τ A ρ B 4 (s - 449)) s K + ctq (GNt τ A ρ B 5 (s - 449)) s K + ctq (OKt τ A ρ B) s K ≤ ctq (Kst τ A ρ B) s K + ctq (TAt τ A ρ B (s - 449)) s K := fun K hK => GN_s2 hR h h7 (s1 := s - 449) (s := s) (k := K) (by omega) (by omega)
  have g := g0 _ rfl
  have w := KWH hR h hs (s := s) (k := n) (by omega) (by omega) (by omega) (by omega)
  have e7 := H7B hR (s := s - 7) (n + 7) (by omega)
  rw [show s - 7 + (n + 7) = s + n by omega] at e7
  have f : c7 (τ (s - 7)) ≤ 95 := by
    have l := run_95 hR (by omega) (by omega : 7 ≤ s - 7) (by omega)
    have : c7 (τ (s - 7)) ≤ (ln (τ (s - 7))).length := List.countP_le_length
    omega
  have lk := lkc_c τ (s - 7) (7 + n)
  rw [show s - 7 + (7 + n) = s + n by omega] at lk
  have j1 := ctq_jn (P := LKt τ) (s := s - 7) 7 n
  rw [show s - 7 + 7 = s by omega] at j1
  have j2 := ctq_le (P := LKt τ) (s := s - 7) 7
  have k1 := ctq_tail (P := Kst τ A ρ B) (s := s) (n := n) 448
  have k2 := ctq_tail (P := TAt τ A ρ B (s - 449)) (s := s) (n := n) 448
  have gs : ctq (LKt τ) s n ≤ ctq (fun l => LKt τ l ∧ GLk L τ A ρ B l) s n + ctq (fun l => LKt τ l ∧ ¬ GLk L τ A ρ B l) s n := ctq_add n
  have gm := ctq_mo (P := fun l => LKt τ l ∧ GLk L τ A ρ B l) (Q := GLk L τ A ρ B) (s := s) n (fun l _ _ q => q.2)
  have go := GL_o (L := L) (τ := τ) (A := A) (ρ := ρ) (B := B) (s := s) (k := n) (m := n + 1002) rfl
  have gt := ctq_tail (P := OKt τ A ρ B) (s := s) (n := n + 448) 554
  have gt' : ctq (OKt τ A ρ B) s (n + 1002) ≤ ctq (OKt τ A ρ B) s (n + 448) + 554 := gt
  omega

