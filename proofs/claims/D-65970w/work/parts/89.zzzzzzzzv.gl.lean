-- GL: the names of any set are at most the ticks in which they are accepted, the time-out and NLb names among them, and the gains
theorem GL {L s0 : Nat} {τ : Nat → qS} (hR : RNN L τ) {A : Nat → List (Ms × Nat × Nat)} {ρ : Nat → qS × qS × qS} {B : Nat → List (Ms × Nat × Nat) × List (Ms × Nat × Nat) × List (Ms × Nat × Nat)} (h : ANC L s0 τ A ρ B) {Z : Nat → Prop} {s K : Nat} (h1 : s0 + 449 ≤ s) (h2 : s + K ≤ 7 * L) (hZ : ∀ b u, s - 448 ≤ b → b < s - 448 + K → Z b → s0 ≤ u → u < 7 * L → ACC τ A ρ B u b → s ≤ u ∧ u < s + K) : ctq Z (s - 448) K ≤ ctq (fun u => ∃ b, Z b ∧ ACC τ A ρ B u b) s K + ctq (fun b => Z b ∧ (TOb τ ((b - 1) % 7) b ∨ NLb L s0 τ A ρ B s K b)) (s - 448) K + (ctq (GNt τ A ρ B 0 (s - 449)) s K + ctq (GNt τ A ρ B 1 (s - 449)) s K + ctq (GNt τ A ρ B 2 (s - 449)) s K + ctq (GNt τ A ρ B 3 (s - 449)) s K + ctq (GNt τ A ρ B 4 (s - 449)) s K + ctq (GNt τ A ρ B 5 (s - 449)) s K) + 2694 := by
  have al := AL6 hR h (Y := fun u => ∃ b, Z b ∧ ACC τ A ρ B u b) (s := s) (K := K) h1 h2
  have y := ctq_mo (P := fun u => (∃ b, Z b ∧ ACC τ A ρ B u b) ∧ ∃ b, ACC τ A ρ B u b) (Q := fun u => ∃ b, Z b ∧ ACC τ A ρ B u b) (s := s) K (fun u _ _ q => q.1)
  have o1 := ctq_or (P := Z) (Q := fun b => Z b ∧ (TOb τ ((b - 1) % 7) b ∨ NLb L s0 τ A ρ B s K b)) (R := fun b => (∃ v u, v < 6 ∧ s ≤ u ∧ u < s + K ∧ LSa τ A ρ B v u b) ∨ (∃ v u, v < 6 ∧ s ≤ u ∧ u < s + K ∧ (∃ b, Z b ∧ ACC τ A ρ B u b) ∧ AcA τ A ρ B v u b)) (s := s - 448) K (fun b b1 b2 hz => by
    by_cases hp : NAb L s0 τ A ρ B b
    · by_cases c : ∃ v u, v < 6 ∧ s ≤ u ∧ u < s + K ∧ LSa τ A ρ B v u b
      · exact Or.inr (Or.inl c)
      · exact Or.inl ⟨hz, Or.inr ⟨hp, c⟩⟩
    · obtain ⟨t', t1', t2', ha⟩ : ∃ t', s0 ≤ t' ∧ t' < 7 * L ∧ ACC τ A ρ B t' b := by
        apply Classical.byContradiction
        intro m
        exact hp fun t' q1 q2 q3 => m ⟨t', q1, q2, q3⟩
      obtain ⟨r1, r2⟩ := hZ b t' b1 b2 hz t1' t2' ha
      obtain ⟨v, v6, v2, v3, v4, v5, -⟩ := ACC_tk h (by omega : s0 < b) t1' t2' ha
      by_cases c : CHG τ v (b - 1)
      · exact Or.inr (Or.inr ⟨v, t', v6, r1, r2, ⟨b, hz, ha⟩, ⟨v2, by omega, v4, c⟩, ha⟩)
      · exact Or.inl ⟨hz, Or.inl (by rw [v2]; exact ⟨v2, v4, c⟩)⟩)
  have o3 := ctq_or (P := fun b => (∃ v u, v < 6 ∧ s ≤ u ∧ u < s + K ∧ LSa τ A ρ B v u b) ∨ (∃ v u, v < 6 ∧ s ≤ u ∧ u < s + K ∧ (∃ b, Z b ∧ ACC τ A ρ B u b) ∧ AcA τ A ρ B v u b)) (Q := fun b => ∃ v u, v < 6 ∧ s ≤ u ∧ u < s + K ∧ LSa τ A ρ B v u b) (R := fun b => ∃ v u, v < 6 ∧ s ≤ u ∧ u < s + K ∧ (∃ b, Z b ∧ ACC τ A ρ B u b) ∧ AcA τ A ρ B v u b) (s := s - 448) K (fun b _ _ q => q)
  omega
-- sums over payers
theorem ctq_dj {P : Nat → Nat → Prop} {a x m : Nat} (h : ∀ c c' b, P c b → P c' b → c = c') : ∀ k, smq (fun c => ctq (P c) x m) a k ≤ ctq (fun b => ∃ c, a ≤ c ∧ c < a + k ∧ P c b) x m
  | 0 => by exact Nat.zero_le _
  | k + 1 => by
    have ih := ctq_dj (P := P) (a := a) (x := x) (m := m) h k
    have o := ctq_2 (P := fun b => ∃ c, a ≤ c ∧ c < a + k ∧ P c b) (Q := P (a + k)) (R := fun b => ∃ c, a ≤ c ∧ c < a + (k + 1) ∧ P c b) (s := x) m (fun b _ _ => ⟨fun ⟨c, c1, c2, c3⟩ => ⟨c, c1, by omega, c3⟩, fun q => ⟨a + k, by omega, by omega, q⟩, fun ⟨⟨c, c1, c2, c3⟩, q⟩ => by
      have := h c (a + k) b c3 q
      omega⟩)
    have e : smq (fun c => ctq (P c) x m) a (k + 1) = smq (fun c => ctq (P c) x m) a k + ctq (P (a + k)) x m := rfl
    omega
theorem ctq_un {P : Nat → Nat → Prop} {a x m : Nat} : ∀ k, ctq (fun b => ∃ c, a ≤ c ∧ c < a + k ∧ P c b) x m ≤ smq (fun c => ctq (P c) x m) a k
  | 0 => by
    rw [ctq_off m (fun b _ _ ⟨s, s1, s2, _⟩ => by omega)]
    exact Nat.zero_le _
  | k + 1 => by
    have ih := ctq_un (P := P) (a := a) (x := x) (m := m) k
    have o := ctq_or (P := fun b => ∃ c, a ≤ c ∧ c < a + (k + 1) ∧ P c b) (Q := fun b => ∃ c, a ≤ c ∧ c < a + k ∧ P c b) (R := P (a + k)) (s := x) m (fun b _ _ ⟨s, s1, s2, s3⟩ => by
      by_cases e : s = a + k
      · right; rw [← e]; exact s3
      · exact Or.inl ⟨s, s1, by omega, s3⟩)
    have e : smq (fun c => ctq (P c) x m) a (k + 1) = smq (fun c => ctq (P c) x m) a k + ctq (P (a + k)) x m := rfl
    omega
theorem smq_3 {f g p e : Nat → Nat} {a : Nat} : ∀ k, (∀ c, a ≤ c → c < a + k → f c + g c + p c ≤ e c) → smq f a k + smq g a k + smq p a k ≤ smq e a k
  | 0, _ => by exact Nat.le_refl _
  | k + 1, h => by
    have ih := smq_3 (f := f) (g := g) (p := p) (e := e) (a := a) k (fun c c1 c2 => h c c1 (by omega))
    have l := h (a + k) (by omega) (by omega)
    have e1 : smq f a (k + 1) = smq f a k + f (a + k) := rfl
    have e2 : smq g a (k + 1) = smq g a k + g (a + k) := rfl
    have e3 : smq p a (k + 1) = smq p a k + p (a + k) := rfl
    have e5 : smq e a (k + 1) = smq e a k + e (a + k) := rfl
    omega
-- GLS: if every payer c has its own names (disjoint sets) with a surplus p c, the sum of the surpluses is at most the gains
theorem GLS {L s0 : Nat} {τ : Nat → qS} (hR : RNN L τ) {A : Nat → List (Ms × Nat × Nat)} {ρ : Nat → qS × qS × qS} {B : Nat → List (Ms × Nat × Nat) × List (Ms × Nat × Nat) × List (Ms × Nat × Nat)} (h : ANC L s0 τ A ρ B) {Zf : Nat → Nat → Prop} {p : Nat → Nat} {s K a k : Nat} (h1 : s0 + 449 ≤ s) (h2 : s + K ≤ 7 * L) (dj : ∀ c c' b, Zf c b → Zf c' b → c = c') (hZ : ∀ c b u, a ≤ c → c < a + k → s - 448 ≤ b → b < s - 448 + K → Zf c b → s0 ≤ u → u < 7 * L → ACC τ A ρ B u b → s ≤ u ∧ u < s + K) (loc : ∀ c, a ≤ c → c < a + k → ctq (fun u => ∃ b, Zf c b ∧ ACC τ A ρ B u b) s K + ctq (fun b => Zf c b ∧ (TOb τ ((b - 1) % 7) b ∨ NLb L s0 τ A ρ B s K b)) (s - 448) K + p c ≤ ctq (Zf c) (s - 448) K) : smq p a k ≤ (ctq (GNt τ A ρ B 0 (s - 449)) s K + ctq (GNt τ A ρ B 1 (s - 449)) s K + ctq (GNt τ A ρ B 2 (s - 449)) s K + ctq (GNt τ A ρ B 3 (s - 449)) s K + ctq (GNt τ A ρ B 4 (s - 449)) s K + ctq (GNt τ A ρ B 5 (s - 449)) s K) + 2694 := by
  have g := GL hR h (Z := fun b => ∃ c, a ≤ c ∧ c < a + k ∧ Zf c b) (s := s) (K := K) h1 h2 (fun b u b1 b2 ⟨c, c1, c2, c3⟩ u1 u2 ha => hZ c b u c1 c2 b1 b2 c3 u1 u2 ha)
  have d := ctq_dj (P := Zf) (a := a) (x := s - 448) (m := K) dj k
  have m1 := ctq_mo (P := fun u => ∃ b, (∃ c, a ≤ c ∧ c < a + k ∧ Zf c b) ∧ ACC τ A ρ B u b) (Q := fun u => ∃ c, a ≤ c ∧ c < a + k ∧ ∃ b, Zf c b ∧ ACC τ A ρ B u b) (s := s) K (fun u _ _ ⟨b, ⟨c, c1, c2, c3⟩, q⟩ => ⟨c, c1, c2, b, c3, q⟩)
  have u1 := ctq_un (P := fun c u => ∃ b, Zf c b ∧ ACC τ A ρ B u b) (a := a) (x := s) (m := K) k
  have m2 := ctq_mo (P := fun b => (∃ c, a ≤ c ∧ c < a + k ∧ Zf c b) ∧ (TOb τ ((b - 1) % 7) b ∨ NLb L s0 τ A ρ B s K b)) (Q := fun b => ∃ c, a ≤ c ∧ c < a + k ∧ (Zf c b ∧ (TOb τ ((b - 1) % 7) b ∨ NLb L s0 τ A ρ B s K b))) (s := s - 448) K (fun b _ _ ⟨⟨c, c1, c2, c3⟩, q⟩ => ⟨c, c1, c2, c3, q⟩)
  have u2 := ctq_un (P := fun c b => Zf c b ∧ (TOb τ ((b - 1) % 7) b ∨ NLb L s0 τ A ρ B s K b)) (a := a) (x := s - 448) (m := K) k
  have sm := smq_3 (f := fun c => ctq (fun u => ∃ b, Zf c b ∧ ACC τ A ρ B u b) s K) (g := fun c => ctq (fun b => Zf c b ∧ (TOb τ ((b - 1) % 7) b ∨ NLb L s0 τ A ρ B s K b)) (s - 448) K) (p := p) (e := fun c => ctq (Zf c) (s - 448) K) (a := a) k loc
  omega

