-- a name that is accepted some time and whose FETCH is read in a dead tick is an own or a pending one
theorem DKn {L s0 : Nat} {τ : Nat → qS} (hR : RNN L τ) (hs : ∀ t, t ≤ 7 * L → psame (τ 0) (τ t)) {A : Nat → List (Ms × Nat × Nat)} {ρ : Nat → qS × qS × qS} {B : Nat → List (Ms × Nat × Nat) × List (Ms × Nat × Nat) × List (Ms × Nat × Nat)} (h : ANC L s0 τ A ρ B) (h7 : 224 ≤ s0) {t i b : Nat} (t1 : s0 + 900 ≤ t) (t2 : t < 7 * L) (hi : i < 3) (hr : rdk τ A ρ B 5 t i b) (hp : ¬ NAb L s0 τ A ρ B b) (hf : ¬ FRk L s0 τ A B t) : OWb L s0 τ A ρ B b ∨ PNk L s0 τ A ρ B b := by
  have q := rd5_b hR h h7 (by omega) (by omega) hi hr
  obtain ⟨t', t1', t2', ha⟩ : ∃ t', s0 ≤ t' ∧ t' < 7 * L ∧ ACC τ A ρ B t' b := by
    apply Classical.byContradiction
    intro m
    exact hp fun t' q1 q2 q3 => m ⟨t', q1, q2, q3⟩
  rcases DEADF hR h h7 (b := b) (t := t') (v := t' % 7) (by omega) t1' t2' rfl ha (φ := t) (j := i) (by omega) (by omega) hi hr with c | ⟨κ, x, i', y, b1, b2, b3, b4, b5, b6, b7, b8, b9, b10, b11, b12⟩
  · exact Or.inl ⟨t', t1', t2', ha, c⟩
  · rcases b12 with c | ⟨c1, c2, c3⟩
    · exact Or.inr (Or.inl ⟨t', κ, x, i', y, t1', t2', ha, b1, b2, b3, b4, b6, b7, b8, b9, b10, b11, c⟩)
    · obtain ⟨v', -, e2, e3, -⟩ := ACC_tk h (by omega : s0 < b) t1' t2' ha
      have e4 := b4.1
      by_cases mp : mapd (τ κ)
      · by_cases sl : SLT1 τ A (t' % 7) (κ + 1)
        · exact Or.inr (Or.inr ⟨t', κ, t1', t2', ha, b1, by omega, b4, sl⟩)
        · exfalso
          have ym := hd_mem b9
          have h6x : x % 7 < 6 := by have := ha.1; omega
          have yx : y ∈ A x := st_gv h (by omega) (by omega) h6x i' (by omega) y ym.1 b10
          have gv := GVs h.1 (x - s0) (by omega)
          rw [show s0 + (x - s0) = x by omega] at gv
          obtain ⟨g1, -, g3⟩ := gv y yx b10 (by omega)
          have all := TRF hR h hs (v := t' % 7) (κ := κ) (u := y.2.1) ha.1 (by omega) (by omega) (by omega) b4 mp sl (by omega) (by omega) g3 ⟨ym.2, b10⟩
          have al2 := AN_all hR h (g := κ + 1) (t := y.2.1) (by omega) (by omega) all (t - y.2.1) (by omega)
          rw [show y.2.1 + (t - y.2.1) = t by omega] at al2
          obtain ⟨r6, f, fb, fh, -, f5⟩ := hr
          have fm := st_f5 h (by omega) (by omega) r6 i (by omega) f (hd_mem fh).1 f5
          have fs := ANR_fs h.1 (t - s0) (by omega)
          rw [show s0 + (t - s0) = t by omega] at fs
          have := fs f fm f5
          have := al2 f fm
          omega
      · exact absurd ⟨t' % 7, κ, x, i', y, ⟨ha.1, by omega, by omega, b6, b2, b4, b7, b8, b9, b10, b11, c1, c2, by omega⟩, mp⟩ hf
-- all tokens of a name are FETCH letters
def AF (b : Nat) (A : List (Ms × Nat × Nat)) : Prop := ∀ y ∈ A, y.2.2 = b → xw y.1 0 ≠ 6
theorem AF_RD {w e : Int} {t b : Nat} {A A' : List (Ms × Nat × Nat)} (h : AF b A) (r : RDn w e t A A') (hn : ∀ y, hdA w A y → xw y.1 0 = 5 → xw y.1 1 = e → y.2.2 ≠ b) : AF b A' := by
  rcases r with ⟨-, e⟩ | ⟨i, y, c1, c2, c⟩
  · rw [e]; exact h
  · have h1 : AF b (A.eraseIdx i) := fun x hx => h x ((List.eraseIdx_sublist _ _).subset hx)
    rcases c with ⟨-, e⟩ | ⟨d0, d5, z, -, -, -, -, -, -, e⟩
    · rw [e]; exact h1
    · rw [e]
      intro x hx xb
      rw [List.mem_append, List.mem_singleton] at hx
      rcases hx with hx | hx
      · exact h1 x ((tlA_sub _).subset hx) xb
      · rw [hx] at xb
        exact absurd xb (hn y ⟨i, c1, c2⟩ d5 d0)
theorem AF_st {L s0 : Nat} {τ : Nat → qS} (hR : RNN L τ) {A : Nat → List (Ms × Nat × Nat)} {ρ : Nat → qS × qS × qS} {B : Nat → List (Ms × Nat × Nat) × List (Ms × Nat × Nat) × List (Ms × Nat × Nat)} (h : ANC L s0 τ A ρ B) (h7 : 224 ≤ s0) {u b : Nat} (h1 : s0 ≤ u) (h2 : u < 7 * L) (hf : AF b (A u)) (hn : ∀ i, i < 3 → ¬ rdk τ A ρ B 5 u i b) (h6 : u % 7 < 6) : ∀ i, i ≤ 3 → AF b (stA A B u i)
  | 0, _ => hf
  | i + 1, hi => AF_RD (AF_st hR h h7 h1 h2 hf hn h6 i (by omega)) (st_rd h h1 h2 h6 (i := i) (by omega)) (fun y a5 a a1 e => hn i (by omega) ⟨h6, y, e, a5, a1, a⟩)
theorem AF_t {L s0 : Nat} {τ : Nat → qS} (hR : RNN L τ) {A : Nat → List (Ms × Nat × Nat)} {ρ : Nat → qS × qS × qS} {B : Nat → List (Ms × Nat × Nat) × List (Ms × Nat × Nat) × List (Ms × Nat × Nat)} (h : ANC L s0 τ A ρ B) (h7 : 224 ≤ s0) {u b : Nat} (h1 : s0 ≤ u) (h2 : u < 7 * L) (hb : b ≤ u) (hf : AF b (A u)) (hn : ∀ i, i < 3 → ¬ rdk τ A ρ B 5 u i b) : AF b (A (u + 1)) := by
  have ap : ∀ (C : List (Ms × Nat × Nat)) (z : Ms), AF b C → AF b (tlA C ++ [(z, u + 1, u + 1)]) := fun C z hC x hx xb => by
    rw [List.mem_append, List.mem_singleton] at hx
    rcases hx with hx | hx
    · exact hC x ((tlA_sub _).subset hx) xb
    · rw [hx] at xb
      have : u + 1 = b := xb
      omega
  by_cases h6 : u % 7 < 6
  · have s3 : AF b (B u).2.2 := AF_st hR h h7 h1 h2 hf hn h6 3 (by omega)
    obtain ⟨-, -, -, -, -, s, a, -⟩ := h.2 u h1 h2 h6
    rcases a with ⟨e, -⟩ | ⟨z, e, -⟩ | ⟨z, z', e, -⟩
    · rw [e]; exact s3
    · rw [e]; exact ap _ z s3
    · rw [e]; exact ap _ z' (ap _ z s3)
  · rcases h.1.2.2 u h1 h2 with ⟨e, -⟩ | ⟨-, σ1, σ2, A1, A2, -, -, -, -, n1, n2, n3⟩
    · omega
    · have hr : ∀ {C C' : List (Ms × Nat × Nat)}, HRn u C C' → AF b C → AF b C' := fun {C C'} r hC => by
        rcases r with ⟨-, e⟩ | ⟨i, y, -, -, c⟩
        · rw [e]; exact hC
        · have k1 : AF b (C.eraseIdx i) := fun x hx => hC x ((List.eraseIdx_sublist _ _).subset hx)
          rcases c with e | ⟨z, -, e⟩
          · rw [e]; exact k1
          · rw [e]; exact ap _ z k1
      exact hr n3 (hr n2 (hr n1 hf))
theorem F5R {L s0 : Nat} {τ : Nat → qS} (hR : RNN L τ) {A : Nat → List (Ms × Nat × Nat)} {ρ : Nat → qS × qS × qS} {B : Nat → List (Ms × Nat × Nat) × List (Ms × Nat × Nat) × List (Ms × Nat × Nat)} (h : ANC L s0 τ A ρ B) (h7 : 224 ≤ s0) {t b T : Nat} (h1 : s0 ≤ t) (hb : s0 < b) (hbt : b ≤ t) (hf : AF b (A t)) (tT : t ≤ T) (T2 : T < 7 * L) (ha : ACC τ A ρ B T b) : ∃ φ i, t ≤ φ ∧ φ ≤ T ∧ i < 3 ∧ rdk τ A ρ B 5 φ i b := by
  apply Classical.byContradiction
  intro n
  have nr : ∀ u, t ≤ u → u ≤ T → ∀ i, i < 3 → ¬ rdk τ A ρ B 5 u i b := fun u u1 u2 i hi r => n ⟨u, i, u1, u2, hi, r⟩
  have key : ∀ k, t + k ≤ T → AF b (A (t + k)) := fun k => by
    induction k with
    | zero => intro _; exact hf
    | succ k ih => intro q; exact AF_t hR h h7 (u := t + k) (by omega) (by omega) (by omega) (ih (by omega)) (nr _ (by omega) (by omega))
  have kT := key (T - t) (by omega)
  rw [show t + (T - t) = T by omega] at kT
  obtain ⟨h6, y, yb, c⟩ := ha
  have st := AF_st hR h h7 (u := T) (b := b) (by omega) T2 kT (nr T tT (Nat.le_refl _)) h6
  rcases c with c | c | c
  · exact st 0 (by omega) y (hd_mem c.1).1 yb c.2.2.1
  · exact st 1 (by omega) y (hd_mem c.1).1 yb c.2.2.1
  · exact st 2 (by omega) y (hd_mem c.1).1 yb c.2.2.1

