def hdA (w : Int) (A : List (Ms × Nat × Nat)) (y : Ms × Nat × Nat) : Prop := ∃ i : Nat, (prA A).findIdx? (fun m => m.1 == w) = some i ∧ A[i]? = some y
theorem hdA_u {w : Int} {A : List (Ms × Nat × Nat)} {y y' : Ms × Nat × Nat} (h : hdA w A y) (h' : hdA w A y') : y = y' := by
  obtain ⟨i, a, b⟩ := h
  obtain ⟨j, c, d⟩ := h'
  rw [a] at c
  have e := Option.some.inj c
  subst e
  rw [b] at d
  exact Option.some.inj d
def acy (w : Int) (σ : qS) (A : List (Ms × Nat × Nat)) (y : Ms × Nat × Nat) : Prop := hdA w A y ∧ xw y.1 1 = σ 31 0 ∧ xw y.1 0 = 6 ∧ fits w σ y.1
theorem RD_acc {w : Int} {σ σ' : qS} (h : RD w σ σ') {A : List (Ms × Nat × Nat)} (hA : prA A = ln σ) : same w σ σ' ∨ (σ 62 w = -1) ∨ ∃ y, acy w σ A y := by
  obtain ⟨-, -, -, c⟩ := h
  rcases c with ⟨-, -, c⟩ | ⟨i, x, c1, c2, c⟩
  · exact Or.inl c
  · rw [← hA] at c1 c2
    obtain ⟨y, y1, y2⟩ := pr_get c2
    subst y2
    rcases c with ⟨-, -, c⟩ | ⟨-, -, -, c⟩ | ⟨-, -, c, -⟩ | ⟨d0, d1, -, c⟩
    · exact Or.inl c
    · rcases c with ⟨c, -⟩ | ⟨-, c⟩
      · exact Or.inr (Or.inl c)
      · exact Or.inl c
    · exact Or.inl c
    · rcases c with ⟨-, c⟩ | ⟨c, -⟩
      · exact Or.inl c
      · exact Or.inr (Or.inr ⟨y, ⟨i, c1, y1⟩, d0, d1, c⟩)
theorem acy_rm {w e : Int} {t : Nat} {σ : qS} {A A' : List (Ms × Nat × Nat)} {y : Ms × Nat × Nat} (h : acy w σ A y) (r : RDn w e t A A') : tbc y.2.2 A' + 1 ≤ tbc y.2.2 A := by
  obtain ⟨⟨i, a, b⟩, -, h6, -⟩ := h
  rcases r with ⟨c, -⟩ | ⟨j, y', c1, c2, c⟩
  · rw [a] at c; cases c
  · have ey : y = y' := hdA_u ⟨i, a, b⟩ ⟨j, c1, c2⟩
    subst ey
    rcases c with ⟨-, rfl⟩ | ⟨-, d5, -⟩
    · have p := cpA_er (fun x => tokb x && decide (x.2.2 = y.2.2)) A j y c2
      have k : tokb y = true := (tokb_i y).mpr (Or.inr h6)
      rw [if_pos (by rw [k, decide_eq_true rfl]; rfl)] at p
      unfold tbc
      omega
    · omega
def WTc (w : Int) (t : Nat) (σ σ' : qS) (A A' : List (Ms × Nat × Nat)) (ρ : qS × qS × qS) (B : List (Ms × Nat × Nat) × List (Ms × Nat × Nat) × List (Ms × Nat × Nat)) : Prop := WD w σ ρ.1 ρ.2.1 ρ.2.2 σ' ∧ (prA A = ln σ ∧ prA B.1 = ln ρ.1 ∧ prA B.2.1 = ln ρ.2.1 ∧ prA B.2.2 = ln ρ.2.2 ∧ prA A' = ln σ') ∧ RDn w (σ 31 0) t A B.1 ∧ RDn w (ρ.1 31 0) t B.1 B.2.1 ∧ RDn w (ρ.2.1 31 0) t B.2.1 B.2.2 ∧ ∃ s, ACn t B.2.2 A' s ∧ OWN w σ' s
def ANC (L s0 : Nat) (τ : Nat → qS) (A : Nat → List (Ms × Nat × Nat)) (ρ : Nat → qS × qS × qS) (B : Nat → List (Ms × Nat × Nat) × List (Ms × Nat × Nat) × List (Ms × Nat × Nat)) : Prop := ANR L s0 τ A ∧ ∀ t, s0 ≤ t → t < 7 * L → t % 7 < 6 → WTc ((t % 7 : Nat) : Int) t (τ t) (τ (t + 1)) (A t) (A (t + 1)) (ρ t) (B t)
theorem ANC_ex {L : Nat} {τ : Nat → qS} (h : RNN L τ) {s0 : Nat} (hs : s0 ≤ 7 * L) : ∃ A ρ B, ANC L s0 τ A ρ B := by
  obtain ⟨A, hA⟩ := ANR_ex h hs
  have key : ∀ t, ∃ q : (qS × qS × qS) × (List (Ms × Nat × Nat) × List (Ms × Nat × Nat) × List (Ms × Nat × Nat)), s0 ≤ t → t < 7 * L → t % 7 < 6 → WTc ((t % 7 : Nat) : Int) t (τ t) (τ (t + 1)) (A t) (A (t + 1)) q.1 q.2 := fun t => by
    by_cases c : s0 ≤ t ∧ t < 7 * L ∧ t % 7 < 6
    · rcases hA.2.2 t c.1 c.2.1 with ⟨-, σ1, σ2, σ3, A1, A2, A3, a, b, r1, r2, r3, d⟩ | ⟨e, -⟩
      · exact ⟨((σ1, σ2, σ3), (A1, A2, A3)), fun _ _ _ => ⟨a, b, r1, r2, r3, d⟩⟩
      · omega
    · exact ⟨((τ 0, τ 0, τ 0), ([], [], [])), fun h1 h2 h3 => absurd ⟨h1, h2, h3⟩ c⟩
  refine ⟨A, fun t => (Classical.choose (key t)).1, fun t => (Classical.choose (key t)).2, hA, fun t h1 h2 h3 => Classical.choose_spec (key t) h1 h2 h3⟩
def ACC (τ : Nat → qS) (A : Nat → List (Ms × Nat × Nat)) (ρ : Nat → qS × qS × qS) (B : Nat → List (Ms × Nat × Nat) × List (Ms × Nat × Nat) × List (Ms × Nat × Nat)) (t b : Nat) : Prop := t % 7 < 6 ∧ ∃ y, y.2.2 = b ∧ (acy ((t % 7 : Nat) : Int) (τ t) (A t) y ∨ acy ((t % 7 : Nat) : Int) (ρ t).1 (B t).1 y ∨ acy ((t % 7 : Nat) : Int) (ρ t).2.1 (B t).2.1 y)
theorem ANC_once {L s0 : Nat} {τ : Nat → qS} {A : Nat → List (Ms × Nat × Nat)} {ρ : Nat → qS × qS × qS} {B : Nat → List (Ms × Nat × Nat) × List (Ms × Nat × Nat) × List (Ms × Nat × Nat)} (h : ANC L s0 τ A ρ B) {b : Nat} (hb : s0 < b) {t : Nat} (h1 : s0 ≤ t) (h2 : t < 7 * L) (ha : ACC τ A ρ B t b) : tbc b (A t) = 1 ∧ b ≤ t ∧ ∀ u, t < u → u ≤ 7 * L → tbc b (A u) = 0 := by
  obtain ⟨h6, y, yb, c⟩ := ha
  obtain ⟨-, -, r1, r2, r3, s, a, o⟩ := h.2 t h1 h2 h6
  have t0 := ANR_tb h.1 hb (t - s0) (by omega)
  rw [show s0 + (t - s0) = t by omega] at t0
  have x1 := RDn_tb r1 b
  have x2 := RDn_tb r2 b
  have x3 := RDn_tb r3 b
  have x4 := ACn_tb a o b
  have rm : 1 ≤ tbc b (A t) ∧ tbc b (B t).2.2 + 1 ≤ tbc b (A t) := by
    subst yb
    rcases c with c | c | c
    · have := acy_rm c r1; omega
    · have := acy_rm c r2; omega
    · have := acy_rm c r3; omega
  have bt : b ≤ t := by
    apply Classical.byContradiction
    intro n
    rw [if_neg n] at t0
    omega
  rw [if_pos bt] at t0
  rw [if_neg (by omega)] at x4
  refine ⟨by omega, bt, fun u hu hl => ?_⟩
  have key : ∀ k, t + 1 + k ≤ 7 * L → tbc b (A (t + 1 + k)) = 0 := fun k => by
    induction k with
    | zero => intro _; rw [Nat.add_zero]; omega
    | succ k ih =>
      intro hk
      have i := ih (by omega)
      rw [show t + 1 + (k + 1) = t + 1 + k + 1 by omega]
      rcases h.1.2.2 (t + 1 + k) (by omega) (by omega) with ⟨-, σ1, σ2, σ3, A1, A2, A3, -, -, q1, q2, q3, s', a', o'⟩ | ⟨-, σ1, σ2, A1, A2, -, -, -, -, q1, q2, q3⟩
      · have y1 := RDn_tb q1 b
        have y2 := RDn_tb q2 b
        have y3 := RDn_tb q3 b
        have y4 := ACn_tb a' o' b
        rw [if_neg (by omega)] at y4
        omega
      · have y1 := HRn_tb q1 b
        have y2 := HRn_tb q2 b
        have y3 := HRn_tb q3 b
        omega
  have := key (u - (t + 1)) (by omega)
  rw [show t + 1 + (u - (t + 1)) = u by omega] at this
  exact this
theorem ANC_ff {L s0 : Nat} {τ : Nat → qS} (hR : RNN L τ) {A : Nat → List (Ms × Nat × Nat)} {ρ : Nat → qS × qS × qS} {B : Nat → List (Ms × Nat × Nat) × List (Ms × Nat × Nat) × List (Ms × Nat × Nat)} (h : ANC L s0 τ A ρ B) {t : Nat} (h0 : 7 ≤ t) (h1 : s0 ≤ t) (h2 : t < 7 * L) (hf : ffq τ t = 1) : ∃ b, ACC τ A ρ B t b := by
  have g1 := gq_b τ t
  have g2 := gsq_b τ t
  have c : gq τ t = 1 := by unfold ffq at hf; omega
  have cs : gsq τ t = 0 := by unfold ffq at hf; omega
  have ct : gtq τ t = 0 := by unfold ffq at hf; omega
  have h6 : t % 7 < 6 := by
    apply Classical.byContradiction
    intro n
    unfold gq at c
    rw [if_neg n] at c
    omega
  obtain ⟨wd, ⟨p0, p1, p2, -, -⟩, -⟩ := h.2 t h1 h2 h6
  obtain ⟨r1, r2, r3, a, ⟨j1, j2, j3, j4⟩, -⟩ := wd
  have hg := run_g1 hR h6 h0 (by omega : t ≤ 7 * L)
  have f1 : 38 ≤ τ (t + 1) 62 ((t % 7 : Nat) : Int) ∧ τ (t + 1) 65 ((t % 7 : Nat) : Int) = 1 := by
    unfold gq at c
    rw [if_pos h6] at c
    unfold fe at c
    by_cases d : 38 ≤ τ (t + 1) 62 ((t % 7 : Nat) : Int) ∧ τ (t + 1) 65 ((t % 7 : Nat) : Int) = 1
    · exact d
    · rw [if_neg d] at c; omega
  have nt : τ t 62 ((t % 7 : Nat) : Int) ≠ -1 := fun e => by
    have : gsq τ t = 1 := by unfold gsq; exact if_pos ⟨c, e⟩
    omega
  have n1 := RD_rt r1 nt
  have n2 := RD_rt r2 n1
  rcases RD_acc r1 p0 with s | s | ⟨y, s⟩
  · rcases RD_acc r2 p1 with s' | s' | ⟨y, s'⟩
    · rcases RD_acc r3 p2 with s'' | s'' | ⟨y, s''⟩
      · exfalso
        have z := (s.tr s').tr s''
        have q1 := RD_ra r1 (fun e => by have := hg e; omega)
        have q2 := RD_ra r2 q1
        have q3 := RD_ra r3 q2
        obtain ⟨b1, b2, b3, b4, b5⟩ := ACT_rg j3.1 a q3 f1.1 f1.2
        have e1 := z.1
        have e3 := z.2.2.1
        have gg := hg (by omega)
        have ft : fto (τ t) (τ (t + 1)) ((t % 7 : Nat) : Int) := ⟨by omega, by omega, by omega, by rw [b4]; exact z.2.1, by rw [b5]; exact z.2.2.2.2, f1.2⟩
        have : gtq τ t = 1 := by unfold gtq; exact if_pos ⟨c, ft⟩
        omega
      · exact absurd s'' n2
      · exact ⟨y.2.2, h6, y, rfl, Or.inr (Or.inr s'')⟩
    · exact absurd s' n1
    · exact ⟨y.2.2, h6, y, rfl, Or.inr (Or.inl s')⟩
  · exact absurd s nt
  · exact ⟨y.2.2, h6, y, rfl, Or.inl s⟩

