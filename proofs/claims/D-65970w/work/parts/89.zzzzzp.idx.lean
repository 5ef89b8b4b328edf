-- idle ticks counted exactly: ends of tasks, ASKs, silent ticks
theorem RD_id {w : Int} {σ σ' : qS} (h : RD w σ σ') (hj : JI False (-1) σ) (ht : σ' 62 w = -1) : σ 62 w = -1 ∧ σ' 65 w = σ 65 w := by
  have h0 : σ 62 w = -1 := by
    apply Classical.byContradiction
    intro n
    have := RD_tk h n
    omega
  refine ⟨h0, ?_⟩
  obtain ⟨-, -, -, c⟩ := h
  rcases c with ⟨-, -, c⟩ | ⟨i, x, c1, c2, c⟩
  · exact c.2.2.1
  · rcases c with ⟨-, -, c⟩ | ⟨d0, d1, -, c⟩ | ⟨-, -, c, -⟩ | ⟨-, -, -, c⟩
    · exact c.2.2.1
    · rcases c with ⟨-, c, -⟩ | ⟨c, -⟩
      · have hx : x ∈ ln σ := List.mem_of_getElem? c2
        have lo := (hj.2.2.2.2.2.2.2.1 x hx).2 d0
        rcases lo with ⟨-, l⟩ | ⟨-, l⟩
        · rcases l with ⟨l, -⟩ | ⟨l, -⟩ | ⟨l, -⟩ | ⟨l, -⟩ <;> omega
        · rcases l with ⟨-, g⟩ | ⟨l, -⟩ | ⟨l, -⟩
          · rcases g with g | g
            · have := g.1; omega
            · have := g.1; omega
          · omega
          · omega
      · exact absurd h0 c
    · exact c.2.2.1
    · rcases c with ⟨-, c⟩ | ⟨f, -⟩
      · exact c.2.2.1
      · have := f.1; omega
theorem RD_gd {w : Int} {σ σ' : qS} (h : RD w σ σ') (h0 : σ 62 w = -1) (h1 : σ' 62 w ≠ -1) : nk 2 w σ = 1 := by
  obtain ⟨-, -, -, c⟩ := h
  rcases c with ⟨-, -, c⟩ | ⟨i, x, c1, c2, c⟩
  · exact absurd (c.1.trans h0) h1
  · rcases c with ⟨-, -, c⟩ | ⟨d0, d1, -, -⟩ | ⟨-, -, c, -⟩ | ⟨-, -, -, c⟩
    · exact absurd (c.1.trans h0) h1
    · exact nk_1 c1 c2 d0 d1
    · exact absurd (c.1.trans h0) h1
    · rcases c with ⟨-, c⟩ | ⟨f, -⟩
      · exact absurd (c.1.trans h0) h1
      · have := f.1; omega
def gdq (τ : Nat → qS) (ρ : Nat → qS × qS × qS) (t : Nat) : Nat := if t % 7 < 6 ∧ τ t 62 ((t % 7 : Nat) : Int) = -1 ∧ (ρ t).2.2 62 ((t % 7 : Nat) : Int) ≠ -1 then 1 else 0
def FZt (τ : Nat → qS) (ρ : Nat → qS × qS × qS) (t : Nat) : Prop := t % 7 < 6 ∧ (ρ t).2.2 62 ((t % 7 : Nat) : Int) ≠ -1 ∧ τ (t + 1) 62 ((t % 7 : Nat) : Int) = -1
def SIa (τ : Nat → qS) (ρ : Nat → qS × qS × qS) (a : Int) (t : Nat) : Prop := t % 7 < 6 ∧ (ρ t).2.2 62 ((t % 7 : Nat) : Int) = -1 ∧ τ t 62 ((t % 7 : Nat) : Int) = -1 ∧ τ t 65 ((t % 7 : Nat) : Int) = a ∧ τ (t + 1) 62 ((t % 7 : Nat) : Int) = -1
theorem ag_b {σ : qS} (h : GS σ) {w : Int} (hw : 0 ≤ w ∧ w < 6) (ht : σ 62 w = -1) : 0 ≤ σ 65 w ∧ σ 65 w ≤ 5 := by
  have a := h.2.2.1 w hw.1 hw.2
  rcases h.1.2.2.2.2.2.2.2.2.1 w hw.1 hw.2 (by omega) a.1 with ⟨-, c, -⟩ | ⟨c, -⟩
  · exact c
  · exact absurd ht c
theorem id_cs {L s0 : Nat} {τ : Nat → qS} (hR : RNN L τ) {A : Nat → List (Ms × Nat × Nat)} {ρ : Nat → qS × qS × qS} {B : Nat → List (Ms × Nat × Nat) × List (Ms × Nat × Nat) × List (Ms × Nat × Nat)} (h : ANC L s0 τ A ρ B) {t : Nat} (h1 : s0 ≤ t) (h2 : t < 7 * L) (h6 : t % 7 < 6) (ht : τ (t + 1) 62 ((t % 7 : Nat) : Int) = -1) : (FZt τ ρ t ∧ τ (t + 1) 65 ((t % 7 : Nat) : Int) = 0) ∨ ((ρ t).2.2 62 ((t % 7 : Nat) : Int) = -1 ∧ τ t 62 ((t % 7 : Nat) : Int) = -1 ∧ τ (t + 1) 65 ((t % 7 : Nat) : Int) = (if τ t 65 ((t % 7 : Nat) : Int) = 5 then 0 else τ t 65 ((t % 7 : Nat) : Int) + 1)) := by
  obtain ⟨⟨r1, r2, r3, a, ⟨j1, j2, -, -⟩, -⟩, -⟩ := h.2 t h1 h2 h6
  by_cases c : (ρ t).2.2 62 ((t % 7 : Nat) : Int) = -1
  · right
    obtain ⟨c2, a3⟩ := RD_id r3 j2 c
    obtain ⟨c1, a2⟩ := RD_id r2 j1 c2
    obtain ⟨c0, a1⟩ := RD_id r1 (hR.1 t (by omega)).1 c1
    refine ⟨c, c0, ?_⟩
    obtain ⟨-, -, -, z⟩ := a
    rcases z with ⟨-, -, -, z, -⟩ | ⟨z, -⟩ | ⟨z, -⟩
    · rw [z, a3, a2, a1]
    · omega
    · omega
  · left
    refine ⟨⟨h6, c, ht⟩, ?_⟩
    obtain ⟨-, -, -, z⟩ := a
    rcases z with ⟨z, -⟩ | ⟨z0, z⟩ | ⟨z0, z⟩
    · exact absurd z c
    · rcases z with ⟨-, -, f, -⟩ | ⟨-, f, -⟩ | ⟨-, -, f, -⟩ | ⟨-, -, f, -⟩
      · exact f.2.2.1
      · exact f.2.2.1
      · exact f.2.2.1
      · omega
    · rcases z with ⟨-, -, f, -⟩ | ⟨-, -, -, -, f, -⟩ | ⟨-, -, -, -, -, -, f, -⟩ | ⟨-, -, -, -, -, f, -⟩ | ⟨-, -, f, -⟩
      · exact f.2.2.1
      · exact f.2.2.1
      · omega
      · omega
      · exact f.2.2.1
theorem id_pv {L s0 : Nat} {τ : Nat → qS} (hR : RNN L τ) {A : Nat → List (Ms × Nat × Nat)} {ρ : Nat → qS × qS × qS} {B : Nat → List (Ms × Nat × Nat) × List (Ms × Nat × Nat) × List (Ms × Nat × Nat)} (h : ANC L s0 τ A ρ B) {t : Nat} (h1 : s0 + 7 ≤ t) (h2 : t < 7 * L) (h6 : t % 7 < 6) : τ (t - 7 + 1) 62 (((t - 7) % 7 : Nat) : Int) = τ t 62 ((t % 7 : Nat) : Int) ∧ τ (t - 7 + 1) 65 (((t - 7) % 7 : Nat) : Int) = τ t 65 ((t % 7 : Nat) : Int) := by
  have e : (t - 7) % 7 = t % 7 := by omega
  have k := run_w hR h6 e 6 (by omega) (by omega)
  rw [show t - 7 + 1 + 6 = t by omega] at k
  rw [e]
  exact ⟨(k 62 (by decide)).symm, (k 65 (by decide)).symm⟩
theorem ask_pv {L s0 : Nat} {τ : Nat → qS} (hR : RNN L τ) {A : Nat → List (Ms × Nat × Nat)} {ρ : Nat → qS × qS × qS} {B : Nat → List (Ms × Nat × Nat) × List (Ms × Nat × Nat) × List (Ms × Nat × Nat)} (h : ANC L s0 τ A ρ B) {t : Nat} (h1 : s0 + 7 ≤ t) (h2 : t < 7 * L) (hk : ASKt τ t) : FZt τ ρ (t - 7) ∨ SIa τ ρ 5 (t - 7) := by
  obtain ⟨h6, k1, k2⟩ := hk
  have e : (t - 7) % 7 = t % 7 := by omega
  have p := id_pv hR h h1 h2 h6
  have z : τ t 62 ((t % 7 : Nat) : Int) = -1 ∧ τ t 65 ((t % 7 : Nat) : Int) = 0 := by
    rcases id_cs hR h (by omega) h2 h6 k1 with ⟨-, c⟩ | ⟨-, c, d⟩
    · omega
    · refine ⟨c, ?_⟩
      split at d <;> omega
  have b := ag_b (hR.1 (t - 7) (by omega)) (w := (((t - 7) % 7 : Nat) : Int)) (by omega)
  rcases id_cs hR h (t := t - 7) (by omega) (by omega) (by omega) (by rw [p.1]; exact z.1) with ⟨c, -⟩ | ⟨c, d, f⟩
  · exact Or.inl c
  · right
    have b' := b d
    refine ⟨by omega, c, d, ?_, by rw [p.1]; exact z.1⟩
    rw [p.2, z.2] at f
    split at f <;> omega
theorem si_pv {L s0 : Nat} {τ : Nat → qS} (hR : RNN L τ) {A : Nat → List (Ms × Nat × Nat)} {ρ : Nat → qS × qS × qS} {B : Nat → List (Ms × Nat × Nat) × List (Ms × Nat × Nat) × List (Ms × Nat × Nat)} (h : ANC L s0 τ A ρ B) {t : Nat} {a : Int} (ha : 2 ≤ a ∧ a ≤ 5) (h1 : s0 + 7 ≤ t) (h2 : t < 7 * L) (hk : SIa τ ρ a t) : SIa τ ρ (a - 1) (t - 7) := by
  obtain ⟨h6, k1, k2, k3, -⟩ := hk
  have p := id_pv hR h h1 h2 h6
  rcases id_cs hR h (t := t - 7) (by omega) (by omega) (by omega) (by rw [p.1]; exact k2) with ⟨-, c⟩ | ⟨c, d, f⟩
  · omega
  · refine ⟨by omega, c, d, ?_, by rw [p.1]; exact k2⟩
    rw [p.2, k3] at f
    split at f <;> omega
theorem ctq_b7 {P Q : Nat → Prop} {s k : Nat} (hs : 7 ≤ s) (hp : ∀ t, s ≤ t → t < s + k → P t → Q (t - 7)) : ctq P s k ≤ ctq Q s k + 7 := by
  have a := ctq_inj (P := P) (f := fun t => t - 7) (s := s) (a := s - 7) (m := k) k Q (fun t t1 t2 q => ⟨by omega, by omega, hp t t1 t2 q⟩) (fun t t' _ _ _ _ _ _ e => by
    have e' : t - 7 = t' - 7 := e
    omega)
  have b := ctq_sub (P := Q) (s := s - 7) (show k ≤ 7 + k by omega)
  have c := ctq_jn (P := Q) (s := s - 7) 7 k
  rw [show s - 7 + 7 = s by omega] at c
  have d := ctq_le (P := Q) (s := s - 7) 7
  omega
def SIt (τ : Nat → qS) (ρ : Nat → qS × qS × qS) (t : Nat) : Prop := SIa τ ρ 1 t ∨ SIa τ ρ 2 t ∨ SIa τ ρ 3 t ∨ SIa τ ρ 4 t ∨ SIa τ ρ 5 t
theorem SI5 {L s0 : Nat} {τ : Nat → qS} (hR : RNN L τ) {A : Nat → List (Ms × Nat × Nat)} {ρ : Nat → qS × qS × qS} {B : Nat → List (Ms × Nat × Nat) × List (Ms × Nat × Nat) × List (Ms × Nat × Nat)} (h : ANC L s0 τ A ρ B) {s k : Nat} (h1 : s0 + 7 ≤ s) (h2 : s + k ≤ 7 * L) : 5 * ctq (SIa τ ρ 5) s k ≤ ctq (SIt τ ρ) s k + 70 := by
  have a5 := ctq_b7 (P := SIa τ ρ 5) (Q := SIa τ ρ 4) (s := s) (k := k) (by omega) (fun t t1 t2 q => si_pv hR h (a := 5) (by omega) (by omega) (by omega) q)
  have a4 := ctq_b7 (P := SIa τ ρ 4) (Q := SIa τ ρ 3) (s := s) (k := k) (by omega) (fun t t1 t2 q => si_pv hR h (a := 4) (by omega) (by omega) (by omega) q)
  have a3 := ctq_b7 (P := SIa τ ρ 3) (Q := SIa τ ρ 2) (s := s) (k := k) (by omega) (fun t t1 t2 q => si_pv hR h (a := 3) (by omega) (by omega) (by omega) q)
  have a2 := ctq_b7 (P := SIa τ ρ 2) (Q := SIa τ ρ 1) (s := s) (k := k) (by omega) (fun t t1 t2 q => si_pv hR h (a := 2) (by omega) (by omega) (by omega) q)
  have dj : ∀ (a b : Int) (t : Nat), a ≠ b → SIa τ ρ a t → SIa τ ρ b t → False := fun a b t n q q' => n (q.2.2.2.1.symm.trans q'.2.2.2.1)
  have b1 := ctq_2 (P := SIa τ ρ 4) (Q := SIa τ ρ 5) (R := fun t => SIa τ ρ 4 t ∨ SIa τ ρ 5 t) (s := s) k (fun t _ _ => ⟨Or.inl, Or.inr, fun q => dj 4 5 t (by decide) q.1 q.2⟩)
  have b2 := ctq_2 (P := SIa τ ρ 3) (Q := fun t => SIa τ ρ 4 t ∨ SIa τ ρ 5 t) (R := fun t => SIa τ ρ 3 t ∨ SIa τ ρ 4 t ∨ SIa τ ρ 5 t) (s := s) k (fun t _ _ => ⟨Or.inl, Or.inr, fun q => by
    rcases q.2 with z | z
    · exact dj 3 4 t (by decide) q.1 z
    · exact dj 3 5 t (by decide) q.1 z⟩)
  have b3 := ctq_2 (P := SIa τ ρ 2) (Q := fun t => SIa τ ρ 3 t ∨ SIa τ ρ 4 t ∨ SIa τ ρ 5 t) (R := fun t => SIa τ ρ 2 t ∨ SIa τ ρ 3 t ∨ SIa τ ρ 4 t ∨ SIa τ ρ 5 t) (s := s) k (fun t _ _ => ⟨Or.inl, Or.inr, fun q => by
    rcases q.2 with z | z | z
    · exact dj 2 3 t (by decide) q.1 z
    · exact dj 2 4 t (by decide) q.1 z
    · exact dj 2 5 t (by decide) q.1 z⟩)
  have b4 := ctq_2 (P := SIa τ ρ 1) (Q := fun t => SIa τ ρ 2 t ∨ SIa τ ρ 3 t ∨ SIa τ ρ 4 t ∨ SIa τ ρ 5 t) (R := SIt τ ρ) (s := s) k (fun t _ _ => ⟨Or.inl, Or.inr, fun q => by
    rcases q.2 with z | z | z | z
    · exact dj 1 2 t (by decide) q.1 z
    · exact dj 1 3 t (by decide) q.1 z
    · exact dj 1 4 t (by decide) q.1 z
    · exact dj 1 5 t (by decide) q.1 z⟩)
  omega

