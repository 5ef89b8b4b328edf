def sx (f : Int → Nat) : Nat := f 0 + f 1 + f 2 + f 3 + f 4 + f 5
theorem sx_t {f g : Int → Nat} {w : Nat} (hw : w < 6) {a b : Nat} (ho : ∀ v : Int, (w : Int) ≠ v → 0 ≤ v ∧ v < 6 → g v = f v) (h : g (w : Int) + a ≤ f (w : Int) + b) : sx g + a ≤ sx f + b := by
  unfold sx
  have oo : ∀ v : Int, 0 ≤ v ∧ v < 6 → (w : Int) = v ∨ g v = f v := fun v hv => by
    by_cases c : (w : Int) = v
    · exact Or.inl c
    · exact Or.inr (ho v c hv)
  rcases (by omega : w = 0 ∨ w = 1 ∨ w = 2 ∨ w = 3 ∨ w = 4 ∨ w = 5) with e | e | e | e | e | e <;> subst e
  · have o1 := ho 1 (by decide) (by decide)
    have o2 := ho 2 (by decide) (by decide)
    have o3 := ho 3 (by decide) (by decide)
    have o4 := ho 4 (by decide) (by decide)
    have o5 := ho 5 (by decide) (by decide)
    have h' : g 0 + a ≤ f 0 + b := h
    omega
  · have o1 := ho 0 (by decide) (by decide)
    have o2 := ho 2 (by decide) (by decide)
    have o3 := ho 3 (by decide) (by decide)
    have o4 := ho 4 (by decide) (by decide)
    have o5 := ho 5 (by decide) (by decide)
    have h' : g 1 + a ≤ f 1 + b := h
    omega
  · have o1 := ho 0 (by decide) (by decide)
    have o2 := ho 1 (by decide) (by decide)
    have o3 := ho 3 (by decide) (by decide)
    have o4 := ho 4 (by decide) (by decide)
    have o5 := ho 5 (by decide) (by decide)
    have h' : g 2 + a ≤ f 2 + b := h
    omega
  · have o1 := ho 0 (by decide) (by decide)
    have o2 := ho 1 (by decide) (by decide)
    have o3 := ho 2 (by decide) (by decide)
    have o4 := ho 4 (by decide) (by decide)
    have o5 := ho 5 (by decide) (by decide)
    have h' : g 3 + a ≤ f 3 + b := h
    omega
  · have o1 := ho 0 (by decide) (by decide)
    have o2 := ho 1 (by decide) (by decide)
    have o3 := ho 2 (by decide) (by decide)
    have o4 := ho 3 (by decide) (by decide)
    have o5 := ho 5 (by decide) (by decide)
    have h' : g 4 + a ≤ f 4 + b := h
    omega
  · have o1 := ho 0 (by decide) (by decide)
    have o2 := ho 1 (by decide) (by decide)
    have o3 := ho 2 (by decide) (by decide)
    have o4 := ho 3 (by decide) (by decide)
    have o5 := ho 4 (by decide) (by decide)
    have h' : g 5 + a ≤ f 5 + b := h
    omega
-- silent ticks that a FETCH after an acceptance ends
noncomputable def wFq (τ : Nat → qS) (t : Nat) : Nat := if ffq τ t = 1 then pag (τ t) ((t % 7 : Nat) : Int) else 0
theorem sl_t {L : Nat} {τ : Nat → qS} (hR : RNN L τ) {t : Nat} (h1 : 7 ≤ t) (h2 : t < 7 * L) : sx (pag (τ (t + 1))) + (12 * gtq τ t + wFq τ t) ≤ sx (pag (τ t)) + slq τ t := by
  have o : ∀ v : Int, ((t % 7 : Nat) : Int) ≠ v → 0 ≤ v ∧ v < 6 → pag (τ (t + 1)) v = pag (τ t) v := fun v hv hw => by
    unfold pag
    rw [STP_w (hR.2 t h2) hv hw 62 (by decide), STP_w (hR.2 t h2) hv hw 65 (by decide)]
  by_cases h6 : t % 7 < 6
  · refine sx_t h6 o ?_
    rcases hR.2 t h2 with ⟨-, s⟩ | ⟨e6, -⟩
    · have hg := run_g1 hR h6 h1 (by omega : t ≤ 7 * L)
      obtain ⟨p1, p2, p3⟩ := WTK_pg hg s
      have gb := gq_b τ t
      have gs := gsq_b τ t
      by_cases g : gq τ t = 1
      · have f := g
        unfold gq at f
        rw [if_pos h6] at f
        have z := p2 f
        by_cases gt : gtq τ t = 1
        · have ft : fto (τ t) (τ (t + 1)) ((t % 7 : Nat) : Int) := by
            apply Classical.byContradiction
            intro n
            unfold gtq at gt
            rw [if_neg (fun q => n q.2)] at gt
            omega
          have q := p3 ft
          have ff : ffq τ t = 0 := by unfold ffq; omega
          have w0 : wFq τ t = 0 := by unfold wFq; rw [if_neg (by omega)]
          omega
        · have w0 : wFq τ t ≤ pag (τ t) ((t % 7 : Nat) : Int) := by unfold wFq; split <;> omega
          omega
      · have ff : ffq τ t = 0 := by unfold ffq; omega
        have w0 : wFq τ t = 0 := by unfold wFq; rw [if_neg (by omega)]
        have gt : gtq τ t = 0 := by omega
        by_cases c : 38 ≤ τ (t + 1) 62 ((t % 7 : Nat) : Int)
        · have sl : slq τ t = 1 := by
            have := tk_all τ t h6
            have : idq τ t = 0 := by unfold idq; rw [if_pos h6, if_pos c]
            omega
          omega
        · have z : pag (τ (t + 1)) ((t % 7 : Nat) : Int) = 0 := by unfold pag; exact if_neg c
          omega
    · omega
  · have k6 := q_6 τ (t := t) (by omega)
    have w0 : wFq τ t = 0 := by unfold wFq; rw [if_neg (by omega)]
    have s0 : slq τ t = 0 := (tk_6 τ t h6).2.1
    unfold sx
    have o0 := o 0 (by omega) (by decide)
    have o1 := o 1 (by omega) (by decide)
    have o2 := o 2 (by omega) (by decide)
    have o3 := o 3 (by omega) (by decide)
    have o4 := o 4 (by omega) (by decide)
    have o5 := o 5 (by omega) (by decide)
    omega
theorem SLS {L : Nat} {τ : Nat → qS} (hR : RNN L τ) {s : Nat} (h7 : 7 ≤ s) : ∀ k, s + k ≤ 7 * L → sx (pag (τ (s + k))) + (12 * smq (gtq τ) s k + smq (wFq τ) s k) ≤ sx (pag (τ s)) + smq (slq τ) s k
  | 0, _ => by simp [smq]
  | k + 1, hl => by
    have ih := SLS hR h7 k (by omega)
    have b := sl_t hR (t := s + k) (by omega) (by omega)
    rw [show s + (k + 1) = s + k + 1 by omega]
    simp only [smq]
    omega
-- silent ticks: twelve for each time-out and those of the stays that end by an acceptance
theorem SLT {L : Nat} {τ : Nat → qS} (hR : RNN L τ) {s k : Nat} (h7 : 7 ≤ s) (hl : s + k ≤ 7 * L) : 12 * smq (gtq τ) s k + smq (wFq τ) s k ≤ smq (slq τ) s k + 72 := by
  have a := SLS hR h7 k hl
  have b : sx (pag (τ s)) ≤ 72 := by
    unfold sx
    have p0 := pag_b hR (w := 0) (by omega) (t := s) (by omega)
    have p1 := pag_b hR (w := 1) (by omega) (t := s) (by omega)
    have p2 := pag_b hR (w := 2) (by omega) (t := s) (by omega)
    have p3 := pag_b hR (w := 3) (by omega) (t := s) (by omega)
    have p4 := pag_b hR (w := 4) (by omega) (t := s) (by omega)
    have p5 := pag_b hR (w := 5) (by omega) (t := s) (by omega)
    have e0 : pag (τ s) 0 ≤ 12 := p0
    have e1 : pag (τ s) 1 ≤ 12 := p1
    have e2 : pag (τ s) 2 ≤ 12 := p2
    have e3 : pag (τ s) 3 ≤ 12 := p3
    have e4 : pag (τ s) 4 ≤ 12 := p4
    have e5 : pag (τ s) 5 ≤ 12 := p5
    omega
  omega

