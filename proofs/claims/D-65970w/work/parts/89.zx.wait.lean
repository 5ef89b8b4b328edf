theorem RD_age {w : Int} {σ σ' : qS} (h : RD w σ σ') (h38 : 38 ≤ σ' 62 w) (ha : σ' 65 w ≠ 0) : same w σ σ' ∧ ∀ x, rdX w x (ln σ) → xw x 1 = σ 31 0 → xw x 0 = 6 → ¬ fits w σ x := by
  obtain ⟨-, -, -, c⟩ := h
  rcases c with ⟨c1, -, c2⟩ | ⟨i, z, c1, c2, c⟩
  · exact ⟨c2, fun x hx => by obtain ⟨-, j, hj, -⟩ := hx; rw [c1] at hj; exact absurd hj (by simp)⟩
  · have uq : ∀ x, rdX w x (ln σ) → x = z := fun x hx => by
      obtain ⟨-, j, hj, hj'⟩ := hx
      rw [c1] at hj
      have e : i = j := Option.some.inj hj
      rw [← e, c2] at hj'
      exact (Option.some.inj hj').symm
    rcases c with ⟨d1, -, d2⟩ | ⟨-, d1, -, d2⟩ | ⟨-, d1, d2, -⟩ | ⟨-, -, -, d2⟩
    · exact ⟨d2, fun x hx e => by rw [uq x hx] at e; exact absurd e d1⟩
    · rcases d2 with ⟨-, -, -, d, -⟩ | ⟨-, d⟩
      · exact absurd d ha
      · exact ⟨d, fun x hx _ e6 => by rw [uq x hx] at e6; omega⟩
    · exact ⟨d2, fun x hx _ e6 => by rw [uq x hx] at e6; omega⟩
    · rcases d2 with ⟨d, d3⟩ | ⟨-, -, d, -⟩
      · exact ⟨d3, fun x hx _ _ => by rw [uq x hx]; exact d⟩
      · exact absurd d ha
def wtg (w : Int) (σ : qS) : Int := 13 * (σ 66 w - 1) + σ 65 w
def nof (w : Int) (σ σ' : qS) : Prop := ∀ σ1 σ2 σ3, WD w σ σ1 σ2 σ3 σ' → same w σ σ1 ∧ same w σ1 σ2 ∧ same w σ2 σ3 ∧ (∀ x, rdX w x (ln σ) → xw x 1 = σ 31 0 → xw x 0 = 6 → ¬ fits w σ x) ∧ (∀ x, rdX w x (ln σ1) → xw x 1 = σ1 31 0 → xw x 0 = 6 → ¬ fits w σ1 x) ∧ ∀ x, rdX w x (ln σ2) → xw x 1 = σ2 31 0 → xw x 0 = 6 → ¬ fits w σ2 x
theorem ws1 {w : Int} {σ σ1 σ2 σ3 σ' : qS} (hw : 0 ≤ w ∧ w < 6) (hat : AT σ w) (h : WD w σ σ1 σ2 σ3 σ') (h38 : 38 ≤ σ' 62 w) (hg : (2 ≤ σ' 65 w) ∨ (σ' 65 w = 1 ∧ σ' 66 w ≠ 1)) : (same w σ σ1 ∧ same w σ1 σ2 ∧ same w σ2 σ3 ∧ (∀ x, rdX w x (ln σ) → xw x 1 = σ 31 0 → xw x 0 = 6 → ¬ fits w σ x) ∧ (∀ x, rdX w x (ln σ1) → xw x 1 = σ1 31 0 → xw x 0 = 6 → ¬ fits w σ1 x) ∧ ∀ x, rdX w x (ln σ2) → xw x 1 = σ2 31 0 → xw x 0 = 6 → ¬ fits w σ2 x) ∧ σ' 62 w = σ 62 w ∧ σ' 64 w = σ 64 w ∧ ps σ' w = ps σ w ∧ ((2 ≤ σ' 65 w ∧ σ 65 w + 1 = σ' 65 w ∧ σ 66 w = σ' 66 w) ∨ (σ' 65 w = 1 ∧ σ 65 w = 13 ∧ σ' 66 w ≠ 0 ∧ σ 66 w + 1 = σ' 66 w) ∨ (σ' 65 w = 1 ∧ σ' 66 w = 0 ∧ σ 65 w = 13 ∧ σ 66 w = 11)) := by
  obtain ⟨r1, r2, r3, ac, ⟨j1, j2, j3, j4⟩, a1, a2, a3, a4⟩ := h
  have at3 := RD_AT r3 (RD_AT r2 (RD_AT r1 hat))
  have hr := hr_of j3 hw a3 at3
  have key : 38 ≤ σ3 62 w ∧ σ3 65 w ≠ 0 ∧ σ' 62 w = σ3 62 w ∧ σ' 64 w = σ3 64 w ∧ ps σ' w = ps σ3 w ∧ ((2 ≤ σ' 65 w ∧ σ3 65 w + 1 = σ' 65 w ∧ σ3 66 w = σ' 66 w) ∨ (σ' 65 w = 1 ∧ σ3 65 w = 13 ∧ σ' 66 w ≠ 0 ∧ σ3 66 w + 1 = σ' 66 w) ∨ (σ' 65 w = 1 ∧ σ' 66 w = 0 ∧ σ3 65 w = 13 ∧ σ3 66 w = 11)) := by
    have hsp := spl_b j3.1
    obtain ⟨-, -, -, c⟩ := ac
    rcases c with ⟨-, -, c, -⟩ | ⟨c0, c⟩ | ⟨c0, c⟩
    · omega
    · rcases c with ⟨-, -, f, -⟩ | ⟨-, f, -⟩ | ⟨-, -, f, -⟩ | ⟨-, -, c, -⟩
      · have := f.1; omega
      · have := f.1; omega
      · have := f.1; omega
      · omega
    · obtain ⟨q1, q2, q3⟩ := hr c0
      rcases c with ⟨-, -, f, -⟩ | ⟨-, -, -, -, f, -⟩ | ⟨-, -, -, c4, -, -, c5, c6, c7, c8, c9⟩ | ⟨-, -, -, c4, -, c5, c6, c8, c9, c⟩ | ⟨-, -, f, -⟩
      · have := f.1; omega
      · have := f.1; omega
      · exact ⟨c0, c4.1, c5, c6, c8, Or.inl ⟨by omega, by omega, by omega⟩⟩
      · rcases c with ⟨d1, d2, -⟩ | ⟨d1, d2, -⟩
        · have e13 : σ3 65 w = 13 := by
            rcases c4 with c4 | c4
            · have := q3 c4; omega
            · exact c4
          exact ⟨c0, by omega, c5, c6, c8, Or.inr (Or.inl ⟨c9, e13, by omega, by omega⟩)⟩
        · have e13 : σ3 65 w = 13 := by
            rcases c4 with c4 | c4
            · have := q3 c4; omega
            · exact c4
          exact ⟨c0, by omega, c5, c6, c8, Or.inr (Or.inr ⟨c9, d2, e13, d1⟩)⟩
      · have := f.1; omega
  obtain ⟨k1, k2, k3, k4, k5, k6⟩ := key
  obtain ⟨s3, f3⟩ := RD_age r3 k1 k2
  obtain ⟨s2, f2⟩ := RD_age r2 (by rw [← s3.1]; exact k1) (by rw [← s3.2.2.1]; exact k2)
  obtain ⟨s1, f1⟩ := RD_age r1 (by rw [← s2.1, ← s3.1]; exact k1) (by rw [← s2.2.2.1, ← s3.2.2.1]; exact k2)
  have e1 : σ3 62 w = σ 62 w := by rw [s3.1, s2.1, s1.1]
  have e2 : σ3 64 w = σ 64 w := by rw [s3.2.1, s2.2.1, s1.2.1]
  have e3 : σ3 65 w = σ 65 w := by rw [s3.2.2.1, s2.2.2.1, s1.2.2.1]
  have e4 : σ3 66 w = σ 66 w := by rw [s3.2.2.2.1, s2.2.2.2.1, s1.2.2.2.1]
  have e5 : ps σ3 w = ps σ w := by rw [s3.2.2.2.2, s2.2.2.2.2, s1.2.2.2.2]
  refine ⟨⟨s1, s2, s3, f1, f2, f3⟩, by rw [k3, e1], by rw [k4, e2], by rw [k5, e5], ?_⟩
  rw [e3, e4] at k6
  exact k6
theorem ws {w : Int} {σ σ' : qS} (hw : 0 ≤ w ∧ w < 6) (hat : AT σ w) (h : WTK w σ σ') (h38 : 38 ≤ σ' 62 w) (hg : (2 ≤ σ' 65 w) ∨ (σ' 65 w = 1 ∧ σ' 66 w ≠ 1)) : nof w σ σ' ∧ σ' 62 w = σ 62 w ∧ σ' 64 w = σ 64 w ∧ ps σ' w = ps σ w ∧ ((2 ≤ σ' 65 w ∧ σ 65 w + 1 = σ' 65 w ∧ σ 66 w = σ' 66 w) ∨ (σ' 65 w = 1 ∧ σ 65 w = 13 ∧ σ' 66 w ≠ 0 ∧ σ 66 w + 1 = σ' 66 w) ∨ (σ' 65 w = 1 ∧ σ' 66 w = 0 ∧ σ 65 w = 13 ∧ σ 66 w = 11)) := by
  obtain ⟨σ1, σ2, σ3, wd⟩ := h
  exact ⟨fun σ1 σ2 σ3 wd => (ws1 hw hat wd h38 hg).1, (ws1 hw hat (show WD w σ σ1 σ2 σ3 σ' from wd) h38 hg).2⟩
def WTS (τ : Nat → qS) (w t j : Nat) : Prop := 38 ≤ τ (t + 1 - 7 * j) 62 w ∧ τ (t + 1 - 7 * j) 62 w = τ (t + 1) 62 w ∧ τ (t + 1 - 7 * j) 64 w = τ (t + 1) 64 w ∧ ps (τ (t + 1 - 7 * j)) w = ps (τ (t + 1)) w ∧ wtg w (τ (t + 1 - 7 * j)) = 144 - (j : Int) ∧ 1 ≤ τ (t + 1 - 7 * j) 65 w ∧ τ (t + 1 - 7 * j) 65 w ≤ 13 ∧ 1 ≤ τ (t + 1 - 7 * j) 66 w
theorem run_ps {L : Nat} {τ : Nat → qS} (h : RNN L τ) {w : Nat} (hw : w < 6) {t : Nat} (ht : t % 7 = w) (h38 : 38 ≤ τ (t + 1) 62 w) : ∀ j, j ≤ 6 → t + 1 + j ≤ 7 * L → ps (τ (t + 1 + j)) w = ps (τ (t + 1)) w
  | 0, _, _ => rfl
  | j + 1, hj, hl => by
    have ih := run_ps h hw ht h38 j (by omega) (by omega)
    rw [← ih]
    have rw1 := run_w h hw ht j (by omega) (by omega)
    have gs := h.1 (t + 1 + j) (by omega)
    have hr := (rd_P2 gs.1 (w := (w : Int)) (by omega) (gs.2.2.1 w (by omega) (by omega)) (by rw [rw1 62 (by decide)]; exact h38)).1
    obtain ⟨st, f, e1, e2, -⟩ := hr.2.2.2.2
    have hsp := spl_b gs.1.1
    have hs := h.2 (t + 1 + j) (by omega)
    have ne : (((t + 1 + j) % 7 : Nat) : Int) ≠ (w : Int) := by omega
    have k1 := STP_w hs ne (by omega)
    have k2 := fa_s hs (v := (w : Int)) (j := τ (t + 1 + j) 64 w) (by omega) ne (by omega)
    rw [show t + 1 + (j + 1) = t + 1 + j + 1 by omega]
    unfold ps
    rw [k1 75 (by decide), k1 64 (by decide), k2]
theorem lk_wait {L : Nat} {τ : Nat → qS} (h : RNN L τ) {w : Nat} (hw : w < 6) {t : Nat} (ht : t % 7 = w) (h1 : 7 * 145 ≤ t) (h2 : t + 1 ≤ 7 * L) (hl : LKs (τ (t + 1)) w) : ∀ j, j ≤ 142 → nof w (τ (t - 7 * j)) (τ (t - 7 * j + 1)) ∧ WTS τ w t (j + 1)
  | j, hj => by
    have wi : 0 ≤ (w : Int) ∧ (w : Int) < 6 := by omega
    have post : 38 ≤ τ (t + 1 - 7 * j) 62 w ∧ τ (t + 1 - 7 * j) 62 w = τ (t + 1) 62 w ∧ τ (t + 1 - 7 * j) 64 w = τ (t + 1) 64 w ∧ ps (τ (t + 1 - 7 * j)) w = ps (τ (t + 1)) w ∧ ((2 ≤ τ (t + 1 - 7 * j) 65 w) ∨ (τ (t + 1 - 7 * j) 65 w = 1 ∧ τ (t + 1 - 7 * j) 66 w ≠ 1)) ∧ ((j = 0 ∧ τ (t + 1 - 7 * j) 65 w = 1 ∧ τ (t + 1 - 7 * j) 66 w = 0) ∨ (wtg w (τ (t + 1 - 7 * j)) = 144 - (j : Int) ∧ 1 ≤ τ (t + 1 - 7 * j) 66 w ∧ τ (t + 1 - 7 * j) 65 w ≤ 13)) := by
      cases j with
      | zero => exact ⟨hl.1, rfl, rfl, rfl, Or.inr ⟨hl.2.1, by rw [show t + 1 - 7 * 0 = t + 1 by omega, hl.2.2]; decide⟩, Or.inl ⟨rfl, hl.2.1, hl.2.2⟩⟩
      | succ j =>
        obtain ⟨-, a1, a2, a3, a4, a5, a6, a7, a8⟩ := lk_wait h hw ht h1 h2 hl j (by omega)
        refine ⟨a1, a2, a3, a4, ?_, Or.inr ⟨a5, a8, a7⟩⟩
        by_cases c : 2 ≤ τ (t + 1 - 7 * (j + 1)) 65 w
        · exact Or.inl c
        · refine Or.inr ⟨by omega, fun e => ?_⟩
          unfold wtg at a5
          rw [e] at a5
          omega
    obtain ⟨p1, p2, p3, p4, p5, p6⟩ := post
    have es : t + 1 - 7 * j = t - 7 * j + 1 := by omega
    rw [es] at p1 p2 p3 p4 p5 p6
    have hs := h.2 (t - 7 * j) (by omega)
    rw [show (t - 7 * j) % 7 = w by omega] at hs
    rcases hs with ⟨-, hs⟩ | ⟨e, -⟩
    · have hat := run_AT7 h hw (t := t - 7 * j) (by omega) (by omega)
      obtain ⟨q0, q1, q2, q3, q4⟩ := ws wi hat hs p1 p5
      refine ⟨q0, ?_⟩
      have e7 : t - 7 * j = t - 7 * (j + 1) + 1 + 6 := by omega
      have r38 : 38 ≤ τ (t - 7 * (j + 1) + 1) 62 w := by
        have := run_w h hw (t := t - 7 * (j + 1)) (by omega) 6 (by omega) (by omega) 62 (by decide)
        rw [← e7] at this
        rw [← this, ← q1]
        exact p1
      have rk := run_w h hw (t := t - 7 * (j + 1)) (by omega) 6 (by omega) (by omega)
      have rp := run_ps h hw (t := t - 7 * (j + 1)) (by omega) r38 6 (by omega) (by omega)
      rw [← e7] at rk rp
      have k1 := rk 62 (by decide)
      have k2 := rk 64 (by decide)
      have k3 := rk 65 (by decide)
      have k4 := rk 66 (by decide)
      unfold WTS
      rw [show t + 1 - 7 * (j + 1) = t - 7 * (j + 1) + 1 by omega]
      unfold wtg at p6 ⊢
      have hr := hr_of (h.1 (t - 7 * j) (by omega)).1 wi ((h.1 (t - 7 * j) (by omega)).2.2.1 w (by omega) (by omega)) hat (by rw [← q1]; exact p1)
      refine ⟨r38, by rw [← k1, ← q1]; exact p2, by rw [← k2, ← q2]; exact p3, by rw [← rp, ← q3]; exact p4, ?_, ?_, ?_, ?_⟩
      · rw [← k3, ← k4]
        rcases p6 with ⟨c0, c1, c2⟩ | ⟨c1, c2, c3⟩
        · rcases q4 with ⟨d1, -⟩ | ⟨-, -, d, -⟩ | ⟨-, -, d1, d2⟩
          · omega
          · exact absurd c2 d
          · rw [d1, d2]; omega
        · rcases q4 with ⟨d1, d2, d3⟩ | ⟨d0, d1, -, d2⟩ | ⟨-, d, -⟩
          · omega
          · omega
          · omega
      · rw [← k3]
        rcases q4 with ⟨d1, d2, d3⟩ | ⟨-, d1, -, d2⟩ | ⟨-, -, d1, -⟩ <;> omega
      · rw [← k3]
        rcases q4 with ⟨d1, d2, d3⟩ | ⟨-, d1, -, d2⟩ | ⟨-, -, d1, -⟩ <;> omega
      · rw [← k4]
        rcases p6 with ⟨c0, c1, c2⟩ | ⟨c1, c2, c3⟩
        · rcases q4 with ⟨d1, -⟩ | ⟨-, -, d, -⟩ | ⟨-, -, d1, d2⟩
          · omega
          · exact absurd c2 d
          · omega
        · rcases q4 with ⟨d1, d2, d3⟩ | ⟨d0, d1, -, d2⟩ | ⟨-, d, -⟩
          · omega
          · rw [d0] at c1; omega
          · omega
    · omega

