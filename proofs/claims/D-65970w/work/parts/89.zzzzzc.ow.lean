theorem RD_cs {w : Int} {σ σ' : qS} (hJ : JI False (-1) σ) (hw : 0 ≤ w ∧ w < 6) (ha : AW σ w) (h : RD w σ σ') (ht : 38 ≤ σ 62 w) : same w σ σ' ∨ cd σ w < cd σ' w := by
  obtain ⟨-, -, -, c⟩ := h
  rcases c with ⟨-, -, c⟩ | ⟨i, x, -, -, c⟩
  · exact Or.inl c
  · rcases c with ⟨-, -, c⟩ | ⟨-, -, -, c⟩ | ⟨-, -, c, -⟩ | ⟨-, -, -, c⟩
    · exact Or.inl c
    · rcases c with ⟨e, -⟩ | ⟨-, c⟩
      · omega
      · exact Or.inl c
    · exact Or.inl c
    · rcases c with ⟨-, c⟩ | ⟨f, c1, c2, c3, c4⟩
      · exact Or.inl c
      · right
        have hr := (rd_P2 hJ hw ha ht).1
        obtain ⟨p1, p2⟩ := WR_rk hJ.1 hr
        unfold cd
        rcases c4 with ⟨c4, c5⟩ | ⟨c4, c5⟩
        · rw [c4, c5]; omega
        · rw [c4, c5]; omega
-- a FETCH tick that leaves the place alone is a time-out
theorem FT_to {w : Int} {σ σ' : qS} (hJ : JI False (-1) σ) (hw : 0 ≤ w ∧ w < 6) (ha : AW σ w) (h : WTK w σ σ') (h1 : 38 ≤ σ 62 w) (h2 : 38 ≤ σ' 62 w) (hf : fe σ' w = 1) (hg : 1 ≤ σ 65 w) (hc : cd σ' w = cd σ w) : fto σ σ' w := by
  obtain ⟨σ1, σ2, σ3, r1, r2, r3, a, ⟨j1, j2, j3, j4⟩, a1, a2, a3, a4⟩ := h
  obtain ⟨t1, c1⟩ := RD_cd hJ hw ha r1 h1
  obtain ⟨t2, c2⟩ := RD_cd j1 hw a1 r2 (by omega)
  obtain ⟨t3, c3⟩ := RD_cd j2 hw a2 r3 (by omega)
  have hsp := spl_b j3.1
  have fa := (fe_r hf).2
  have ga : 38 ≤ σ3 62 w → 0 ≤ σ3 65 w := RD_ra r3 (RD_ra r2 (RD_ra r1 (fun _ => by omega)))
  obtain ⟨g1, g2, g3, g4, g5⟩ := ACT_rg j3.1 a ga h2 fa
  have e3 : cd σ3 w = cd σ' w := by unfold cd; rw [g4, g5]
  rcases RD_cs hJ hw ha r1 h1 with s1 | s1
  · rcases RD_cs j1 hw a1 r2 (by omega) with s2 | s2
    · rcases RD_cs j2 hw a2 r3 (by omega) with s3 | s3
      · have s := (s1.tr s2).tr s3
        have ea : σ3 65 w = σ 65 w := s.2.2.1
        exact ⟨h1, by omega, by rw [g3]; exact s.1, by rw [g4]; exact s.2.1, by rw [g5]; exact s.2.2.2.2, fa⟩
      · omega
    · omega
  · omega
theorem AGq {L s0 : Nat} {τ : Nat → qS} (hR : RNN L τ) {A : Nat → List (Ms × Nat × Nat)} {ρ : Nat → qS × qS × qS} {B : Nat → List (Ms × Nat × Nat) × List (Ms × Nat × Nat) × List (Ms × Nat × Nat)} (h : ANC L s0 τ A ρ B) {b t : Nat} (h7 : 7 ≤ s0) (hb : s0 < b) (h1 : s0 ≤ t) (h2 : t < 7 * L) (ha : ACC τ A ρ B t b) (hs : SEG τ (t % 7) b (t - b)) : ∀ q, 1 ≤ q → b - 1 + 7 * q ≤ t → τ (b - 1 + 7 * q) 65 ((t % 7 : Nat) : Int) = q ∨ gtq τ (b + 90) = 1
  | 0, h0, _ => by omega
  | q + 1, _, hl => by
    obtain ⟨v, v6, v2, v3, v4, v5, -⟩ := ACC_tk h hb h1 h2 ha
    have ev : t % 7 = v := v3
    obtain ⟨bt, cdt⟩ := OWNP hR h hb h1 h2 ha hs
    rw [ev] at hs cdt ⊢
    have fb := fe_r v4
    by_cases q0 : q = 0
    · left
      subst q0
      have k := run_w hR v6 (t := b - 1) v2 6 (by omega) (by omega) 65 (by decide)
      rw [show b - 1 + 1 + 6 = b - 1 + 7 * (0 + 1) by omega, show b - 1 + 1 = b by omega] at k
      rw [k]
      exact_mod_cast fb.2
    · have ih := AGq hR h h7 hb h1 h2 ha (by rw [ev]; exact hs) q (by omega) (by omega)
      rw [ev] at ih
      rcases ih with ih | ih
      · have ut : b - 1 + 7 * q < t := by omega
        have uv : (b - 1 + 7 * q) % 7 = v := by omega
        have s1 : 38 ≤ τ (b - 1 + 7 * q) 62 (v : Int) := hs _ (by omega) (by omega)
        have s2 : 38 ≤ τ (b - 1 + 7 * q + 1) 62 (v : Int) := hs _ (by omega) (by omega)
        have gs := hR.1 (b - 1 + 7 * q) (by omega)
        have wi : 0 ≤ (v : Int) ∧ (v : Int) < 6 := by omega
        rcases hR.2 (b - 1 + 7 * q) (by omega) with ⟨-, s⟩ | ⟨e6, -⟩
        · rw [uv] at s
          by_cases f : fe (τ (b - 1 + 7 * q + 1)) (v : Int) = 0
          · left
            have e := sil_a s s1 s2 f
            have k := run_w hR v6 (t := b - 1 + 7 * q) uv 6 (by omega) (by omega) 65 (by decide)
            rw [show b - 1 + 7 * q + 1 + 6 = b - 1 + 7 * (q + 1) by omega] at k
            rw [k, e, ih]
            omega
          · right
            have f1 : fe (τ (b - 1 + 7 * q + 1)) (v : Int) = 1 := by
              have : fe (τ (b - 1 + 7 * q + 1)) (v : Int) ≤ 1 := by unfold fe; split <;> omega
              omega
            have hl' : b + (t - b) ≤ 7 * L := by omega
            have m1 := cd_run hR v6 hl' hs (a := b) (Nat.le_refl _) (7 * q - 1) (by omega)
            rw [show b + (7 * q - 1) = b - 1 + 7 * q by omega] at m1
            have m2 := cd_run hR v6 hl' hs (a := b - 1 + 7 * q) (by omega) 1 (by omega)
            have m3 := cd_run hR v6 hl' hs (a := b - 1 + 7 * q + 1) (by omega) (t - (b - 1 + 7 * q + 1)) (by omega)
            rw [show b - 1 + 7 * q + 1 + (t - (b - 1 + 7 * q + 1)) = t by omega] at m3
            have ft := FT_to gs.1 wi (gs.2.2.1 (v : Int) wi.1 wi.2) s s1 s2 f1 (by omega) (by omega)
            have q13 : q = 13 := by
              have := ft.2.1
              omega
            subst q13
            rw [show b + 90 = b - 1 + 7 * 13 by omega]
            unfold gtq
            have uv' : (b - 1 + 7 * 13) % 7 = v := uv
            refine if_pos ⟨?_, ?_⟩
            · unfold gq
              rw [if_pos (by omega), uv']
              exact f1
            · rw [uv']; exact ft
        · omega
      · exact Or.inr ih
-- own tokens read in chosen ticks: two silent ticks, or a time-out
theorem OW_1 {L s0 : Nat} {τ : Nat → qS} (hR : RNN L τ) {A : Nat → List (Ms × Nat × Nat)} {ρ : Nat → qS × qS × qS} {B : Nat → List (Ms × Nat × Nat) × List (Ms × Nat × Nat) × List (Ms × Nat × Nat)} (h : ANC L s0 τ A ρ B) {b t : Nat} (h7 : 7 ≤ s0) (hb : s0 < b) (h1 : s0 ≤ t) (h2 : t < 7 * L) (ha : ACC τ A ρ B t b) (hs : SEG τ (t % 7) b (t - b)) (h14 : b + 14 ≤ t) : gtq τ (b + 90) = 1 ∨ (τ t 65 ((t % 7 : Nat) : Int) * 7 + b = t + 1 ∧ 2 ≤ pag (τ t) ((t % 7 : Nat) : Int)) := by
  obtain ⟨v, v6, v2, v3, v4, v5, -⟩ := ACC_tk h hb h1 h2 ha
  obtain ⟨q, eq⟩ : ∃ q, b - 1 + 7 * q = t := ⟨(t - (b - 1)) / 7, by omega⟩
  have k := AGq hR h h7 hb h1 h2 ha hs q (by omega) (by omega)
  rw [eq] at k
  rcases k with k | k
  · right
    have s38 : 38 ≤ τ t 62 ((t % 7 : Nat) : Int) := hs t (by omega) (by omega)
    refine ⟨by omega, ?_⟩
    unfold pag
    rw [if_pos s38]
    omega
  · exact Or.inl k

