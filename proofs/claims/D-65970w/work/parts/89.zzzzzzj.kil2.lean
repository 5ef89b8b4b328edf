theorem RD_ln {w : Int} {σ σ' : qS} (h : RD w σ σ') (ht : 38 ≤ σ 62 w) (hl : (ln σ).length ≤ 95) : (ln σ').length ≤ (ln σ).length ∧ (same w σ σ' ∨ (ln σ').length + 1 ≤ (ln σ).length) := by
  obtain ⟨-, -, -, c⟩ := h
  rcases c with ⟨-, c, s⟩ | ⟨i, x, -, c2, c⟩
  · rw [c]; exact ⟨Nat.le_refl _, Or.inl s⟩
  · have il : i < (ln σ).length := by
      apply Classical.byContradiction
      intro n
      rw [List.getElem?_eq_none (by omega)] at c2
      cases c2
    have er : ((ln σ).eraseIdx i).length + 1 = (ln σ).length := by rw [List.length_eraseIdx, if_pos il]; omega
    rcases c with ⟨-, c, s⟩ | ⟨-, -, c, s⟩ | ⟨-, -, s, a, kv, c⟩ | ⟨-, -, c, -⟩
    · rw [c]; exact ⟨by omega, Or.inl s⟩
    · rw [c]
      rcases s with ⟨s, -⟩ | ⟨-, s⟩
      · omega
      · exact ⟨by omega, Or.inl s⟩
    · have tl : tl95 ((ln σ).eraseIdx i) = (ln σ).eraseIdx i := by unfold tl95; exact if_neg (by omega)
      rw [c, tl, List.length_append]
      refine ⟨?_, Or.inl s⟩
      show _ + 1 ≤ _
      omega
    · rw [c]; exact ⟨by omega, Or.inr (by omega)⟩
-- a reduce ends while a split is undone, or it sends a TRAP
theorem kil_2 {L s0 : Nat} {τ : Nat → qS} (hR : RNN L τ) {A : Nat → List (Ms × Nat × Nat)} {ρ : Nat → qS × qS × qS} {B : Nat → List (Ms × Nat × Nat) × List (Ms × Nat × Nat) × List (Ms × Nat × Nat)} (h : ANC L s0 τ A ρ B) (hs : ∀ t, t ≤ 7 * L → psame (τ 0) (τ t)) {v κ : Nat} (hv : v < 6) (h7 : 7 ≤ κ) (h1 : s0 ≤ κ) (h2 : κ < 7 * L) (hk : KLt τ v κ) : ¬ mapd (τ κ) ∨ TQz (κ + 1) (τ 0 31 0) (A (κ + 1)) := by
  obtain ⟨k1, k2, k3⟩ := hk
  have ne := (red_ne hR hs hv h7 (by omega) k2).1
  have tb := (red_ne hR hs hv h7 (by omega) k2).2
  have gs := hR.1 κ (by omega)
  have w6 : (0 : Int) ≤ (v : Int) ∧ (v : Int) < 6 := by omega
  obtain ⟨wd, ⟨p0, p1, p2, p3, p4⟩, -, -, -, s, ac, -⟩ := h.2 κ h1 h2 (by omega)
  rw [k1] at wd
  obtain ⟨r1, r2, r3, a, ⟨j1, j2, j3, j4⟩, a1, a2, a3, a4⟩ := wd
  have l0 := run_95 hR (by omega) h7 (by omega : κ ≤ 7 * L)
  have t1 := RD_tk r1 (by omega)
  have t2 := RD_tk r2 (by omega)
  have t3 := RD_tk r3 (by omega)
  have d1 := RD_ln r1 k2 l0
  have d2 := RD_ln r2 (by omega) (by omega)
  have d3 := RD_ln r3 (by omega) (by omega)
  have kk : ∀ k ∈ rdK, (ρ κ).2.2 k = τ κ k := fun k m => ((r3.2.2.1 k m).trans (r2.2.2.1 k m)).trans (r1.2.2.1 k m)
  have sp : spl (ρ κ).2.2 = spl (τ κ) := (st_c (fun k m => kk k ((by decide : ∀ k ∈ stC, k ∈ rdK) k m))).1
  have esb : (ρ κ).2.2 33 = τ κ 33 := kk _ (by decide)
  have epe : (ρ κ).2.2 40 = τ κ 40 := kk _ (by decide)
  have eer : (ρ κ).2.2 31 = τ κ 31 := kk _ (by decide)
  have ne3 : (ρ κ).2.2 40 ((ρ κ).2.2 62 (v : Int) - 38) ≠ (ρ κ).2.2 31 0 := by rw [epe, eer, t3, t2, t1]; exact ne
  have hsp := spl_b j3.1
  have st0 : 0 ≤ (ρ κ).2.2 64 (v : Int) := by
    obtain ⟨-, -, -, -, x, y, z, -⟩ := (rd_P2 j3 w6 a3 (by omega)).1
    omega
  have stl : τ κ 64 (v : Int) < spl (τ κ) := by
    have ev : (κ - 7) % 7 = v := by omega
    have kw := run_w hR hv (t := κ - 7) ev 6 (by omega) (by omega)
    rw [show κ - 7 + 1 + 6 = κ by omega] at kw
    have e1 : spl (τ κ) = spl (τ 0) := (st_c (fun k m => run_st hR κ (by omega) k m)).1
    have e2 : spl (τ (κ - 7 + 1)) = spl (τ 0) := (st_c (fun k m => run_st hR (κ - 7 + 1) (by omega) k m)).1
    have sx := hR.2 (κ - 7) (by omega)
    rw [ev] at sx
    rcases sx with ⟨-, sx⟩ | ⟨e6, -⟩
    · have g := (WTK_GR (by omega) sx (by rw [← kw 62 (by decide)]; exact k2)).2.1
      rw [kw 64 (by decide), e1, ← e2]
      exact g
    · omega
  obtain ⟨-, -, hkk, c⟩ := a
  have he : τ (κ + 1) 31 = (ρ κ).2.2 31 := hkk _ (by decide)
  rcases c with ⟨c0, -⟩ | ⟨c0, -⟩ | ⟨c0, c⟩
  · omega
  · omega
  · rcases c with ⟨c1, -⟩ | ⟨-, c1, c2, -, -, c3⟩ | ⟨-, -, -, -, -, -, c1, -⟩ | ⟨-, -, -, -, -, c1, -⟩ | ⟨-, c1, -, -, c⟩
    · exact absurd c1 ne3
    · left
      intro m
      have := m ((ρ κ).2.2 64 (v : Int)) st0 (by omega)
      rw [← esb] at this
      exact this c2
    · omega
    · omega
    · right
      rcases c with ⟨c2, -⟩ | ⟨-, kv, c2⟩
      · exfalso
        obtain ⟨i, hi⟩ : ∃ i : Nat, (ρ κ).2.2 62 (v : Int) - 38 = (i : Int) := ⟨((ρ κ).2.2 62 (v : Int) - 38).toNat, by omega⟩
        rw [hi] at c2 ne3
        have q := ((hs κ (by omega)).2.1 i (by omega)).trans ((hs (κ + 1) (by omega)).2.1 i (by omega)).symm
        unfold eb at q
        rw [← epe, ← eer, decide_eq_false ne3, he, decide_eq_true c2] at q
        exact absurd q (by decide)
      · have l94 : (ln (ρ κ).2.2).length ≤ 94 := by
          apply Classical.byContradiction
          intro n
          have s1 : same (v : Int) (τ κ) (ρ κ).1 := by
            rcases d1.2 with q | q
            · exact q
            · omega
          have s2 : same (v : Int) (ρ κ).1 (ρ κ).2.1 := by
            rcases d2.2 with q | q
            · exact q
            · omega
          have s3 : same (v : Int) (ρ κ).2.1 (ρ κ).2.2 := by
            rcases d3.2 with q | q
            · exact q
            · omega
          have := s3.2.1
          have := s2.2.1
          have := s1.2.1
          omega
        have tl : tl95 (ln (ρ κ).2.2) = ln (ρ κ).2.2 := by unfold tl95; exact if_neg (by omega)
        rw [tl] at c2
        have er0 : (ρ κ).2.2 31 0 = τ 0 31 0 := by rw [eer, run_era hR (by omega)]
        have fin : ∀ (P : List (Ms × Nat × Nat)) (z : Ms), A (κ + 1) = P ++ [(z, κ + 1, κ + 1)] → TQz (κ + 1) (τ 0 31 0) (A (κ + 1)) := fun P z e => by
          have q := p4
          rw [e, pr_ap, c2] at q
          have q' : prA P ++ [z] = ln (ρ κ).2.2 ++ [((6, [4, (ρ κ).2.2 31 0, (ρ κ).2.2 62 (v : Int), 0, 0, 0], kv) : Ms)] := q
          have q2 := (List.append_inj' q' rfl).2
          have ez : z = ((6, [4, (ρ κ).2.2 31 0, (ρ κ).2.2 62 (v : Int), 0, 0, 0], kv) : Ms) := List.head_eq_of_cons_eq q2
          refine Or.inl ⟨(z, κ + 1, κ + 1), by rw [e]; exact List.mem_append.mpr (Or.inr (List.mem_singleton.mpr rfl)), ?_, ?_, ?_, rfl⟩
          · rw [ez]
          · rw [ez]; rfl
          · rw [ez]; exact er0
        rcases ac with ⟨e, -⟩ | ⟨z, e, -⟩ | ⟨z, z', e, -⟩
        · exfalso
          have q : (prA (A (κ + 1))).length = (prA (B κ).2.2).length := by rw [e]
          rw [p4, p3, c2, List.length_append] at q
          have q' : (ln (ρ κ).2.2).length + 1 = (ln (ρ κ).2.2).length := q
          omega
        · exact fin _ z e
        · exact fin _ z' e

