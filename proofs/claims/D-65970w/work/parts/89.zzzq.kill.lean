theorem red_ne {L : Nat} {τ : Nat → qS} (h : RNN L τ) (hs : ∀ t, t ≤ 7 * L → psame (τ 0) (τ t)) {w : Nat} (hw : w < 6) {t : Nat} (h1 : 7 ≤ t) (h2 : t ≤ 7 * L) (ht : 38 ≤ τ t 62 (w : Int)) : τ t 40 (τ t 62 (w : Int) - 38) ≠ τ t 31 0 ∧ τ t 62 (w : Int) < 44 := by
  obtain ⟨u, j, e, hu, hj⟩ : ∃ u j, t = u + 1 + j ∧ u % 7 = w ∧ j ≤ 6 := by
    by_cases c : w < t % 7
    · exact ⟨7 * (t / 7) + w, t % 7 - w - 1, by omega, by omega, by omega⟩
    · exact ⟨7 * (t / 7) - 7 + w, t % 7 + 6 - w, by omega, by omega, by omega⟩
  have k := run_w h hw hu j hj (by omega)
  have s := h.2 u (by omega)
  rw [hu] at s
  have gs := h.1 t h2
  have wr := (rd_P2 gs.1 (by omega) (gs.2.2.1 (w : Int) (by omega) (by omega)) ht).1.1
  have pb := gs.1.1.2.2.2.2.2.1
  refine ⟨?_, by omega⟩
  rcases s with ⟨-, s⟩ | ⟨e6, -⟩
  · have g := WTK_GR (by omega) s
    have kt : τ t 62 (w : Int) = τ (u + 1) 62 (w : Int) := by rw [e]; exact k 62 (by decide)
    have g2 := (g (by omega)).2.2
    obtain ⟨i, hi⟩ : ∃ i : Nat, τ t 62 (w : Int) - 38 = (i : Int) := ⟨(τ t 62 (w : Int) - 38).toNat, by omega⟩
    rw [← kt, hi] at g2
    rw [hi]
    have q := ((hs t h2).2.1 i (by omega)).trans ((hs (u + 1) (by omega)).2.1 i (by omega)).symm
    unfold eb at q
    rw [decide_eq_false g2] at q
    exact of_decide_eq_false q
  · omega
theorem kil_1 {L : Nat} {τ : Nat → qS} (h : RNN L τ) (hs : ∀ t, t ≤ 7 * L → psame (τ 0) (τ t)) (hJ : ∀ t, t ≤ 7 * L → JOm (τ t) ≠ none) {w : Nat} (hw : w < 6) {t : Nat} (h1 : 7 ≤ t) (h2 : t < 7 * L) (hw7 : t % 7 = w) (ht : 38 ≤ τ t 62 (w : Int)) (ht' : τ (t + 1) 62 (w : Int) = -1) : ¬ mapd (τ t) ∧ ln (τ (t + 1)) = ln (τ (t + 1)) ∧ ∃ σ3, σ3 33 = τ t 33 ∧ σ3 62 (w : Int) = τ t 62 (w : Int) ∧ σ3 33 (σ3 64 (w : Int)) = -1 ∧ ln (τ (t + 1)) = ln σ3 := by
  have ne := (red_ne h hs hw h1 (by omega) ht).1
  have tb := (red_ne h hs hw h1 (by omega) ht).2
  have gs := h.1 t (by omega)
  have w6 : (0 : Int) ≤ (w : Int) ∧ (w : Int) < 6 := by omega
  have s := h.2 t h2
  rw [hw7] at s
  rcases s with ⟨-, s⟩ | ⟨e6, -⟩
  · obtain ⟨σ1, σ2, σ3, r1, r2, r3, a, ⟨j1, j2, j3, j4⟩, a1, a2, a3, a4⟩ := s
    obtain ⟨t1, -⟩ := RD_cd gs.1 w6 (gs.2.2.1 (w : Int) (by omega) (by omega)) r1 ht
    obtain ⟨t2, -⟩ := RD_cd j1 w6 a1 r2 (by omega)
    obtain ⟨t3, -⟩ := RD_cd j2 w6 a2 r3 (by omega)
    have kk : ∀ k ∈ rdK, σ3 k = τ t k := fun k m => ((r3.2.2.1 k m).trans (r2.2.2.1 k m)).trans (r1.2.2.1 k m)
    have sp : spl σ3 = spl (τ t) := (st_c (fun k m => kk k ((by decide : ∀ k ∈ stC, k ∈ rdK) k m))).1
    have esb : σ3 33 = τ t 33 := kk _ (by decide)
    have epe : σ3 40 = τ t 40 := kk _ (by decide)
    have eer : σ3 31 = τ t 31 := kk _ (by decide)
    have tt : σ3 62 (w : Int) = τ t 62 (w : Int) := by omega
    have ne3 : σ3 40 (σ3 62 (w : Int) - 38) ≠ σ3 31 0 := by rw [epe, eer, tt]; exact ne
    have hsp := spl_b j3.1
    have st0 : 0 ≤ σ3 64 (w : Int) := by
      obtain ⟨-, -, -, -, x, y, z, -⟩ := (rd_P2 j3 w6 a3 (by omega)).1
      omega
    obtain ⟨-, -, hk, c⟩ := a
    have he : τ (t + 1) 31 = σ3 31 := hk _ (by decide)
    rcases c with ⟨c0, -⟩ | ⟨c0, -⟩ | ⟨c0, c⟩
    · omega
    · omega
    · rcases c with ⟨c1, -⟩ | ⟨-, c1, c2, -, -, c3⟩ | ⟨-, -, -, -, -, -, c1, -⟩ | ⟨-, -, -, -, -, c1, -⟩ | ⟨-, c1, -, -, c⟩
      · exact absurd c1 ne3
      · refine ⟨fun m => ?_, rfl, σ3, esb, tt, c2, c3⟩
        have := m (σ3 64 (w : Int)) st0 (by omega)
        rw [← esb] at this
        exact this c2
      · omega
      · omega
      · exfalso
        rcases c with ⟨c2, -⟩ | ⟨-, kv, c2⟩
        · obtain ⟨i, hi⟩ : ∃ i : Nat, σ3 62 (w : Int) - 38 = (i : Int) := ⟨(σ3 62 (w : Int) - 38).toNat, by omega⟩
          rw [hi] at c2 ne3
          have q := ((hs t (by omega)).2.1 i (by omega)).trans ((hs (t + 1) (by omega)).2.1 i (by omega)).symm
          unfold eb at q
          rw [← epe, ← eer, decide_eq_false ne3, he, decide_eq_true c2] at q
          exact absurd q (by decide)
        · have jl := j4.2.2.2.2.2.2.2.1 _ (by rw [c2]; exact List.mem_append.mpr (Or.inr (List.mem_singleton.mpr rfl)))
          have l := jl.2 (by rw [he]; rfl)
          rcases l with ⟨-, l⟩ | ⟨l, -⟩
          · rcases l with ⟨l, -⟩ | ⟨l, -⟩ | ⟨-, l⟩ | ⟨l, -⟩
            · exact absurd (show (4 : Int) = 1 from l) (by decide)
            · exact absurd (show (4 : Int) = 3 from l) (by decide)
            · exact hJ (t + 1) (by omega) l
            · exact absurd (show (4 : Int) = 7 from l) (by decide)
          · exact absurd (show (6 : Int) < 6 from l.2) (by decide)
  · omega

