def ER (σ : qS) : Prop := ∀ x ∈ ln σ, xw x 1 = σ 31 0
theorem hd6_ex {σ : qS} (h : 1 ≤ cn 6 (ln σ)) : ∃ x, hd6 σ x := by
  cases e : (ln σ).findIdx? (fun m => m.1 == 6) with
  | none =>
    exfalso
    have hz : cn 6 (ln σ) = 0 := by
      unfold cn
      rw [List.countP_eq_zero]
      intro x hx hp
      have := List.findIdx?_eq_none_iff.mp e x hx
      unfold toW at hp
      rw [this] at hp
      cases hp
    omega
  | some i =>
    obtain ⟨h0, -, -⟩ := List.findIdx?_eq_some_iff_getElem.mp e
    exact ⟨(ln σ)[i], i, e, List.getElem?_eq_getElem h0⟩
theorem HR_M {σ σ' : qS} (hJ : JI True (-1) σ) (hE : ER σ) (hl : (ln σ).length ≤ 95) (h : HR σ σ') : ER σ' ∧ (ln σ').length ≤ 95 ∧ cn 6 (ln σ) ≤ cn 6 (ln σ') + 1 := by
  obtain ⟨h0, hk, c⟩ := h
  have he : σ' 31 = σ 31 := hk _ (by decide)
  rcases c with ⟨c1, c2, -⟩ | ⟨i, x, c1, c2, c⟩
  · refine ⟨fun x hx => ?_, by rw [c2]; exact hl, by rw [c2]; omega⟩
    rw [c2] at hx; rw [he]; exact hE x hx
  · obtain ⟨i0, i1, -⟩ := List.findIdx?_eq_some_iff_getElem.mp c1
    have ln1 : ((ln σ).eraseIdx i).length = (ln σ).length - 1 := List.length_eraseIdx_of_lt i0
    have cc := cp_er (toW 6) (ln σ) i x c2
    have er : ln σ' = (ln σ).eraseIdx i → ER σ' ∧ (ln σ').length ≤ 95 ∧ cn 6 (ln σ) ≤ cn 6 (ln σ') + 1 := fun e => by
      refine ⟨fun y hy => ?_, by rw [e, ln1]; omega, ?_⟩
      · rw [e] at hy; rw [he]; exact hE y ((List.eraseIdx_sublist _ _).subset hy)
      · rw [e]; unfold cn
        have : (if toW 6 x = true then 1 else 0) ≤ 1 := by split <;> omega
        omega
    rcases c with ⟨-, c, -⟩ | ⟨-, -, -, -, fi, en, -, c⟩ | ⟨-, -, c, -⟩ | ⟨-, -, c, -⟩
    · exact er c
    · rcases c with ⟨c, -⟩ | ⟨t, -, -, -, -, -, kv, c⟩
      · exact er c
      · have tz : tl95 ((ln σ).eraseIdx i) = (ln σ).eraseIdx i := by unfold tl95; rw [if_neg (by omega)]
        rw [tz] at c
        refine ⟨fun y hy => ?_, by rw [c, List.length_append, ln1]; simp; omega, ?_⟩
        · rw [c] at hy
          rw [he]
          rcases List.mem_append.mp hy with hy | hy
          · exact hE y ((List.eraseIdx_sublist _ _).subset hy)
          · rw [List.mem_singleton.mp hy]; rfl
        · rw [c]; unfold cn
          rw [List.countP_append]
          have : (if toW 6 x = true then 1 else 0) ≤ 1 := by split <;> omega
          omega
    · exact er c
    · exact er c
theorem M_W {σ σ1 σ2 σ' : qS} (j0 : JI True (-1) (clk σ)) (j1 : JI True (-1) σ1) (j2 : JI True (-1) σ2) (r1 : HR (clk σ) σ1) (r2 : HR σ1 σ2) (r3 : HR σ2 σ') (hE : ER σ) (hl : (ln σ).length ≤ 95) (hM : 3 ≤ cn 6 (ln σ)) (k0 : ∀ x, hd6 (clk σ) x → ¬ clos (clk σ) x) (k1 : ∀ x, hd6 σ1 x → ¬ clos σ1 x) (k2 : ∀ x, hd6 σ2 x → ¬ clos σ2 x) : Wp σ' + 6 ≤ Wp (clk σ) := by
  have l0 : ln (clk σ) = ln σ := ln_k (fun k m => clk_k (by revert m; revert k; decide))
  have e0 : (clk σ) 31 = σ 31 := clk_k (by decide)
  have E0 : ER (clk σ) := fun x hx => by rw [l0] at hx; rw [e0]; exact hE x hx
  obtain ⟨E1, L1, C1⟩ := HR_M j0 E0 (by rw [l0]; exact hl) r1
  obtain ⟨E2, L2, C2⟩ := HR_M j1 E1 L1 r2
  rw [l0] at C1
  obtain ⟨x0, y0⟩ := hd6_ex (σ := clk σ) (by rw [l0]; omega)
  obtain ⟨x1, y1⟩ := hd6_ex (σ := σ1) (by omega)
  obtain ⟨x2, y2⟩ := hd6_ex (σ := σ2) (by omega)
  have mem : ∀ {ρ : qS} {x : Ms}, hd6 ρ x → x ∈ ln ρ := fun {ρ x} h => by
    obtain ⟨i, -, h⟩ := h
    exact List.mem_of_getElem? h
  have w0 := (HR_W j0 r1 k0).2 x0 y0 (E0 _ (mem y0))
  have w1 := (HR_W j1 r2 k1).2 x1 y1 (E1 _ (mem y1))
  have w2 := (HR_W j2 r3 k2).2 x2 y2 (E2 _ (mem y2))
  omega
theorem Wp_clk (σ : qS) : Wp (clk σ) = Wp σ := by
  have l0 : ln (clk σ) = ln σ := ln_k (fun k m => clk_k (by revert m; revert k; decide))
  have hi : ∀ t, isdn (clk σ) t = isdn σ t := isdn_k (clk_k (by decide)) (clk_k (by decide))
  have e0 : (clk σ) 31 = σ 31 := clk_k (by decide)
  have hw : ∀ v, ww (clk σ) v = ww σ v := fun v => ww_k hi (by rw [clk_k (by decide)]) (by rw [clk_k (by decide)]) (by rw [clk_k (by decide)])
  unfold Wp wsum
  rw [l0, wl_k e0 hi, hw, hw, hw, hw, hw, hw]

