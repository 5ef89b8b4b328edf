theorem We_clk (σ : qS) : We (clk σ) = We σ := by
  have a := Wp_clk σ
  have b := crs_k (σ := σ) (σ' := clk σ) (fun k m => clk_k (by revert m; revert k; decide))
  rw [Wp_We, Wp_We, b] at a
  omega
theorem HR_hd {σ σ' : qS} (hJ : JI True (-1) σ) (hE : ER σ) (h : HR σ σ') (hc : ∀ x, hd6 σ x → ¬ clos σ x) : We σ' + 2 * (if 1 ≤ cn 6 (ln σ) then 1 else 0) ≤ We σ := by
  obtain ⟨a, b⟩ := HR_We hJ h hc
  by_cases c : 1 ≤ cn 6 (ln σ)
  · rw [if_pos c]
    obtain ⟨x, hx⟩ := hd6_ex c
    have hm : x ∈ ln σ := by
      obtain ⟨i, -, hx⟩ := hx
      exact List.mem_of_getElem? hx
    have := b x hx (hE x hm)
    omega
  · rw [if_neg c]; omega
theorem M_We {σ σ1 σ2 σ' : qS} (j0 : JI True (-1) (clk σ)) (j1 : JI True (-1) σ1) (j2 : JI True (-1) σ2) (r1 : HR (clk σ) σ1) (r2 : HR σ1 σ2) (r3 : HR σ2 σ') (hE : ER σ) (hl : (ln σ).length ≤ 95) (k0 : ∀ x, hd6 (clk σ) x → ¬ clos (clk σ) x) (k1 : ∀ x, hd6 σ1 x → ¬ clos σ1 x) (k2 : ∀ x, hd6 σ2 x → ¬ clos σ2 x) : We σ' + 2 * min 3 (cn 6 (ln σ)) ≤ We σ := by
  have l0 : ln (clk σ) = ln σ := l_clk σ
  have e0 : (clk σ) 31 = σ 31 := clk_k (by decide)
  have E0 : ER (clk σ) := fun x hx => by rw [l0] at hx; rw [e0]; exact hE x hx
  obtain ⟨E1, L1, C1⟩ := HR_M j0 E0 (by rw [l0]; exact hl) r1
  obtain ⟨E2, L2, C2⟩ := HR_M j1 E1 L1 r2
  rw [l0] at C1
  have w0 := HR_hd j0 E0 r1 k0
  have w1 := HR_hd j1 E1 r2 k1
  have w2 := HR_hd j2 E2 r3 k2
  rw [l0, We_clk] at w0
  by_cases c0 : 1 ≤ cn 6 (ln σ)
  · rw [if_pos c0] at w0
    by_cases c1 : 1 ≤ cn 6 (ln σ1)
    · rw [if_pos c1] at w1
      by_cases c2 : 1 ≤ cn 6 (ln σ2)
      · rw [if_pos c2] at w2
        omega
      · rw [if_neg c2] at w2
        omega
    · rw [if_neg c1] at w1
      omega
  · rw [if_neg c0] at w0
    omega
def psm (τ : Nat → qS) (r : Nat) : Nat := pf (τ (7 * r + 1)) 0 + pf (τ (7 * r + 2)) 1 + pf (τ (7 * r + 3)) 2 + pf (τ (7 * r + 4)) 3 + pf (τ (7 * r + 5)) 4 + pf (τ (7 * r + 6)) 5
theorem we_t {L : Nat} {τ : Nat → qS} (h : RNN L τ) {t : Nat} (ht : t < 7 * L) (hw : t % 7 < 6) : We (τ (t + 1)) ≤ We (τ t) + pf (τ (t + 1)) ((t % 7 : Nat) : Int) := by
  rcases h.2 t ht with ⟨hw', hs⟩ | ⟨e, -⟩
  · exact We_wk (h.1 t (by omega)).1 hw' hs
  · omega
theorem rnd_We {L : Nat} {τ : Nat → qS} (h : RNN L τ) {r : Nat} (hr : 32 ≤ r) (hl : r < L) (hn : NCL (τ (7 * r + 6)) (τ (7 * r + 7))) : We (τ (7 * r + 7)) + 2 * min 3 (cn 6 (ln (τ (7 * r + 6)))) ≤ We (τ (7 * r)) + psm τ r := by
  have w0 := we_t h (t := 7 * r) (by omega) (by omega)
  have w1 := we_t h (t := 7 * r + 1) (by omega) (by omega)
  have w2 := we_t h (t := 7 * r + 2) (by omega) (by omega)
  have w3 := we_t h (t := 7 * r + 3) (by omega) (by omega)
  have w4 := we_t h (t := 7 * r + 4) (by omega) (by omega)
  have w5 := we_t h (t := 7 * r + 5) (by omega) (by omega)
  have m0 : (7 * r) % 7 = 0 := by omega
  have m1 : (7 * r + 1) % 7 = 1 := by omega
  have m2 : (7 * r + 2) % 7 = 2 := by omega
  have m3 : (7 * r + 3) % 7 = 3 := by omega
  have m4 : (7 * r + 4) % 7 = 4 := by omega
  have m5 : (7 * r + 5) % 7 = 5 := by omega
  rw [m0] at w0; rw [m1] at w1; rw [m2] at w2; rw [m3] at w3; rw [m4] at w4; rw [m5] at w5
  have w6 : We (τ (7 * r + 7)) + 2 * min 3 (cn 6 (ln (τ (7 * r + 6)))) ≤ We (τ (7 * r + 6)) := by
    rcases h.2 (7 * r + 6) (by omega) with ⟨hw', -⟩ | ⟨-, σ1, σ2, r1, r2, r3, -, j0, j1, j2⟩
    · omega
    · obtain ⟨k0, k1, k2⟩ := hn σ1 σ2 r1 r2 r3
      exact M_We j0 j1 j2 r1 r2 r3 (run_ER h (by omega) (by omega)) (run_95 h (by omega) (by omega) (by omega)) k0 k1 k2
  unfold psm
  simp only [Nat.add_assoc, Nat.reduceAdd] at w0 w1 w2 w3 w4 w5 w6 ⊢
  have c0 : ((0 : Nat) : Int) = 0 := rfl
  have c1 : ((1 : Nat) : Int) = 1 := rfl
  have c2 : ((2 : Nat) : Int) = 2 := rfl
  have c3 : ((3 : Nat) : Int) = 3 := rfl
  have c4 : ((4 : Nat) : Int) = 4 := rfl
  have c5 : ((5 : Nat) : Int) = 5 := rfl
  rw [c0] at w0; rw [c1] at w1; rw [c2] at w2; rw [c3] at w3; rw [c4] at w4; rw [c5] at w5
  omega

