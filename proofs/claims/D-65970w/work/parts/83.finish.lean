theorem dprok_of {σ : qS} (h : B4 σ) {p : Int} (h0 : 0 ≤ p) (h1 : p < 24) : dprok σ p := by
  obtain ⟨⟨q1, q2, q3⟩, q4, q5⟩ := h p h0 h1
  refine ⟨q1, by rw [q4]; exact q2, fun i i0 i1 => ?_⟩
  rw [q4] at i1 ⊢
  obtain ⟨x1, x2⟩ := q5 i i0 i1
  rw [x1, x2]
  exact q3 i i0 i1
theorem wk_of {σ : qS} (h2 : B2 σ) (h4 : B4 σ) (h5 : B5 σ) {j : Int} (h0 : 0 ≤ j ∧ j < 8) (hm : σ 9 j ≠ 0) : P_D_worked j σ := by
  obtain ⟨m1, m2, ⟨e1, e2, e3, e4⟩, m4⟩ := h5 j h0.1 h0.2
  obtain ⟨⟨j1, j2, j3, j4⟩, -, -⟩ := m4 (by omega)
  refine ⟨⟨h0, by rw [e1]; omega, by rw [e2]; omega, h2.2⟩, ⟨dprok_of h4 (by omega) (by omega), dprok_of h4 (by omega) (by omega), dprok_of h4 (by omega) (by omega)⟩, by rw [e4]; exact j4, by rw [e3]; omega⟩
theorem IDL_of {σ : qS} (h2 : B2 σ) (h : fM σ = fD σ) : IDL σ := by
  intro f f0 f1
  have e := congrFun h f
  rw [fM_i ⟨f0, f1⟩, fD_i ⟨f0, f1⟩] at e
  have s1 := h2.1 f f0 f1
  have s2 := h2.2 f f0 f1
  have el := congrArg List.length e
  rw [row_len, row_len] at el
  refine ⟨by omega, fun i i0 i1 => ?_⟩
  have ei := congrArg (fun l => l[i.toNat]?) e
  rw [row_at (by omega), row_at (by omega)] at ei
  have := Option.some.inj ei
  rw [show ((i.toNat : Nat) : Int) = i by omega] at this
  exact ⟨(congrArg Prod.fst this).symm, (congrArg Prod.snd this).symm⟩
theorem fM_k {σ σ' : qS} (h : ∀ k ∈ [0, 1, 2], σ' k = σ k) : fM σ' = fM σ := by
  funext f; unfold fM row; rw [h 0 (by decide), h 1 (by decide), h 2 (by decide)]
def sD : List Nat := [100, 101, 102, 103, 106, 104, 108, 109, 110, 111, 112, 117]
theorem RES_k {σ σ' : qS} (h : ∀ k ∈ sD, σ' k = σ k) : RES σ' = RES σ := by
  have e1 : jfD σ' = jfD σ := by
    funext j FS
    unfold jfD
    rw [dprg_keep _ (h _ (by decide)) (h _ (by decide)) (h _ (by decide)), dprg_keep _ (h _ (by decide)) (h _ (by decide)) (h _ (by decide)), dprg_keep _ (h _ (by decide)) (h _ (by decide)) (h _ (by decide)), h 111 (by decide), h 108 (by decide), h 109 (by decide)]
  have e2 : fD σ' = fD σ := by
    funext f; unfold fD row; rw [h 100 (by decide), h 101 (by decide), h 102 (by decide)]
  unfold RES ordL
  rw [e1, e2, h 110 (by decide), h 112 (by decide), h 117 (by decide)]
theorem l_finish {RJ : Nat → Nat → qS → Prop} (hO : RIOK RJ) {N : Nat} {σ : qS} (hN : N < 4096) (h : INVo (fun N σ => RJ N (200 * N) σ) N σ) : stp (INVo (fun N σ => RJ N (200 * N) σ) (N + 1)) (P_L_finish 900 140 σ) (Q_L_finish 900 140 σ) P_D_finish Q_D_finish := by
  have hR := RI_f hO
  have hB := h.1.1
  have h0 : σ 26 0 ≠ 0 → INVr RJ N (200 * N) (fin0 σ) ∧ fin0 σ 49 0 = 0 ∧ fin0 σ 50 0 = 0 := fun hb => by
    have hb1 : σ 26 0 = 1 := by have := hB.1.1; omega
    have hk : ∀ k, k ∉ [49, 50] → fin0 σ k = σ k := fun k m => by
      simp only [List.mem_cons, List.not_mem_nil, or_false, not_or] at m
      unfold fin0
      rw [su_k (by omega), su_k (by omega)]
    exact ⟨⟨BR_k h.1 (kp hk (by decide)), by rw [hk 31 (by decide)]; exact h.2.1, by rw [hk 26 (by decide)]; exact hb1, hO.2.2.2.2.1 _ _ _ 0 0 (h.2.2.2 hb1) (by omega) (by omega)⟩, by unfold fin0; rw [su_k (by decide), su_s], by unfold fin0; rw [su_s]⟩
  have hF := hO.2.2.2.2.2.2.2.2.1
  refine ⟨⟨rfl, rfl, fun hb => ?_⟩, fun r σ1 h1 => ?_⟩
  · obtain ⟨i1, i2, i3⟩ := h0 hb
    obtain ⟨n, -, hn⟩ := hF N _ _ (by omega) i1 (by omega) i2 i3
    exact ⟨n, hn⟩
  rcases h1 with ⟨q1, ρ, ⟨c1, m, τ, hfq, rfl, c2⟩, rfl, rfl⟩ | ⟨t, ⟨rfl, c1, rfl⟩, a2⟩
  · obtain ⟨i1, i2, i3⟩ := h0 c1
    obtain ⟨n, hn1, hn2⟩ := hF N _ _ (by omega) i1 (by omega) i2 i3
    obtain ⟨hv, hg⟩ := fin_ok hO (by omega) n m _ _ τ i1 hn1 hn2 hfq
    obtain ⟨hres, hCH⟩ := hO.2.2.2.2.2.2.2.2.2 N _ τ hv hg
    obtain ⟨⟨t1, t2, t3, t4, t5, t6⟩, tE, tb, -⟩ := hv
    have kk : ∀ k, k ≠ 26 → k ≠ 140 → su (su τ 26 0 0) 140 0 q1 k = τ k := fun k m1 m2 => by rw [su_k m2, su_k m1]
    have hwk : ∀ k, 0 ≤ k → k < τ 117 0 → P_D_worked (τ 112 k) τ := fun k k0 k1 => by
      obtain ⟨d1, d2, d3⟩ := hCH
      obtain ⟨x1, x2, x3⟩ := d3 k k0 (by omega)
      rw [x1]
      exact wk_of t2 t4 t5 x2 x3
    have wkk : ∀ {ν : qS} {j : Int}, (∀ k ∈ [108, 109, 102, 104, 103, 106, 111, 110], ν k = τ k) → P_D_worked j τ → P_D_worked j ν := fun {ν j} hk hp => by
      unfold P_D_worked djbk dprok at *
      rw [hk 108 (by decide), hk 109 (by decide), hk 102 (by decide), hk 104 (by decide), hk 103 (by decide), hk 106 (by decide), hk 111 (by decide), hk 110 (by decide)]
      exact hp
    have e1 : su (su τ 26 0 0) 140 0 q1 119 0 ≠ 0 := by rw [kk _ (by decide) (by decide), t1.2, tb]; decide
    refine ⟨fun _ => ⟨by rw [kk _ (by decide) (by decide), hCH.2.1]; exact hCH.1, fun k k0 k1 => ?_⟩, fun q σ2 h2 => ?_⟩
    · rw [kk _ (by decide) (by decide)] at k1
      rw [kk 112 (by decide) (by decide)]
      exact wkk (fun x m => kk x ((by decide : ∀ x ∈ [108, 109, 102, 104, 103, 106, 111, 110], x ≠ 26) x m) ((by decide : ∀ x ∈ [108, 109, 102, 104, 103, 106, 111, 110], x ≠ 140) x m)) (hwk k k0 k1)
    · have hd := h2.2 e1
      have kν : ∀ k, k ∉ [26, 140, 118, 119] → su (su (su (su τ 26 0 0) 140 0 q1) 118 0 0) 119 0 0 k = τ k := fun k m => by
        simp only [List.mem_cons, List.not_mem_nil, or_false, not_or] at m
        rw [su_k (by omega), su_k (by omega), su_k (by omega), su_k (by omega)]
      have n140 : su (su (su (su τ 26 0 0) 140 0 q1) 118 0 0) 119 0 0 140 0 = q1 := by rw [su_k (by decide), su_k (by decide), su_s]
      have nTh : su (su (su (su τ 26 0 0) 140 0 q1) 118 0 0) 119 0 0 118 0 = 0 := by rw [su_k (by decide), su_s]
      have nOn : su (su (su (su τ 26 0 0) 140 0 q1) 118 0 0) 119 0 0 119 0 = 0 := su_s
      have nBe : su (su (su (su τ 26 0 0) 140 0 q1) 118 0 0) 119 0 0 26 0 = 0 := by rw [su_k (by decide), su_k (by decide), su_k (by decide), su_s]
      rw [kk 117 (by decide) (by decide)] at hd
      generalize su (su (su (su τ 26 0 0) 140 0 q1) 118 0 0) 119 0 0 = ν at *
      have hch := hCH.1
      have hc2 := hCH.2.1
      obtain ⟨g1, g2, g3⟩ := dfr_run _ 0 ν q σ2 hd (fun x x0 x1 => by
        rw [kν 112 (by decide)]
        exact wkk (kp kν (by decide)) (hwk x x0 (by omega))) (by rw [kν 102 (by decide)]; exact t2.2)
      have gR : (q, fD σ2) = RES ν := by rw [g1]; unfold RES; rw [kν 117 (by decide)]
      rw [RES_k (kp kν (by decide)), ← hres] at gR
      have eq : q = τ 28 0 := congrArg Prod.fst gR
      have ef : fD σ2 = fM τ := congrArg Prod.snd gR
      have kσ : ∀ k, k ∉ [26, 140, 118, 119, 126, 127, 128, 129, 131, 120, 121, 122, 123, 130, 124, 125, 102, 100, 101] → σ2 k = τ k := fun k m => by
        simp only [List.mem_cons, List.not_mem_nil, or_false, not_or] at m
        rw [g2 k (by simp only [List.mem_cons, List.not_mem_nil, or_false, not_or]; omega), kν k (by simp only [List.mem_cons, List.not_mem_nil, or_false, not_or]; omega)]
      have b0 : σ2 26 0 = 0 := by rw [g2 26 (by decide)]; exact nBe
      have hB2 : B2 σ2 := ⟨by unfold fsok; rw [kσ 2 (by decide)]; exact t2.1, g3⟩
      refine ⟨by rw [g2 118 (by decide)]; exact nTh, fun _ => by rw [g2 140 (by decide), n140, c2, eq], ⟨⟨⟨Or.inl b0, fun _ => by rw [kσ 27 (by decide)]; exact hg⟩, by rw [b0, g2 119 (by decide)]; exact nOn⟩, hB2, B3_k t3 (kp kσ (by decide)), B4_k t4 (kp kσ (by decide)), B5_k t5 (kp kσ (by decide)), B6_k t6 (kp kσ (by decide))⟩, by rw [kσ 31 (by decide)]; omega, fun _ => IDL_of hB2 (by rw [ef, fM_k (kp kσ (by decide))]), fun hx => by omega⟩
  · have hr : (1 : Int) = r := Option.some.inj a2
    have e0 : σ1 119 0 = 0 := by rw [hB.2]; exact c1
    refine ⟨fun hx => absurd e0 hx, fun q σ2 h2 => ?_⟩
    obtain ⟨rfl, rfl⟩ := h2.1 e0
    exact ⟨by rw [su_s]; exact hr, fun hx => by omega, INV_f hR h (th_f1 _ _)⟩
theorem lawOK_of {RJ : Nat → Nat → qS → Prop} (hO : RIOK RJ) : lawOK (INVo (fun N σ => RJ N (200 * N) σ)) := by
  intro N σ hN hσ h
  have hR := RI_f hO
  have hG : RIb (fun N σ => RJ N (200 * N) σ) := hO.2.2.2.2.2.1
  refine ⟨l_record hR h, l_clear hR h, l_code hR h, l_program hR h, l_job hR h, l_drop hR h, l_begin hR hG hN h, l_tick hO hN h, l_crash hO h, l_line hO h, l_finish hO hN h, l_told hR h, l_size hR h, l_count hR h, ⟨l_check hO h, fun r σ1 h1 => ⟨trivial, fun q σ2 h2 => ?_⟩⟩, INV_f hR h (fun _ _ _ => rfl)⟩
  obtain ⟨rfl, rfl⟩ := h1
  obtain ⟨rfl, rfl⟩ := h2
  exact ⟨rfl, INV_f hR h (th_f1 _ _)⟩
theorem inv_0 {RJ : Nat → Nat → qS → Prop} : INVo (fun N σ => RJ N (200 * N) σ) 0 σz := by
  have hz : ∀ k, k ≠ 23 → ∀ i, σz k i = 0 := fun k hk i => by unfold σz; rw [if_neg hk]
  refine ⟨⟨⟨⟨Or.inl (hz _ (by decide) 0), fun _ => hz _ (by decide) 0⟩, by rw [hz _ (by decide), hz _ (by decide)]⟩, ⟨fun f _ _ => by rw [hz _ (by decide)]; omega, fun f _ _ => by rw [hz _ (by decide)]; omega⟩, ⟨by rw [hz _ (by decide)]; omega, by rw [hz _ (by decide), hz _ (by decide)], fun i i0 i1 => by rw [hz _ (by decide)] at i1; omega⟩, fun p p0 p1 => ⟨⟨⟨p0, p1⟩, by rw [hz _ (by decide)]; omega, fun i i0 i1 => by rw [hz _ (by decide)] at i1; omega⟩, by rw [hz _ (by decide), hz _ (by decide)], fun i i0 i1 => by rw [hz _ (by decide)] at i1; omega⟩, fun j j0 j1 => ⟨Or.inl (hz _ (by decide) _), by rw [hz _ (by decide), hz _ (by decide)], ⟨by rw [hz _ (by decide), hz _ (by decide)], by rw [hz _ (by decide), hz _ (by decide)], by rw [hz _ (by decide), hz _ (by decide)], by rw [hz _ (by decide), hz _ (by decide)]⟩, fun hm => by rw [hz _ (by decide)] at hm; omega⟩, ⟨by rw [hz _ (by decide), hz _ (by decide)], fun w _ _ => ⟨by rw [hz _ (by decide), hz _ (by decide)]; exact Int.le_refl _, hz _ (by decide) _⟩, fun p _ _ => by rw [hz _ (by decide), hz _ (by decide)]; exact Int.le_refl _⟩⟩, by rw [hz _ (by decide)]; omega, fun _ f f0 f1 => ⟨by rw [hz _ (by decide), hz _ (by decide)], fun i i0 i1 => by rw [hz _ (by decide)] at i1; omega⟩, fun hb => by rw [hz _ (by decide)] at hb; omega⟩
theorem vc_run {RJ : Nat → Nat → qS → Prop} (hO : RIOK RJ) : Claimed_1_1 ∧ Claimed_1_2 := vc_of _ (lawOK_of hO) inv_0

