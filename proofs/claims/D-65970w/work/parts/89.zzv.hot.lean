def un (σ : qS) : Nat := sb (fun k : Nat => if isdn σ (k : Int) = 0 then 1 else 0) 38
def c7 (σ : qS) : Nat := (ln σ).countP t7
theorem un_k {σ σ' : qS} (h : ∀ k : Int, isdn σ' k = isdn σ k) : un σ' = un σ := by
  have e : (fun k : Nat => if isdn σ' (k : Int) = 0 then 1 else 0) = (fun k : Nat => if isdn σ (k : Int) = 0 then 1 else 0) := funext (fun k => by rw [h k])
  unfold un
  rw [e]
theorem sb_c {B : Nat → Nat} {c : Nat} : ∀ n, (∀ k, k < n → B k ≤ c) → sb B n ≤ n * c
  | 0, _ => by simp [sb]
  | n + 1, h => by
    have ih := sb_c n (fun k hk => h k (by omega))
    have := h n (by omega)
    simp only [sb]
    rw [Nat.succ_mul]
    omega
theorem un_b (σ : qS) : un σ ≤ 38 := by
  have := sb_c (B := fun k : Nat => if isdn σ (k : Int) = 0 then 1 else 0) (c := 1) 38 (fun k _ => by
    show (if isdn σ (k : Int) = 0 then 1 else 0) ≤ 1
    split <;> omega)
  unfold un
  omega
theorem un_le {σ σ' : qS} (g : ∀ k, isdn σ k ≠ 0 → isdn σ' k ≠ 0) : un σ' ≤ un σ := by
  unfold un
  refine sb_le 38 (fun k _ => ?_)
  show (if isdn σ' (k : Int) = 0 then 1 else 0) ≤ (if isdn σ (k : Int) = 0 then 1 else 0)
  by_cases c : isdn σ' (k : Int) = 0
  · have e : isdn σ (k : Int) = 0 := Classical.byContradiction (fun e => g k e c)
    rw [if_pos c, if_pos e]; exact Nat.le_refl _
  · rw [if_neg c]; exact Nat.zero_le _
theorem HR_7 {σ σ' : qS} (h : HR σ σ') : c7 σ' ≤ c7 σ := by
  obtain ⟨s, a, b⟩ := HR_y h
  have c := (rd_cp t7 a).1
  have d : s.countP t7 = 0 := c0_6 b t7 (fun x e => by
    have : xw x 0 = 7 := by { unfold t7 at e; simpa using e }
    omega)
  unfold c7
  omega
theorem HR_e7 {σ σ' : qS} (h : HR σ σ') {x : Ms} (g1 : hd6 σ x) (g2 : xw x 1 = σ 31 0) (g3 : xw x 0 = 7) : c7 σ' + 1 ≤ c7 σ := by
  obtain ⟨-, -, q⟩ := h
  obtain ⟨i0, b1, b2⟩ := g1
  rcases q with ⟨q1, -⟩ | ⟨i, y, q1, q2, q⟩
  · rw [q1] at b1; cases b1
  · rw [q1] at b1
    have e := Option.some.inj b1
    subst e
    rw [q2] at b2
    have e := Option.some.inj b2
    subst e
    have t : t7 y = true := by unfold t7; rw [g3]; rfl
    have p := cp_er t7 _ i y q2
    rw [if_pos t] at p
    rcases q with ⟨d0, -⟩ | ⟨-, d1, -⟩ | ⟨-, d1, -⟩ | ⟨-, -, d2, -⟩
    · exact absurd g2 d0
    · omega
    · omega
    · unfold c7; rw [d2]; omega
theorem HR_uc {σ σ' : qS} (hJ : JI True (-1) σ) (h : HR σ σ') : un σ' + c7 σ' ≤ un σ + c7 σ := by
  have h7 := HR_7 h
  rcases HR_1 hJ h with g | ⟨x, g1, g2, g3, g4, g5, g6, g7, g8⟩
  · have := un_le g; omega
  · have u : un σ' ≤ un σ + 1 := by
      unfold un
      refine sb_p1 (j := (xw x 2).toNat) ?_ 38 (fun k _ hk => ?_)
      · show (if isdn σ' (((xw x 2).toNat : Nat) : Int) = 0 then 1 else 0) ≤ (if isdn σ (((xw x 2).toNat : Nat) : Int) = 0 then 1 else 0) + 1
        split <;> omega
      · show (if isdn σ' (k : Int) = 0 then 1 else 0) ≤ (if isdn σ (k : Int) = 0 then 1 else 0)
        by_cases c : isdn σ' (k : Int) = 0
        · have e : isdn σ (k : Int) = 0 := Classical.byContradiction (fun e => g8 k (fun e' => hk (by omega)) e c)
          rw [if_pos c, if_pos e]; exact Nat.le_refl _
        · rw [if_neg c]; exact Nat.zero_le _
    have c := HR_e7 h g1 g2 g3
    omega
theorem HR_ud {σ σ' : qS} (hJ : JI True (-1) σ) (h : HR σ σ') {x : Ms} (hx : hd6 σ x) (he' : xw x 1 = σ 31 0) (hc : clos σ x) {j : Nat} (ej : xw x 3 = j) (hj : j < 38) : un σ' + 1 ≤ un σ := by
  have g : ∀ k, isdn σ k ≠ 0 → isdn σ' k ≠ 0 := by
    rcases HR_1 hJ h with g | ⟨y, g1, -, g3, -⟩
    · exact g
    · exfalso
      rw [hd6_u g1 hx] at g3
      have := hc.1; omega
  have dj : isdn σ' j ≠ 0 := by
    obtain ⟨-, -, q⟩ := h
    obtain ⟨i0, b1, b2⟩ := hx
    rcases q with ⟨q1, -⟩ | ⟨i, y, q1, q2, q⟩
    · rw [q1] at b1; cases b1
    · rw [q1] at b1
      have e := Option.some.inj b1
      subst e
      rw [q2] at b2
      have e := Option.some.inj b2
      subst e
      have hy : y ∈ ln σ := List.mem_of_getElem? q2
      have hL := (hJ.2.2.2.2.2.2.2.1 y hy).2 he'
      have t3 := hc.1
      rcases q with ⟨d0, -⟩ | ⟨-, d1, -⟩ | ⟨d0, d1, -, -, -, d3⟩ | ⟨-, d1, -⟩
      · exact absurd he' d0
      · omega
      · rcases d3 with ⟨f1, f2, f3⟩ | ⟨f1, -⟩
        · have hn : xw y 2 ≠ -1 := by
            rcases hL with ⟨-, g⟩ | ⟨-, g⟩
            · rcases g with ⟨g, -⟩ | ⟨-, g⟩ | ⟨g, -⟩ | ⟨g, -⟩
              · omega
              · have := g.1; omega
              · omega
              · omega
            · rcases g with ⟨g, -⟩ | ⟨g, -⟩ | ⟨g, -⟩ <;> omega
          unfold isdn
          rw [if_pos (by omega), f3, if_pos ej.symm, if_neg hn]; decide
        · omega
      · omega
  have z : (fun k : Nat => if isdn σ' (k : Int) = 0 then 1 else 0) j = 0 := if_neg dj
  have d := sb_dn (B := fun k : Nat => if isdn σ (k : Int) = 0 then 1 else 0) (B' := fun k : Nat => if isdn σ' (k : Int) = 0 then 1 else 0) (j := j) z 38 hj (fun k _ _ => by
    show (if isdn σ' (k : Int) = 0 then 1 else 0) ≤ (if isdn σ (k : Int) = 0 then 1 else 0)
    by_cases c : isdn σ' (k : Int) = 0
    · have e : isdn σ (k : Int) = 0 := Classical.byContradiction (fun e => g k e c)
      rw [if_pos c, if_pos e]; exact Nat.le_refl _
    · rw [if_neg c]; exact Nat.zero_le _)
  have e1 : (if isdn σ (j : Int) = 0 then 1 else 0) = 1 := if_pos (by rw [← ej]; exact hc.2)
  have d' : sb (fun k : Nat => if isdn σ' (k : Int) = 0 then 1 else 0) 38 + (if isdn σ (j : Int) = 0 then 1 else 0) ≤ sb (fun k : Nat => if isdn σ (k : Int) = 0 then 1 else 0) 38 := d
  rw [e1] at d'
  unfold un
  exact d'
theorem HR_Y {σ σ' : qS} (hJ : JI True (-1) σ) (hE : ER σ) (h : HR σ σ') {B : Nat → Nat} {D : Nat} (hI : IB σ B D) (hP : ∀ x, hd6 σ x → clos σ x → xw x 3 < 38) (hD : D ≤ 67) : We σ' + 2 * sb (nb σ σ' B) 38 + 2 * (if 1 ≤ cn 6 (ln σ) then 1 else 0) + 136 * (un σ' + c7 σ') ≤ We σ + 2 * sb B 38 + 136 * (un σ + c7 σ) := by
  obtain ⟨cl, c1, c2, c3⟩ := HR_BB hJ hE h hI hP
  have h7 := HR_7 h
  have key : un σ' + c7 σ' + cl ≤ un σ + c7 σ := by
    by_cases c : ∀ x, hd6 σ x → ¬ clos σ x
    · have := c2 c
      have := HR_uc hJ h
      omega
    · obtain ⟨x, hx⟩ := Classical.not_forall.mp c
      obtain ⟨h1, h2⟩ := Classical.not_imp.mp hx
      have h2' : clos σ x := Classical.byContradiction h2
      have hm : x ∈ ln σ := by
        obtain ⟨i, -, hx⟩ := h1
        exact List.mem_of_getElem? hx
      have he := hE x hm
      have hL := (hJ.2.2.2.2.2.2.2.1 x hm).2 he
      have h0 : 0 ≤ xw x 3 := by
        have t3 := h2'.1
        rcases hL with ⟨-, g⟩ | ⟨-, g⟩
        · rcases g with ⟨g, -⟩ | ⟨-, g⟩ | ⟨g, -⟩ | ⟨g, -⟩
          · omega
          · rcases g.2 with g | g <;> omega
          · omega
          · omega
        · rcases g with ⟨g, -⟩ | ⟨g, -⟩ | ⟨g, -⟩ <;> omega
      have h38 := hP x h1 h2'
      have ej : xw x 3 = ((xw x 3).toNat : Int) := (Int.toNat_of_nonneg h0).symm
      have u := HR_ud hJ h h1 he h2' ej (by omega)
      omega
  have hc : cl = 0 ∨ cl = 1 := by omega
  rcases hc with e | e
  · rw [e] at c3 key; omega
  · rw [e] at c3 key; omega
theorem M_Y {σ σ1 σ2 σ' : qS} (j0 : JI True (-1) (clk σ)) (j1 : JI True (-1) σ1) (j2 : JI True (-1) σ2) (r1 : HR (clk σ) σ1) (r2 : HR σ1 σ2) (r3 : HR σ2 σ') (hE : ER σ) (hl : (ln σ).length ≤ 95) (k0 : ∀ x, hd6 (clk σ) x → clos (clk σ) x → xw x 3 < 38) (k1 : ∀ x, hd6 σ1 x → clos σ1 x → xw x 3 < 38) (k2 : ∀ x, hd6 σ2 x → clos σ2 x → xw x 3 < 38) {B : Nat → Nat} (hI : IB σ B 65) : We σ' + 2 * sb (nb σ2 σ' (nb σ1 σ2 (nb (clk σ) σ1 B))) 38 + 2 * min 3 (cn 6 (ln σ)) + 136 * (un σ' + c7 σ') ≤ We σ + 2 * sb B 38 + 136 * (un σ + c7 σ) := by
  have l0 : ln (clk σ) = ln σ := l_clk σ
  have e0 : (clk σ) 31 = σ 31 := clk_k (by decide)
  have t0 : (clk σ) 62 = σ 62 := clk_k (by decide)
  have E0 : ER (clk σ) := fun x hx => by rw [l0] at hx; rw [e0]; exact hE x hx
  have I0 : IB (clk σ) B 65 := fun k hk e => by
    have e' : isdn σ k = 0 := by rw [← e]; exact (isdn_k (clk_k (by decide)) (clk_k (by decide)) _).symm
    have := hI k hk e'
    have q : itb (clk σ) k = itb σ k := by unfold itb gk bk b1; rw [l0, e0, t0]
    omega
  have u0 : un (clk σ) = un σ := un_k (fun k => isdn_k (clk_k (by decide)) (clk_k (by decide)) _)
  have s0 : c7 (clk σ) = c7 σ := by unfold c7; rw [l0]
  obtain ⟨E1, L1, C1⟩ := HR_M j0 E0 (by rw [l0]; exact hl) r1
  obtain ⟨E2, L2, C2⟩ := HR_M j1 E1 L1 r2
  rw [l0] at C1
  have w0 := HR_Y j0 E0 r1 I0 k0 (by omega)
  have w1 := HR_Y j1 E1 r2 (IB_HR r1 I0) k1 (by omega)
  have w2 := HR_Y j2 E2 r3 (IB_HR r2 (IB_HR r1 I0)) k2 (by omega)
  rw [l0, We_clk, u0, s0] at w0
  by_cases c0 : 1 ≤ cn 6 (ln σ)
  · rw [if_pos c0] at w0
    by_cases c1 : 1 ≤ cn 6 (ln σ1)
    · rw [if_pos c1] at w1
      by_cases c2 : 1 ≤ cn 6 (ln σ2)
      · rw [if_pos c2] at w2
        omega
      · rw [if_neg c2] at w2
        omega
    · rw [if_neg c1] at w1
      omega
  · rw [if_neg c0] at w0
    omega
theorem un_t {L : Nat} {τ : Nat → qS} (h : RNN L τ) {t : Nat} (ht : t < 7 * L) (hw : t % 7 < 6) : un (τ (t + 1)) = un (τ t) := by
  rcases h.2 t ht with ⟨-, σ1, σ2, σ3, r1, r2, r3, a, -⟩ | ⟨e, -⟩
  · refine un_k (fun k => isdn_k ?_ ?_ _)
    · exact (a.2.2.1 _ (by decide)).trans ((r3.2.2.1 _ (by decide)).trans ((r2.2.2.1 _ (by decide)).trans (r1.2.2.1 _ (by decide))))
    · exact (a.2.2.1 _ (by decide)).trans ((r3.2.2.1 _ (by decide)).trans ((r2.2.2.1 _ (by decide)).trans (r1.2.2.1 _ (by decide))))
  · omega
theorem c7_t {L : Nat} {τ : Nat → qS} (h : RNN L τ) {t : Nat} (ht : t < 7 * L) : c7 (τ (t + 1)) + lkc τ t ≤ c7 (τ t) + lkc τ (t + 1) := by
  obtain ⟨s, hs⟩ := STP_h (h.2 t ht)
  have a := ts_ca t7 hs.1
  simp only [lkc]
  unfold c7
  by_cases c : t % 7 = 6
  · have z := (hs.2.2.2.1 (by omega)).2.2
    omega
  · have hw : t % 7 < 6 := by omega
    rcases (hs.2.2.1 (by omega)).2.2 with z | ⟨z, z'⟩
    · omega
    · rw [if_pos ⟨hw, z'⟩]
      omega
noncomputable def Yp (τ s1 s2 : Nat → qS) (t0 : Nat) (B0 : Nat → Nat) (n : Nat) : Nat := We (τ (t0 + n)) + 2 * sb (bet τ s1 s2 t0 B0 n) 38 + 136 * (un (τ (t0 + n)) + c7 (τ (t0 + n)))
theorem rnd_Y {L : Nat} {τ s1 s2 : Nat → qS} {S : Nat → List Ms} (h : RNN L τ) (hc : CHN L τ s1 s2) (hS : SNO L τ S s1 s2) (hP : NPE L τ s1 s2) {t0 : Nat} (ht : 224 ≤ t0) {B0 : Nat → Nat} (hB : ∀ k : Nat, itb (τ t0) k ≤ B0 k) {r n : Nat} (hn : t0 + n = 7 * r) (hl : r + 4 ≤ L) : Yp τ s1 s2 t0 B0 (n + 7) + 2 * min 3 (cn 6 (ln (τ (7 * r + 6)))) + 136 * lkc τ (7 * r) ≤ Yp τ s1 s2 t0 B0 n + psm τ r + 136 * lkc τ (7 * r + 7) := by
  have w0 := we_t h (t := 7 * r) (by omega) (by omega)
  have w1 := we_t h (t := 7 * r + 1) (by omega) (by omega)
  have w2 := we_t h (t := 7 * r + 2) (by omega) (by omega)
  have w3 := we_t h (t := 7 * r + 3) (by omega) (by omega)
  have w4 := we_t h (t := 7 * r + 4) (by omega) (by omega)
  have w5 := we_t h (t := 7 * r + 5) (by omega) (by omega)
  have u0 := un_t h (t := 7 * r) (by omega) (by omega)
  have u1 := un_t h (t := 7 * r + 1) (by omega) (by omega)
  have u2 := un_t h (t := 7 * r + 2) (by omega) (by omega)
  have u3 := un_t h (t := 7 * r + 3) (by omega) (by omega)
  have u4 := un_t h (t := 7 * r + 4) (by omega) (by omega)
  have u5 := un_t h (t := 7 * r + 5) (by omega) (by omega)
  have v0 := c7_t h (t := 7 * r) (by omega)
  have v1 := c7_t h (t := 7 * r + 1) (by omega)
  have v2 := c7_t h (t := 7 * r + 2) (by omega)
  have v3 := c7_t h (t := 7 * r + 3) (by omega)
  have v4 := c7_t h (t := 7 * r + 4) (by omega)
  have v5 := c7_t h (t := 7 * r + 5) (by omega)
  have v6 := lkc_m τ (7 * r + 6) 1
  have m0 : (7 * r) % 7 = 0 := by omega
  have m1 : (7 * r + 1) % 7 = 1 := by omega
  have m2 : (7 * r + 2) % 7 = 2 := by omega
  have m3 : (7 * r + 3) % 7 = 3 := by omega
  have m4 : (7 * r + 4) % 7 = 4 := by omega
  have m5 : (7 * r + 5) % 7 = 5 := by omega
  have m6 : (7 * r + 6) % 7 = 6 := by omega
  rw [m0] at w0; rw [m1] at w1; rw [m2] at w2; rw [m3] at w3; rw [m4] at w4; rw [m5] at w5
  obtain ⟨r1, r2, r3, j0, j1, j2⟩ := hc (7 * r + 6) (by omega) m6
  obtain ⟨p0, p1, p2⟩ := hP (7 * r + 6) (by omega) (by omega) m6
  have s6 : bet τ s1 s2 t0 B0 (n + 6) = bet τ s1 s2 t0 B0 n := by
    rw [bet_w (n := n + 5) (by omega), bet_w (n := n + 4) (by omega), bet_w (n := n + 3) (by omega), bet_w (n := n + 2) (by omega), bet_w (n := n + 1) (by omega), bet_w (n := n) (by omega)]
  have e6 : t0 + (n + 6) = 7 * r + 6 := by omega
  have I := ib_run h hc hS ht hB (n := n + 6) (by omega)
  rw [e6, s6] at I
  have c3 := M_Y j0 j1 j2 r1 r2 r3 (run_ER h (by omega) (by omega)) (run_95 h (by omega) (by omega) (by omega)) p0 p1 p2 I
  have e7 := bet_m (τ := τ) (s1 := s1) (s2 := s2) (t0 := t0) (B0 := B0) (n := n + 6) (by omega)
  rw [e6, s6] at e7
  unfold Yp
  rw [show n + 7 = n + 6 + 1 by omega, e7, show t0 + (n + 6 + 1) = 7 * r + 6 + 1 by omega, hn]
  unfold psm
  have d0 : ((0 : Nat) : Int) = 0 := rfl
  have d1 : ((1 : Nat) : Int) = 1 := rfl
  have d2 : ((2 : Nat) : Int) = 2 := rfl
  have d3 : ((3 : Nat) : Int) = 3 := rfl
  have d4 : ((4 : Nat) : Int) = 4 := rfl
  have d5 : ((5 : Nat) : Int) = 5 := rfl
  rw [d0] at w0; rw [d1] at w1; rw [d2] at w2; rw [d3] at w3; rw [d4] at w4; rw [d5] at w5
  simp only [Nat.add_assoc, Nat.reduceAdd] at w0 w1 w2 w3 w4 w5 u0 u1 u2 u3 u4 u5 v0 v1 v2 v3 v4 v5 v6 c3 ⊢
  omega

