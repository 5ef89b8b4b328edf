theorem TRM {L : Nat} {τ : Nat → qS} (h : RNN L τ) {c e : Nat} (hc : CB τ c e) (hb : e + 3 ≤ L) {r : Nat} (h2 : c + 64 ≤ r) (h3 : r + 1 < e) : (∀ k ∈ jK, τ (7 * r + 7) k = τ (7 * r + 6) k) ∧ (mq (ln (τ (7 * r + 6))) ≠ [] → ∃ w fi en, RNG (clk (τ (7 * r + 6))) fi en ∧ ∀ u, fi ≤ u → u < en → gNo (clk (τ (7 * r + 6))) w u) := by
  have h32 := hc.1
  have nb := fun u hu => NB7 h hc hb (u := u) hu h2 h3
  have hK := hc.2.2.1 r (by omega) (by omega)
  obtain ⟨σ1, σ2, r1, r2, r3, -, j0, j1, j2⟩ := stp_mtk h (r := r) (by omega)
  have l0 : (ln (clk (τ (7 * r + 6)))).length ≤ 95 := by rw [l_clk]; exact run_95 h (by omega) (by omega) (by omega)
  have E0 : ER (clk (τ (7 * r + 6))) := fun x hx => by
    rw [l_clk] at hx
    rw [clk_k (by decide)]
    exact run_ER h (by omega) (by omega) x hx
  obtain ⟨E1, l1, -⟩ := HR_M j0 E0 l0 r1
  obtain ⟨E2, l2, -⟩ := HR_M j1 E1 l1 r2
  have q1 := (HR_q j0 l0 r1).1
  have q2 := (HR_q j1 l1 r2).1
  rw [l_clk] at q1
  have bad : ∀ {ρ : qS}, (∀ u : Int, u ≠ 6 → cn u (ln ρ) ≤ cn u (ln (τ (7 * r + 7)))) → (∃ u : Nat, u < 6 ∧ 1 ≤ cn u (ln ρ)) → False := fun {ρ} hm hx => by
    obtain ⟨u, u1, u2⟩ := hx
    have := nb u u1
    have := hm (u : Int) (by omega)
    omega
  have m3 : ∀ u : Int, u ≠ 6 → cn u (ln σ2) ≤ cn u (ln (τ (7 * r + 7))) := fun u hu => (HR_cn l2 r3 hu).1
  have m2 : ∀ u : Int, u ≠ 6 → cn u (ln σ1) ≤ cn u (ln (τ (7 * r + 7))) := fun u hu => Nat.le_trans (HR_cn l1 r2 hu).1 (m3 u hu)
  rcases HRa j0 E0 l0 r1 (fun x hx => hK x ⟨0, by omega, by rw [l_clk] at hx; exact hx⟩) with ⟨a1, a2⟩ | a
  · rcases HRa j1 E1 l1 r2 (fun x hx => hK x ⟨1, by omega, by rw [q1, List.getElem?_drop] at hx; exact hx⟩) with ⟨b1, -⟩ | b
    · rcases HRa j2 E2 l2 r3 (fun x hx => hK x ⟨2, by omega, by rw [q2, q1, List.getElem?_drop, List.getElem?_drop] at hx; exact hx⟩) with ⟨c1, -⟩ | c
      · refine ⟨fun k m => ?_, fun hq => a2 (by rw [l_clk]; exact hq)⟩
        rw [c1 k m, b1 k m, a1 k m]
        exact clk_k ((by decide : ∀ k ∈ jK, k ≠ 39) k m)
      · exact (bad (fun u _ => Nat.le_refl _) c).elim
    · exact (bad m3 b).elim
  · exact (bad m2 a).elim
theorem MT_ck {σ σ' : qS} (h : MTK σ σ') : σ' 39 0 = z_add (σ 39 0) 1 := by
  obtain ⟨σ1, σ2, r1, r2, r3, -⟩ := h
  rw [r3.2.1 39 (by decide), r2.2.1 39 (by decide), r1.2.1 39 (by decide)]
  unfold clk
  rw [su_s]
theorem cst {L : Nat} {τ : Nat → qS} (h : RNN L τ) {c e : Nat} (hc : CB τ c e) (hb : e + 3 ≤ L) : ∀ i, c + 64 + i + 1 < e → (∀ k ∈ jK, τ (7 * (c + 64 + i)) k = τ (7 * (c + 64)) k) ∧ (τ (7 * (c + 64 + i)) 39 0 - τ (7 * (c + 64)) 39 0 - i) % 4294967296 = 0
  | 0, _ => ⟨fun _ _ => rfl, by rw [Nat.add_zero]; omega⟩
  | i + 1, hi => by
    obtain ⟨a1, a2⟩ := cst h hc hb i (by omega)
    have w := wk_j h (r := c + 64 + i) (by omega) 6 (by omega)
    have t := (TRM h hc hb (r := c + 64 + i) (by omega) (by omega)).1
    have ck := MT_ck (stp_mtk h (r := c + 64 + i) (by omega))
    rw [show c + 64 + (i + 1) = c + 64 + i + 1 by omega, show 7 * (c + 64 + i + 1) = 7 * (c + 64 + i) + 7 by omega]
    refine ⟨fun k m => ?_, ?_⟩
    · rw [t k m, w k ((by decide : ∀ k ∈ jK, k ∈ jC) k m), a1 k m]
    · rw [ck, w 39 (by decide)]
      unfold z_add w32
      omega
theorem WTK_i {w : Int} {σ σ' : qS} (h : WTK w σ σ') (hc : cn w (ln σ) = 0) (hi : σ 62 w = -1) : σ' 62 w = -1 ∧ σ' 65 w = (if σ 65 w = 5 then 0 else σ 65 w + 1) ∧ (σ 65 w = 0 → ∃ x : Ms, x.1 = 6 ∧ ln σ' = tl95 (ln σ) ++ [x]) := by
  obtain ⟨σ1, σ2, σ3, r1, r2, r3, a, -⟩ := h
  obtain ⟨l1, s1⟩ := RD_n r1 hc
  obtain ⟨l2, s2⟩ := RD_n r2 (by rw [l1]; exact hc)
  obtain ⟨l3, s3⟩ := RD_n r3 (by rw [l2, l1]; exact hc)
  have s := (s1.tr s2).tr s3
  obtain ⟨-, -, -, c⟩ := a
  have t3 : σ3 62 w = -1 := s.1.trans hi
  have a3 : σ3 65 w = σ 65 w := s.2.2.1
  rcases c with ⟨-, -, c1, c2, c3⟩ | ⟨c0, -⟩ | ⟨c0, -⟩
  · rw [a3] at c2 c3
    refine ⟨c1, c2, fun e => ?_⟩
    rcases c3 with ⟨-, kv, c3⟩ | ⟨c3, -⟩
    · exact ⟨_, rfl, by rw [c3, l3, l2, l1]⟩
    · exact absurd e c3
  · omega
  · omega
theorem AH0 {L : Nat} {τ : Nat → qS} (h : RNN L τ) {c e : Nat} (hc : CB τ c e) (hb : e + 3 ≤ L) {r : Nat} (h2 : c + 64 ≤ r) (h3 : r < e) (ha : τ (7 * r) 65 0 = 0) : ∃ r', r ≤ r' ∧ r' < r + 3 ∧ mq (ln (τ (7 * r' + 6))) ≠ [] := by
  have h32 := hc.1
  have z := NB h hc hb (v := 0) (by omega) h2 h3
  have hi := (hc.2.1 r 0 (by omega) (by omega) h3)
  have hw := stp_wtk h (r := r) (v := 0) (by omega) (by omega)
  simp only [Nat.add_zero, Int.cast_ofNat_Int, Int.natCast_zero] at z hi hw
  obtain ⟨-, -, g⟩ := WTK_i hw z hi.1.1
  obtain ⟨x, x1, x2⟩ := g ha
  obtain ⟨r', e1, e2, j, e3, e4⟩ := SHc h (r := r) (v := 0) (by omega) (by omega) (by omega) x1 (M := ln (τ (7 * r))) (by rw [Nat.add_zero]) (by rw [Nat.add_zero]; exact hi.2) (by rw [Nat.add_zero]; exact x2)
  refine ⟨r', e1, e2, fun hz => ?_⟩
  rw [hz] at e4
  cases e4
theorem AH1 {L : Nat} {τ : Nat → qS} (h : RNN L τ) {c e : Nat} (hc : CB τ c e) (hb : e + 3 ≤ L) : ∀ (n r : Nat), c + 64 ≤ r → r + n < e → n ≤ 5 → τ (7 * r) 65 0 = 6 - (n : Int) → 1 ≤ n → τ (7 * (r + n)) 65 0 = 0
  | 0, _, _, _, _, _, hn => absurd hn (by omega)
  | n + 1, r, h2, h3, h5, ha, _ => by
    have z := NB h hc hb (r := r) (v := 0) (by omega) h2 (by omega)
    have hi := (hc.2.1 r 0 (by omega) (by omega) (by omega))
    have hw := stp_wtk h (r := r) (v := 0) (by omega) (by omega)
    have k := keep_a h (r := r) (w := 0) (by omega) (j := 7) (by omega) (by omega) (by omega) 65 (by decide)
    simp only [Nat.add_zero, Int.cast_ofNat_Int, Int.natCast_zero] at z hi hw k
    obtain ⟨-, g, -⟩ := WTK_i hw z hi.1.1
    rw [← k, show 7 * r + 7 = 7 * (r + 1) by omega] at g
    by_cases c : n = 0
    · subst c
      rw [if_pos (by omega)] at g
      exact g
    · rw [if_neg (by omega)] at g
      have := AH1 h hc hb n (r + 1) (by omega) (by omega) (by omega) (by omega) (by omega)
      rw [show r + 1 + n = r + (n + 1) by omega] at this
      exact this
theorem AH {L : Nat} {τ : Nat → qS} (h : RNN L τ) {c e : Nat} (hc : CB τ c e) (hb : e + 3 ≤ L) {r : Nat} (h2 : c + 64 ≤ r) (h3 : r + 6 < e) : ∃ r', r ≤ r' ∧ r' < r + 8 ∧ mq (ln (τ (7 * r' + 6))) ≠ [] := by
  have gs := h.1 (7 * r) (by omega)
  have hi := (hc.2.1 r 0 (by omega) (by omega) (by omega)).1.1
  simp only [Nat.add_zero, Int.cast_ofNat_Int, Int.natCast_zero] at hi
  have hW := gs.1.2.2.2.2.2.2.2.2.1 0 (by omega) (by omega) (by omega) (gs.2.2.1 0 (by omega) (by omega)).1
  have ha : 0 ≤ τ (7 * r) 65 0 ∧ τ (7 * r) 65 0 ≤ 5 := by
    rcases hW with ⟨-, g, -⟩ | ⟨g, -⟩
    · exact g
    · omega
  by_cases c0 : τ (7 * r) 65 0 = 0
  · obtain ⟨r', a1, a2, a3⟩ := AH0 h hc hb h2 (by omega) c0
    exact ⟨r', a1, by omega, a3⟩
  · have hn : ((6 - τ (7 * r) 65 0).toNat : Int) = 6 - τ (7 * r) 65 0 := by omega
    have := AH1 h hc hb (6 - τ (7 * r) 65 0).toNat r h2 (by omega) (by omega) (by omega) (by omega)
    obtain ⟨r', a1, a2, a3⟩ := AH0 h hc hb (by omega) (by omega) this
    exact ⟨r', by omega, by omega, a3⟩
theorem CBf {L : Nat} {τ : Nat → qS} (h : RNN L τ) {c e : Nat} (hc : CB τ c e) (hb : e + 3 ≤ L) (he : c + 4294967500 ≤ e) : False := by
  have key : ∃ u, isdn (τ (7 * (c + 64))) u = 0 ∧ ∀ (ρ : qS) (fi en : Int), (∀ k ∈ stC, ρ k = τ (7 * (c + 64)) k) → ρ 33 = τ (7 * (c + 64)) 33 → RNG ρ fi en → fi ≤ u ∧ u < en := by
    by_cases hm : mapd (τ (7 * (c + 64)))
    · obtain ⟨σ1, σ2, -, -, -, hp, -⟩ := stp_mtk h (r := c + 64) (by omega)
      have w := wk_j h (r := c + 64) (by omega) 6 (by omega)
      have t := (TRM h hc hb (r := c + 64) (by omega) (by omega)).1
      have st : ∀ k ∈ stC, τ (7 * (c + 64) + 7) k = τ (7 * (c + 64)) k := fun k m => (run_st h _ (by omega) k m).trans (run_st h _ (by omega) k m).symm
      have sb : τ (7 * (c + 64) + 7) 33 = τ (7 * (c + 64)) 33 := (t _ (by decide)).trans (w _ (by decide))
      have pd : τ (7 * (c + 64) + 7) 35 = τ (7 * (c + 64)) 35 := (t _ (by decide)).trans (w _ (by decide))
      have hm' : mapd (τ (7 * (c + 64) + 7)) := by
        unfold mapd
        rw [(st_c st).1, sb]; exact hm
      obtain ⟨k, k1, k2, k3⟩ := hp hm'
      rw [(st_c st).2.2] at k2
      rw [pd] at k3
      refine ⟨38 + k, ?_, fun ρ fi en s1 s2 hr => ?_⟩
      · unfold isdn
        rw [if_neg (by omega), show 38 + k - 38 = k by omega]
        exact k3
      · have hmr : mapd ρ := by unfold mapd; rw [(st_c s1).1, s2]; exact hm
        rcases hr with ⟨-, f1, f2⟩ | ⟨f0, -⟩
        · rw [(st_c s1).2.2] at f2
          omega
        · exact absurd hmr f0
    · have : ∃ t, 0 ≤ t ∧ t < spl (τ (7 * (c + 64))) ∧ τ (7 * (c + 64)) 33 t = -1 := by
        apply Classical.byContradiction
        intro hn
        exact hm (fun t t1 t2 t3 => hn ⟨t, t1, t2, t3⟩)
      obtain ⟨t, t1, t2, t3⟩ := this
      have hsp := spl_b (h.1 (7 * (c + 64)) (by omega)).1.1
      refine ⟨t, ?_, fun ρ fi en s1 s2 hr => ?_⟩
      · unfold isdn
        rw [if_pos (by omega), if_pos t3]
      · have hmr : ¬ mapd ρ := fun hm' => hm (by unfold mapd at hm' ⊢; rw [(st_c s1).1, s2] at hm'; exact hm')
        rcases hr with ⟨f0, -⟩ | ⟨-, f1, f2⟩
        · exact absurd f0 hmr
        · rw [(st_c s1).1] at f2
          omega
  obtain ⟨u, u1, u2⟩ := key
  generalize hs : τ (7 * (c + 64)) 39 0 = s at *
  generalize hgv : τ (7 * (c + 64)) 38 u = g at *
  obtain ⟨i0, hi0, hi1⟩ : ∃ i0 : Nat, (i0 : Int) = (26 - (s + 1 - g)) % 4294967296 ∧ i0 < 4294967296 := ⟨((26 - (s + 1 - g)) % 4294967296).toNat, by omega, by omega⟩
  obtain ⟨r', e1, e2, e3⟩ := AH h hc hb (r := c + 64 + i0) (by omega) (by omega)
  obtain ⟨j, hj⟩ : ∃ j : Nat, r' = c + 64 + (i0 + j) := ⟨r' - (c + 64 + i0), by omega⟩
  subst hj
  obtain ⟨a1, a2⟩ := cst h hc hb (i0 + j) (by omega)
  obtain ⟨w, fi, en, g1, g2⟩ := (TRM h hc hb (r := c + 64 + (i0 + j)) (by omega) (by omega)).2 e3
  have wj := wk_j h (r := c + 64 + (i0 + j)) (by omega) 6 (by omega)
  have stc : ∀ k ∈ stC, clk (τ (7 * (c + 64 + (i0 + j)) + 6)) k = τ (7 * (c + 64)) k := fun k m => by
    rw [clk_k ((by decide : ∀ k ∈ stC, k ≠ 39) k m)]
    exact (run_st h _ (by omega) k m).trans (run_st h _ (by omega) k m).symm
  have jkc : ∀ k ∈ jK, clk (τ (7 * (c + 64 + (i0 + j)) + 6)) k = τ (7 * (c + 64)) k := fun k m => by
    rw [clk_k ((by decide : ∀ k ∈ jK, k ≠ 39) k m), wj k ((by decide : ∀ k ∈ jK, k ∈ jC) k m)]
    exact a1 k m
  obtain ⟨v1, v2⟩ := u2 _ fi en stc (jkc _ (by decide)) g1
  have ng := g2 u v1 v2
  have hd : isdn (clk (τ (7 * (c + 64 + (i0 + j)) + 6))) u = 0 := by
    unfold isdn at u1 ⊢
    rw [jkc 33 (by decide), jkc 35 (by decide)]
    exact u1
  have hclk : clk (τ (7 * (c + 64 + (i0 + j)) + 6)) 39 0 = z_add (τ (7 * (c + 64 + (i0 + j))) 39 0) 1 := by
    unfold clk
    rw [su_s, wj 39 (by decide)]
  rcases ng with ng | ⟨-, -, ng⟩
  · exact ng hd
  · apply ng
    rw [hclk, jkc 38 (by decide), hgv]
    generalize τ (7 * (c + 64 + (i0 + j))) 39 0 = x at a2
    unfold z_sub z_add w32
    omega

