theorem HR_gq {σ σ' : qS} (hsp : spl σ ≤ 38) (h : HR σ σ') (hl : (ln σ).length ≤ 95) {t : Nat} {A A' : List (Ms × Nat × Nat)} (hA : prA A = ln σ) (hA' : prA A' = ln σ') (hn : HRn t A A') {y : Ms × Nat × Nat} (hy : y ∈ A') (y2 : xw y.1 0 = 2) (yp : 38 ≤ xw y.1 2) : y ∈ A ∨ (y.2.1 = t + 1 ∧ mapd σ) := by
  rcases hn with ⟨-, rfl⟩ | ⟨i, x, d1, d2, d⟩
  · exact Or.inl hy
  · rcases d with rfl | ⟨z, z0, rfl⟩
    · exact Or.inl ((List.eraseIdx_sublist A i).subset hy)
    · rw [List.mem_append, List.mem_singleton] at hy
      rcases hy with hy | hy
      · exact Or.inl ((List.eraseIdx_sublist A i).subset ((tlA_sub _).subset hy))
      · right
        subst hy
        refine ⟨rfl, ?_⟩
        have yp' : 38 ≤ xw z 2 := yp
        have il : i < (ln σ).length := by
          rw [hA] at d1
          obtain ⟨g0, -, -⟩ := List.findIdx?_eq_some_iff_getElem.mp d1
          exact g0
        rw [pr_ap, pr_tl, pr_er, hA] at hA'
        have er : ((ln σ).eraseIdx i).length + 1 = (ln σ).length := by
          rw [List.length_eraseIdx, if_pos il]; omega
        have tl0 : tl95 ((ln σ).eraseIdx i) = (ln σ).eraseIdx i := by unfold tl95; exact if_neg (by omega)
        rw [tl0] at hA'
        have ll : (ln σ').length = (ln σ).length := by
          rw [← hA', List.length_append]
          show _ + 1 = _
          omega
        obtain ⟨-, -, c⟩ := h
        rw [hA] at d1
        rcases c with ⟨c1, -⟩ | ⟨k, m, c1, c2, c⟩
        · rw [d1] at c1; cases c1
        · rw [d1] at c1
          have ek := Option.some.inj c1
          subst ek
          have no : ln σ' = (ln σ).eraseIdx i → False := fun e => by rw [e] at ll; omega
          rcases c with ⟨-, c, -⟩ | ⟨-, -, -, -, fi, en, f, c⟩ | ⟨-, -, c, -⟩ | ⟨-, -, c, -⟩
          · exact (no c).elim
          · rcases c with ⟨c, -⟩ | ⟨u, u1, u2, -, -, -, kv, c⟩
            · exact (no c).elim
            · rw [tl0] at c
              rw [c] at hA'
              have q := List.append_inj_right' hA' rfl
              have q1 : (z : Ms) = (xw m 2, [2, σ 31 0, u, 0, 0, 0], kv) := List.head_eq_of_cons_eq q
              have q2 : xw z 2 = u := by rw [q1]; rfl
              rcases f with ⟨f, -, -⟩ | ⟨-, f1, f2⟩
              · exact f
              · omega
          · exact (no c).elim
          · exact (no c).elim

def DXo (σ : qS) : Prop := ∀ x ∈ ln σ, xw x 1 = σ 31 0 → xw x 0 = 3 → xw x 2 ≠ -1
theorem HR_dx {σ σ' : qS} (h : HR σ σ') (hx : DXo σ) : DXo σ' := fun x m e3 k3 => by
  obtain ⟨-, hk, c⟩ := h
  have he : σ' 31 = σ 31 := hk _ (by decide)
  rw [he] at e3
  have er : ∀ i, ln σ' = (ln σ).eraseIdx i → xw x 2 ≠ -1 := fun i e => by
    rw [e] at m
    exact hx x ((List.eraseIdx_sublist _ i).subset m) e3 k3
  rcases c with ⟨-, c, -⟩ | ⟨i, z, -, -, c⟩
  · rw [c] at m; exact hx x m e3 k3
  · rcases c with ⟨-, c, -⟩ | ⟨-, -, -, -, fi, en, -, c⟩ | ⟨-, -, c, -⟩ | ⟨-, -, c, -⟩
    · exact er i c
    · rcases c with ⟨c, -⟩ | ⟨u, -, -, -, -, -, kv, c⟩
      · exact er i c
      · rw [c, List.mem_append, List.mem_singleton] at m
        rcases m with m | m
        · have : x ∈ ln σ := by
            unfold tl95 at m
            split at m
            · exact (List.eraseIdx_sublist _ i).subset ((List.eraseIdx_sublist _ 0).subset m)
            · exact (List.eraseIdx_sublist _ i).subset m
          exact hx x this e3 k3
        · subst m
          exact absurd k3 (by show ¬ ((2 : Int) = 3); decide)
    · exact er i c
    · exact er i c
theorem HR_mp {σ σ' : qS} (h : HR σ σ') (hx : DXo σ) (hm : mapd σ) (hb : spl σ ≤ 38) : mapd σ' ∨ c7 σ' + 1 ≤ c7 σ := by
  have h' := h
  obtain ⟨-, hk, c⟩ := h
  have sp : spl σ' = spl σ := (st_c (fun k m => hk k ((by decide : ∀ k ∈ stC, k ∈ hrK) k m))).1
  have same' : σ' 33 = σ 33 → mapd σ' := fun e k k0 k1 => by
    rw [e]; exact hm k k0 (by omega)
  rcases c with ⟨-, -, c⟩ | ⟨i, x, c1, c2, c⟩
  · exact Or.inl (same' (c _ (by decide)))
  · rcases c with ⟨-, -, c⟩ | ⟨-, -, c, -⟩ | ⟨e3, k3, -, -, -, c⟩ | ⟨e7, k7, -, -, -, c⟩
    · exact Or.inl (same' (c _ (by decide)))
    · exact Or.inl (same' c)
    · rcases c with ⟨-, -, c⟩ | ⟨-, c, -⟩
      · left
        intro k k0 k1
        rw [c k]
        split
        · exact hx x (List.mem_of_getElem? c2) e3 k3
        · exact hm k k0 (by omega)
      · exact Or.inl (same' c)
    · rcases c with ⟨-, -, c, -⟩ | ⟨-, c, -⟩
      · exact Or.inr (HR_e7 h' ⟨i, c1, c2⟩ e7 k7)
      · exact Or.inl (same' c)
theorem run_dx {L : Nat} {τ : Nat → qS} (h : RNN L τ) {t : Nat} (ht : t ≤ 7 * L) : DXo (τ t) ∧ spl (τ t) ≤ 38 := by
  have gs := h.1 t ht
  refine ⟨fun x m e3 k3 e => ?_, (spl_b gs.1.1).2⟩
  have lk : LOK False (τ t) x := gs.1.2.2.2.2.2.2.2.1 x m
  rcases lk.2 e3 with ⟨-, k⟩ | ⟨-, k⟩
  · rcases k with ⟨k, -⟩ | ⟨-, k⟩ | ⟨k, -⟩ | ⟨k, -⟩
    · omega
    · unfold DN at k
      omega
    · omega
    · omega
  · rcases k with ⟨k, -⟩ | ⟨k, -⟩ | ⟨k, -⟩ <;> omega
theorem clk_x (σ : qS) : ln (clk σ) = ln σ ∧ (clk σ) 31 = σ 31 ∧ (clk σ) 33 = σ 33 ∧ spl (clk σ) = spl σ ∧ c7 (clk σ) = c7 σ := by
  refine ⟨l_clk σ, clk_k (by decide), clk_k (by decide), ?_, by unfold c7; rw [l_clk]⟩
  exact (st_c (σ := σ) (σ' := clk σ) (fun k m => clk_k ((by decide : ∀ k ∈ stC, k ≠ 39) k m))).1
-- after a GIVE of a part the job is mapped, or a LACKS letter was heard in the same tick
theorem MP_m {L s0 : Nat} {τ : Nat → qS} (hR : RNN L τ) {A : Nat → List (Ms × Nat × Nat)} (h : ANR L s0 τ A) {c : Nat} (h0 : 7 ≤ c) (h1 : s0 ≤ c) (h2 : c < 7 * L) (hm : MPt A c) : mapd (τ (c + 1)) ∨ c7 (τ (c + 1)) + 1 ≤ c7 (τ c) := by
  obtain ⟨e6, y, hy, y2, yp, ys⟩ := hm
  obtain ⟨dx, sp⟩ := run_dx hR (t := c) (by omega)
  obtain ⟨x1, x2, x3, x4, x5⟩ := clk_x (τ c)
  have l := run_95 hR (by omega) h0 (by omega : c ≤ 7 * L)
  have old : y ∉ A c := fun q => by
    have k := ANR_srt h (c - s0) (by omega)
    rw [show s0 + (c - s0) = c by omega] at k
    have := k.2 y q
    omega
  rcases h.2.2 c h1 h2 with ⟨h6, -⟩ | ⟨-, σ1, σ2, A1, A2, r1, r2, r3, ⟨p0, p1, p2, p3⟩, n1, n2, n3⟩
  · omega
  · have p0' : prA (A c) = ln (clk (τ c)) := by rw [x1]; exact p0
    have l0 : (ln (clk (τ c))).length ≤ 95 := by rw [x1]; exact l
    have l1 := HR_len r1 l0
    have l2 := HR_len r2 l1
    have d0 : DXo (clk (τ c)) := fun x m e k => dx x (by rw [← x1]; exact m) (by rw [← x2]; exact e) k
    have d1 := HR_dx r1 d0
    have d2 := HR_dx r2 d1
    have s1 : spl σ1 ≤ 38 := by
      have := (st_c (fun k m => r1.2.1 k ((by decide : ∀ k ∈ stC, k ∈ hrK) k m))).1
      omega
    have s2 : spl σ2 ≤ 38 := by
      have := (st_c (fun k m => r2.2.1 k ((by decide : ∀ k ∈ stC, k ∈ hrK) k m))).1
      omega
    have a1 := HR_7 r1
    have a2 := HR_7 r2
    have a3 := HR_7 r3
    have fin2 : mapd σ2 → mapd (τ (c + 1)) ∨ c7 (τ (c + 1)) + 1 ≤ c7 (τ c) := fun m => by
      rcases HR_mp r3 d2 m s2 with q | q
      · exact Or.inl q
      · exact Or.inr (by omega)
    have fin1 : mapd σ1 → mapd (τ (c + 1)) ∨ c7 (τ (c + 1)) + 1 ≤ c7 (τ c) := fun m => by
      rcases HR_mp r2 d1 m s1 with q | q
      · exact fin2 q
      · exact Or.inr (by omega)
    rcases HR_gq s2 r3 l2 p2 p3 n3 hy y2 yp with q | ⟨-, q⟩
    · rcases HR_gq s1 r2 l1 p1 p2 n2 q y2 yp with q | ⟨-, q⟩
      · rcases HR_gq (by omega) r1 l0 p0' p1 n1 q y2 yp with q | ⟨-, q⟩
        · exact absurd q old
        · rcases HR_mp r1 d0 q (by omega) with m | m
          · exact fin1 m
          · exact Or.inr (by omega)
      · exact fin1 q
    · exact fin2 q
theorem mp_st {L : Nat} {τ : Nat → qS} (hR : RNN L τ) {t : Nat} (h2 : t < 7 * L) (hm : mapd (τ t)) : mapd (τ (t + 1)) ∨ (t % 7 = 6 ∧ c7 (τ (t + 1)) + 1 ≤ c7 (τ t)) := by
  obtain ⟨dx, sp⟩ := run_dx hR (t := t) (by omega)
  rcases hR.2 t h2 with ⟨h6, s⟩ | ⟨e6, σ1, σ2, r1, r2, r3, -⟩
  · left
    have st := (st_c (σ := τ t) (σ' := τ (t + 1)) (fun k m => STP_st (w := ((t % 7 : Nat) : Int)) (Or.inl ⟨h6, s⟩) k m)).1
    intro k k0 k1
    have e : τ (t + 1) 33 = τ t 33 := by
      obtain ⟨σ1, σ2, σ3, r1, r2, r3, a, -⟩ := s
      exact ((a.2.2.1 _ (by decide)).trans (r3.2.2.1 _ (by decide))).trans ((r2.2.2.1 _ (by decide)).trans (r1.2.2.1 _ (by decide)))
    rw [e]
    exact hm k k0 (by omega)
  · obtain ⟨x1, x2, x3, x4, x5⟩ := clk_x (τ t)
    have d0 : DXo (clk (τ t)) := fun x m e k => dx x (by rw [← x1]; exact m) (by rw [← x2]; exact e) k
    have d1 := HR_dx r1 d0
    have d2 := HR_dx r2 d1
    have m0 : mapd (clk (τ t)) := fun k k0 k1 => by rw [x3]; exact hm k k0 (by omega)
    have s1 : spl σ1 ≤ 38 := by
      have := (st_c (fun k m => r1.2.1 k ((by decide : ∀ k ∈ stC, k ∈ hrK) k m))).1
      omega
    have s2 : spl σ2 ≤ 38 := by
      have := (st_c (fun k m => r2.2.1 k ((by decide : ∀ k ∈ stC, k ∈ hrK) k m))).1
      omega
    have a1 := HR_7 r1
    have a2 := HR_7 r2
    have a3 := HR_7 r3
    rcases HR_mp r1 d0 m0 (by omega) with q | q
    · rcases HR_mp r2 d1 q s1 with q | q
      · rcases HR_mp r3 d2 q s2 with q | q
        · exact Or.inl q
        · exact Or.inr ⟨by omega, by omega⟩
      · exact Or.inr ⟨by omega, by omega⟩
    · exact Or.inr ⟨by omega, by omega⟩

