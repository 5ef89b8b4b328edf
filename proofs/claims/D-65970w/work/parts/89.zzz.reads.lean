def t6 (x : Ms) : Bool := xw x 0 == 6
def zF (σ : qS) : Nat := (ln σ).countP t5
def zP (σ : qS) : Nat := (ln σ).countP t6
noncomputable def nk (k w : Int) (σ : qS) : Nat := @ite Nat (∃ (i : Nat) (x : Ms), (ln σ).findIdx? (fun m => m.1 == w) = some i ∧ (ln σ)[i]? = some x ∧ xw x 1 = σ 31 0 ∧ xw x 0 = k) (Classical.propDecidable _) 1 0
theorem nk_0 {k w : Int} {σ : qS} (h : ∀ (i : Nat) (x : Ms), (ln σ).findIdx? (fun m => m.1 == w) = some i → (ln σ)[i]? = some x → xw x 1 = σ 31 0 → xw x 0 ≠ k) : nk k w σ = 0 := by
  unfold nk
  refine if_neg ?_
  rintro ⟨i, x, a, b, c, d⟩
  exact h i x a b c d
theorem nk_1 {k w : Int} {σ : qS} {i : Nat} {x : Ms} (a : (ln σ).findIdx? (fun m => m.1 == w) = some i) (b : (ln σ)[i]? = some x) (c : xw x 1 = σ 31 0) (d : xw x 0 = k) : nk k w σ = 1 := by
  unfold nk
  exact if_pos ⟨i, x, a, b, c, d⟩
theorem nk_b (k w : Int) (σ : qS) : nk k w σ ≤ 1 := by
  unfold nk
  split <;> omega
theorem t5_i (x : Ms) : t5 x = true ↔ xw x 0 = 5 := by unfold t5; simp
theorem t6_i (x : Ms) : t6 x = true ↔ xw x 0 = 6 := by unfold t6; simp
theorem RD_rc {w : Int} {σ σ' : qS} (h : RD w σ σ') : zF σ' + nk 5 w σ ≤ zF σ ∧ zP σ' + nk 6 w σ ≤ zP σ + nk 5 w σ ∧ nk 2 w σ + nk 5 w σ + nk 6 w σ ≤ 1 ∧ (same w σ σ' ∨ (nk 2 w σ = 1 ∧ σ 62 w = -1) ∨ nk 6 w σ = 1) := by
  obtain ⟨-, -, -, c⟩ := h
  rcases c with ⟨c1, c2, c3⟩ | ⟨i, x, c1, c2, c⟩
  · have z : ∀ k, nk k w σ = 0 := fun k => nk_0 (fun i x a _ _ => by rw [c1] at a; cases a)
    unfold zF zP
    rw [c2, z 5, z 6, z 2]
    exact ⟨Nat.le_refl _, Nat.le_refl _, by omega, Or.inl c3⟩
  · have un' : ∀ (j : Nat) (y : Ms), (ln σ).findIdx? (fun m => m.1 == w) = some j → (ln σ)[j]? = some y → y = x := fun j y a b => by
      rw [c1] at a
      have e := Option.some.inj a
      subst e
      rw [c2] at b
      exact (Option.some.inj b).symm
    have nz : ∀ k, xw x 0 ≠ k → nk k w σ = 0 := fun k hk => nk_0 (fun j y a b _ => by rw [un' j y a b]; exact hk)
    have p5 := cp_er t5 (ln σ) i x c2
    have p6 := cp_er t6 (ln σ) i x c2
    unfold zF zP
    rcases c with ⟨d0, d1, d2⟩ | ⟨d0, d1, d2, d3⟩ | ⟨d0, d1, d2, a, kv', d3⟩ | ⟨d0, d1, d2, d3⟩
    · have z : ∀ k, nk k w σ = 0 := fun k => nk_0 (fun j y a b e => by rw [un' j y a b] at e; exact absurd e d0)
      rw [d1, z 5, z 6, z 2]
      exact ⟨by omega, by omega, by omega, Or.inl d2⟩
    · rw [d2, nz 5 (by omega), nz 6 (by omega), nk_1 c1 c2 d0 d1]
      refine ⟨by omega, by omega, by omega, ?_⟩
      rcases d3 with ⟨d3, -⟩ | ⟨-, d3⟩
      · exact Or.inr (Or.inl ⟨rfl, d3⟩)
      · exact Or.inl d3
    · rw [if_pos ((t5_i x).mpr d1)] at p5
      rw [d3, nz 2 (by omega), nz 6 (by omega), nk_1 c1 c2 d0 d1, List.countP_append, List.countP_append]
      have e5 := cp_tl t5 ((ln σ).eraseIdx i)
      have e6 := cp_tl t6 ((ln σ).eraseIdx i)
      have q5 : [((xw x 5, [6, σ 31 0, xw x 2, xw x 4, a, xw x 3], kv') : Ms)].countP t5 = 0 := rfl
      have q6 : [((xw x 5, [6, σ 31 0, xw x 2, xw x 4, a, xw x 3], kv') : Ms)].countP t6 = 1 := rfl
      rw [q5, q6]
      exact ⟨by omega, by omega, by omega, Or.inl d2⟩
    · rw [if_pos ((t6_i x).mpr d1)] at p6
      rw [d2, nz 5 (by omega), nz 2 (by omega), nk_1 c1 c2 d0 d1]
      exact ⟨by omega, by omega, by omega, Or.inr (Or.inr rfl)⟩
theorem RD_rf {w : Int} {σ σ' : qS} (h : RD w σ σ') (hE : ER σ) (hl : (ln σ).length ≤ 95) : ER σ' ∧ (ln σ').length ≤ 95 ∧ cn w (ln σ) ≤ cn w (ln σ') + 1 ∧ (1 ≤ cn w (ln σ) → nk 2 w σ + nk 5 w σ + nk 6 w σ = 1) := by
  have hc := (RD_rc h).2.2.1
  obtain ⟨-, -, hk, c⟩ := h
  have he : σ' 31 0 = σ 31 0 := by rw [hk 31 (by decide)]
  rcases c with ⟨c1, c2, c3⟩ | ⟨i, x, c1, c2, c⟩
  · refine ⟨fun x hx => ?_, by rw [c2]; exact hl, by rw [c2]; omega, fun h1 => ?_⟩
    · rw [c2] at hx; rw [he]; exact hE x hx
    · obtain ⟨i, x, e1, -⟩ := cn_1 h1
      rw [e1] at c1; cases c1
  · have hx := List.mem_of_getElem? c2
    have hlen := er_len c2
    have pc := cp_er (toW w) (ln σ) i x c2
    have pw' : (if toW w x = true then 1 else 0) ≤ 1 := by split <;> omega
    have sub : ∀ y ∈ (ln σ).eraseIdx i, xw y 1 = σ' 31 0 := fun y hy => by rw [he]; exact hE y (List.mem_of_mem_eraseIdx hy)
    have er : ln σ' = (ln σ).eraseIdx i → ER σ' ∧ (ln σ').length ≤ 95 ∧ cn w (ln σ) ≤ cn w (ln σ') + 1 := fun e => by
      refine ⟨fun y hy => ?_, by rw [e]; omega, by rw [e]; unfold cn; omega⟩
      rw [e] at hy; exact sub y hy
    rcases c with ⟨d0, -⟩ | ⟨d0, d1, d2, -⟩ | ⟨d0, d1, -, a, kv', d3⟩ | ⟨d0, d1, d2, -⟩
    · exact absurd (hE x hx) d0
    · obtain ⟨e1, e2, e3⟩ := er d2
      exact ⟨e1, e2, e3, fun _ => by have := nk_1 c1 c2 d0 d1; omega⟩
    · rw [tl_z (show ((ln σ).eraseIdx i).length < 95 by omega)] at d3
      refine ⟨fun y hy => ?_, by rw [d3, List.length_append]; simp only [List.length_cons, List.length_nil]; omega, ?_, fun _ => by have := nk_1 c1 c2 d0 d1; omega⟩
      · rw [d3, List.mem_append] at hy
        rcases hy with hy | hy
        · exact sub y hy
        · rw [List.mem_singleton] at hy
          rw [hy, he]; rfl
      · rw [d3]
        unfold cn
        rw [List.countP_append]
        omega
    · obtain ⟨e1, e2, e3⟩ := er d2
      exact ⟨e1, e2, e3, fun _ => by have := nk_1 c1 c2 d0 d1; omega⟩
theorem TL_6 {to ty a b c d : Int} {σ σ' : qS} (h : TL to ty a b c d σ σ') (hn : ty ≠ 6) : zP σ' ≤ zP σ := by
  obtain ⟨kv, e⟩ := h
  unfold zP
  rw [e, List.countP_append]
  have q : [((to, [ty, σ 31 0, a, b, c, d], kv) : Ms)].countP t6 = 0 := by
    rw [List.countP_cons, List.countP_nil]
    have : t6 ((to, [ty, σ 31 0, a, b, c, d], kv) : Ms) = false := by unfold t6; exact beq_eq_false_iff_ne.mpr hn
    rw [this]; simp
  have := cp_tl t6 (ln σ)
  omega
def fe (σ : qS) (w : Int) : Nat := if 38 ≤ σ 62 w ∧ σ 65 w = 1 then 1 else 0
theorem ACT_rc {w : Int} {σ σ' : qS} (hj : jobok σ) (h : ACT w σ σ') : zF σ' ≤ zF σ + fe σ' w ∧ zP σ' ≤ zP σ := by
  obtain ⟨s, a, -, b⟩ := ACT_q hj h
  have c5 := ac_cp t5 a
  refine ⟨by unfold zF fe; omega, ?_⟩
  obtain ⟨-, -, -, c⟩ := h
  have nl : ln σ' = ln σ → zP σ' ≤ zP σ := fun e => by unfold zP; rw [e]; exact Nat.le_refl _
  rcases c with ⟨-, -, -, -, c⟩ | ⟨-, c⟩ | ⟨-, c⟩
  · rcases c with ⟨-, c⟩ | ⟨-, c⟩
    · exact TL_6 c (by decide)
    · exact nl c
  · rcases c with ⟨-, -, -, a', c⟩ | ⟨-, -, -, ⟨a', c⟩, -⟩ | ⟨-, -, -, c⟩ | ⟨-, -, -, -, -, c⟩
    · exact TL_6 c (by decide)
    · exact TL_6 c (by decide)
    · exact TL_6 c (by decide)
    · exact nl c
  · rcases c with ⟨-, -, -, c⟩ | ⟨-, -, -, -, -, c⟩ | ⟨-, -, -, -, -, c, -⟩ | ⟨-, -, -, -, -, -, -, -, -, c⟩ | ⟨-, -, -, -, c⟩
    · exact TL_6 c (by decide)
    · exact nl c
    · exact nl c
    · rcases c with ⟨-, -, c⟩ | ⟨-, -, kv, kv', c⟩
      · exact TL_6 c (by decide)
      · unfold zP
        rw [c, List.countP_append]
        have e1 := cp_tl t6 (tl95 (ln σ) ++ [((σ 33 (σ 64 w), [5, σ 31 0, σ 64 w, σ 62 w - 38, ps σ w, w], kv) : Ms)])
        rw [List.countP_append] at e1
        have e2 := cp_tl t6 (ln σ)
        have q1 : [((σ 33 (σ 64 w), [5, σ 31 0, σ 64 w, σ 62 w - 38, ps σ w, w], kv) : Ms)].countP t6 = 0 := rfl
        have q2 : [((6, [7, σ 31 0, σ 64 w, σ 33 (σ 64 w), 0, 0], kv') : Ms)].countP t6 = 0 := rfl
        omega
    · rcases c with ⟨-, -, c⟩ | ⟨-, c⟩
      · exact TL_6 c (by decide)
      · exact TL_6 c (by decide)
theorem ACT_rg {w : Int} {σ σ' : qS} (hj : jobok σ) (h : ACT w σ σ') (ha : 38 ≤ σ 62 w → 0 ≤ σ 65 w) (h1 : 38 ≤ σ' 62 w) (h2 : σ' 65 w = 1) : 38 ≤ σ 62 w ∧ (σ 65 w = 0 ∨ σ 65 w = 13) ∧ σ' 62 w = σ 62 w ∧ σ' 64 w = σ 64 w ∧ ps σ' w = ps σ w := by
  have hsp := spl_b hj
  obtain ⟨-, -, -, c⟩ := h
  rcases c with ⟨-, -, c, -⟩ | ⟨c0, c⟩ | ⟨c0, c⟩
  · omega
  · rcases c with ⟨-, -, c, -⟩ | ⟨-, c, -⟩ | ⟨-, -, c, -⟩ | ⟨-, -, c, -⟩
    · have := c.1; omega
    · have := c.1; omega
    · have := c.1; omega
    · omega
  · rcases c with ⟨-, -, c, -⟩ | ⟨-, -, -, -, c, -⟩ | ⟨-, -, -, c, -, -, -, -, -, -, c'⟩ | ⟨-, -, -, c1, -, c2, c3, c4, -⟩ | ⟨-, -, c, -⟩
    · have := c.1; omega
    · have := c.1; omega
    · have := ha c0; omega
    · exact ⟨c0, c1, c2, c3, c4⟩
    · have := c.1; omega
def fto (σ σ' : qS) (w : Int) : Prop := 38 ≤ σ 62 w ∧ σ 65 w = 13 ∧ σ' 62 w = σ 62 w ∧ σ' 64 w = σ 64 w ∧ ps σ' w = ps σ w ∧ σ' 65 w = 1
theorem RD_ra {w : Int} {σ σ' : qS} (h : RD w σ σ') (ha : 38 ≤ σ 62 w → 0 ≤ σ 65 w) : 38 ≤ σ' 62 w → 0 ≤ σ' 65 w := fun ht => by
  obtain ⟨-, -, -, c⟩ := h
  have sm : same w σ σ' → 0 ≤ σ' 65 w := fun c => by rw [c.2.2.1]; exact ha (by rw [← c.1]; exact ht)
  rcases c with ⟨-, -, c⟩ | ⟨i, x, -, -, c⟩
  · exact sm c
  · rcases c with ⟨-, -, c⟩ | ⟨-, -, -, c⟩ | ⟨-, -, c, -⟩ | ⟨-, -, -, c⟩
    · exact sm c
    · rcases c with ⟨-, -, -, c, -⟩ | ⟨-, c⟩
      · omega
      · exact sm c
    · exact sm c
    · rcases c with ⟨-, c⟩ | ⟨-, -, c, -⟩
      · exact sm c
      · omega
theorem RD_rt {w : Int} {σ σ' : qS} (h : RD w σ σ') (ht : σ 62 w ≠ -1) : σ' 62 w ≠ -1 := by
  obtain ⟨-, -, -, c⟩ := h
  rcases c with ⟨-, -, c⟩ | ⟨i, x, -, -, c⟩
  · rw [c.1]; exact ht
  · rcases c with ⟨-, -, c⟩ | ⟨-, -, -, c⟩ | ⟨-, -, c, -⟩ | ⟨-, -, -, c⟩
    · rw [c.1]; exact ht
    · rcases c with ⟨c, -⟩ | ⟨-, c⟩
      · exact absurd c ht
      · rw [c.1]; exact ht
    · rw [c.1]; exact ht
    · rcases c with ⟨-, c⟩ | ⟨-, c, -⟩
      · rw [c.1]; exact ht
      · rw [c]; exact ht
theorem WTK_rc {w : Int} {σ σ' : qS} (hg : 38 ≤ σ 62 w → 1 ≤ σ 65 w) (hE : ER σ) (hl : (ln σ).length ≤ 95) (h : WTK w σ σ') : ∃ a2 a5 a6 : Nat, zF σ' + a5 ≤ zF σ + fe σ' w ∧ zP σ' + a6 ≤ zP σ + a5 ∧ a2 + a5 + a6 ≤ 3 ∧ (3 ≤ cn w (ln σ) → a2 + a5 + a6 = 3) ∧ (fe σ' w = 1 → (σ 62 w = -1 ∧ 1 ≤ a2) ∨ 1 ≤ a6 ∨ fto σ σ' w) := by
  obtain ⟨σ1, σ2, σ3, r1, r2, r3, a, ⟨j1, j2, j3, j4⟩, -⟩ := h
  obtain ⟨p1, q1, u1, s1⟩ := RD_rc r1
  obtain ⟨p2, q2, u2, s2⟩ := RD_rc r2
  obtain ⟨p3, q3, u3, s3⟩ := RD_rc r3
  obtain ⟨p4, q4⟩ := ACT_rc j3.1 a
  obtain ⟨e1, l1, c1, m1⟩ := RD_rf r1 hE hl
  obtain ⟨e2, l2, c2, m2⟩ := RD_rf r2 e1 l1
  obtain ⟨e3, l3, c3, m3⟩ := RD_rf r3 e2 l2
  have g1 := RD_ra r1 (fun e => by have := hg e; omega)
  have g2 := RD_ra r2 g1
  have g3 := RD_ra r3 g2
  refine ⟨nk 2 w σ + nk 2 w σ1 + nk 2 w σ2, nk 5 w σ + nk 5 w σ1 + nk 5 w σ2, nk 6 w σ + nk 6 w σ1 + nk 6 w σ2, by omega, by omega, by omega, fun hc => ?_, fun hf => ?_⟩
  · have := m1 (by omega)
    have := m2 (by omega)
    have := m3 (by omega)
    omega
  · have hf' : 38 ≤ σ' 62 w ∧ σ' 65 w = 1 := by
      unfold fe at hf
      by_cases c : 38 ≤ σ' 62 w ∧ σ' 65 w = 1
      · exact c
      · rw [if_neg c] at hf; omega
    obtain ⟨b1, b2, b3, b4, b5⟩ := ACT_rg j3.1 a g3 hf'.1 hf'.2
    by_cases t6' : 1 ≤ nk 6 w σ + nk 6 w σ1 + nk 6 w σ2
    · exact Or.inr (Or.inl t6')
    by_cases ht : σ 62 w = -1
    · left
      refine ⟨ht, ?_⟩
      apply Classical.byContradiction
      intro n2
      have z1 : same w σ σ1 := by
        rcases s1 with s | ⟨s, -⟩ | s
        · exact s
        · omega
        · omega
      have z2 : same w σ1 σ2 := by
        rcases s2 with s | ⟨s, -⟩ | s
        · exact s
        · omega
        · omega
      have z3 : same w σ2 σ3 := by
        rcases s3 with s | ⟨s, -⟩ | s
        · exact s
        · omega
        · omega
      have z := (z1.tr z2).tr z3
      have := z.1
      omega
    · right; right
      have z1 : same w σ σ1 := by
        rcases s1 with s | ⟨-, s⟩ | s
        · exact s
        · exact absurd s ht
        · omega
      have h1 := RD_rt r1 ht
      have z2 : same w σ1 σ2 := by
        rcases s2 with s | ⟨-, s⟩ | s
        · exact s
        · exact absurd s h1
        · omega
      have h2 := RD_rt r2 h1
      have z3 : same w σ2 σ3 := by
        rcases s3 with s | ⟨-, s⟩ | s
        · exact s
        · exact absurd s h2
        · omega
      have z := (z1.tr z2).tr z3
      have e1' := z.1
      have e3' := z.2.2.1
      have gg := hg (by omega)
      exact ⟨by omega, by omega, by omega, by rw [b4]; exact z.2.1, by rw [b5]; exact z.2.2.2.2, hf'.2⟩
theorem HR_rc {σ σ' : qS} (h : HR σ σ') : zF σ' ≤ zF σ ∧ zP σ' ≤ zP σ := by
  obtain ⟨s, a, b⟩ := HR_y h
  have c5 := (rd_cp t5 a).1
  have c6 := (rd_cp t6 a).1
  have d5 : s.countP t5 = 0 := c0_6 b t5 (fun x e => by
    have := (t5_i x).mp e
    omega)
  have d6 : s.countP t6 = 0 := c0_6 b t6 (fun x e => by
    have := (t6_i x).mp e
    omega)
  unfold zF zP
  omega
theorem M_rc {σ σ' : qS} (h : MTK σ σ') : zF σ' ≤ zF σ ∧ zP σ' ≤ zP σ := by
  obtain ⟨σ1, σ2, r1, r2, r3, -⟩ := h
  have a1 := HR_rc r1
  have a2 := HR_rc r2
  have a3 := HR_rc r3
  unfold zF zP at *
  rw [l_clk] at a1
  omega

