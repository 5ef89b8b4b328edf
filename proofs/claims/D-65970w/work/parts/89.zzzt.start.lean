theorem RD_gv {w : Int} {σ σ' : qS} (h : RD w σ σ') {A : List (Ms × Nat × Nat)} (hA : prA A = ln σ) (ht : σ 62 w = -1) : σ' 62 w = -1 ∨ ∃ y, hdA w A y ∧ xw y.1 0 = 2 ∧ xw y.1 1 = σ 31 0 ∧ σ' 62 w = xw y.1 2 := by
  obtain ⟨-, -, -, c⟩ := h
  have sm : same w σ σ' → σ' 62 w = -1 := fun s => by rw [s.1]; exact ht
  rcases c with ⟨-, -, c⟩ | ⟨i, x, c1, c2, c⟩
  · exact Or.inl (sm c)
  · rw [← hA] at c1 c2
    obtain ⟨y, y1, y2⟩ := pr_get c2
    subst y2
    rcases c with ⟨-, -, c⟩ | ⟨d0, d1, -, c⟩ | ⟨-, -, c, -⟩ | ⟨-, -, -, c⟩
    · exact Or.inl (sm c)
    · rcases c with ⟨-, c, -⟩ | ⟨c, -⟩
      · exact Or.inr ⟨y, ⟨i, c1, y1⟩, d1, d0, c⟩
      · exact absurd ht c
    · exact Or.inl (sm c)
    · rcases c with ⟨-, c⟩ | ⟨f, -⟩
      · exact Or.inl (sm c)
      · have := f.1; omega
theorem RD_tk {w : Int} {σ σ' : qS} (h : RD w σ σ') (ht : σ 62 w ≠ -1) : σ' 62 w = σ 62 w := by
  obtain ⟨-, -, -, c⟩ := h
  rcases c with ⟨-, -, c⟩ | ⟨i, x, -, -, c⟩
  · exact c.1
  · rcases c with ⟨-, -, c⟩ | ⟨-, -, -, c⟩ | ⟨-, -, c, -⟩ | ⟨-, -, -, c⟩
    · exact c.1
    · rcases c with ⟨c, -⟩ | ⟨-, c⟩
      · exact absurd c ht
      · exact c.1
    · exact c.1
    · rcases c with ⟨-, c⟩ | ⟨-, c, -⟩
      · exact c.1
      · exact c
theorem ACT_tk {w : Int} {σ σ' : qS} (hj : jobok σ) (h : ACT w σ σ') (ht : 38 ≤ σ' 62 w) : σ 62 w = σ' 62 w := by
  have hsp := spl_b hj
  have nf : ∀ {P : Prop}, fgo w σ' → P := fun {P} f => by have := f.1; omega
  obtain ⟨-, -, -, c⟩ := h
  rcases c with ⟨-, -, c, -⟩ | ⟨c0, c⟩ | ⟨-, c⟩
  · omega
  · rcases c with ⟨-, -, f, -⟩ | ⟨-, f, -⟩ | ⟨-, -, f, -⟩ | ⟨-, -, c, -⟩
    · exact nf f
    · exact nf f
    · exact nf f
    · omega
  · rcases c with ⟨-, -, f, -⟩ | ⟨-, -, -, -, f, -⟩ | ⟨-, -, -, -, -, -, c, -⟩ | ⟨-, -, -, -, -, c, -⟩ | ⟨-, -, f, -⟩
    · exact nf f
    · exact nf f
    · exact c.symm
    · exact c.symm
    · exact nf f
theorem G1 {L s0 : Nat} {τ : Nat → qS} {A : Nat → List (Ms × Nat × Nat)} {ρ : Nat → qS × qS × qS} {B : Nat → List (Ms × Nat × Nat) × List (Ms × Nat × Nat) × List (Ms × Nat × Nat)} (h : ANC L s0 τ A ρ B) {t v : Nat} (h1 : s0 ≤ t) (h2 : t < 7 * L) (hv : v < 6) (ht : t % 7 = v) (hi : τ t 62 (v : Int) = -1) (hr : 38 ≤ τ (t + 1) 62 (v : Int)) : ∃ i, i < 3 ∧ ∃ y, hdA v (stA A B t i) y ∧ xw y.1 0 = 2 ∧ xw y.1 2 = τ (t + 1) 62 (v : Int) := by
  obtain ⟨wd, ⟨p0, p1, p2, -, -⟩, -⟩ := h.2 t h1 h2 (by omega)
  rw [ht] at wd
  obtain ⟨r1, r2, r3, a, ⟨j1, j2, j3, j4⟩, -⟩ := wd
  have e3 := ACT_tk j3.1 a hr
  have lz : ∀ {σ : qS} {C : List (Ms × Nat × Nat)} {y : Ms × Nat × Nat}, JI False (-1) σ → prA C = ln σ → hdA v C y → xw y.1 0 = 2 → xw y.1 1 = σ 31 0 → xw y.1 2 ≠ -1 := fun {σ C y} j p y1 y2 y3 e => by
    have l := hd_mem y1
    have lk : LOK False σ y.1 := j.2.2.2.2.2.2.2.1 y.1 (by rw [← p]; exact List.mem_map_of_mem l.1)
    rcases lk.2 y3 with ⟨k, -⟩ | ⟨-, k⟩
    · rw [l.2] at k; omega
    · rcases k with ⟨-, k⟩ | ⟨k, -⟩ | ⟨k, -⟩
      · rcases k with k | k
        · omega
        · omega
      · omega
      · omega
  have two : (ρ t).1 62 (v : Int) = -1 → ∃ i, i < 3 ∧ ∃ y, hdA v (stA A B t i) y ∧ xw y.1 0 = 2 ∧ xw y.1 2 = τ (t + 1) 62 (v : Int) := fun s => by
    rcases RD_gv r2 p1 s with s' | ⟨y, y1, y2, y3, y4⟩
    · rcases RD_gv r3 p2 s' with s'' | ⟨y, y1, y2, -, y4⟩
      · omega
      · exact ⟨2, by omega, y, y1, y2, by omega⟩
    · have n := lz j1 p1 y1 y2 y3
      have q := RD_tk r3 (by omega)
      exact ⟨1, by omega, y, y1, y2, by omega⟩
  rcases RD_gv r1 p0 hi with s | ⟨y, y1, y2, -, y4⟩
  · exact two s
  · by_cases c : (ρ t).1 62 (v : Int) = -1
    · exact two c
    · have q2 := RD_tk r2 c
      have q3 := RD_tk r3 (by omega)
      exact ⟨0, by omega, y, y1, y2, by omega⟩
theorem HR_len {σ σ' : qS} (h : HR σ σ') (hl : (ln σ).length ≤ 95) : (ln σ').length ≤ 95 := by
  obtain ⟨-, -, c⟩ := h
  rcases c with ⟨-, c, -⟩ | ⟨i, x, c1, c2, c⟩
  · rw [c]; exact hl
  · have il : i < (ln σ).length := by
      apply Classical.byContradiction
      intro n
      rw [List.getElem?_eq_none (by omega)] at c2
      cases c2
    have er : ((ln σ).eraseIdx i).length + 1 = (ln σ).length := by
      rw [List.length_eraseIdx, if_pos il]; omega
    rcases c with ⟨-, c, -⟩ | ⟨-, -, -, -, fi, en, -, c⟩ | ⟨-, -, c, -⟩ | ⟨-, -, c, -⟩
    · rw [c]; omega
    · rcases c with ⟨c, -⟩ | ⟨u, -, -, -, -, -, kv, c⟩
      · rw [c]; omega
      · rw [c, List.length_append]
        unfold tl95
        rw [if_neg (by omega)]
        simp only [List.length_singleton]
        omega
    · rw [c]; omega
    · rw [c]; omega
theorem HR_gp {σ σ' : qS} (hj : jobok σ) (h : HR σ σ') (hl : (ln σ).length ≤ 95) {t : Nat} {A A' : List (Ms × Nat × Nat)} (hA : prA A = ln σ) (hA' : prA A' = ln σ') (hn : HRn t A A') {y : Ms × Nat × Nat} (hy : y ∈ A') (y2 : xw y.1 0 = 2) (yp : 38 ≤ xw y.1 2) : y ∈ A ∨ (y.2.1 = t + 1 ∧ mapd σ) := by
  have hsp := spl_b hj
  rcases hn with ⟨-, rfl⟩ | ⟨i, x, d1, d2, d⟩
  · exact Or.inl hy
  · rcases d with rfl | ⟨z, z0, rfl⟩
    · exact Or.inl ((List.eraseIdx_sublist A i).subset hy)
    · rw [List.mem_append, List.mem_singleton] at hy
      rcases hy with hy | hy
      · exact Or.inl ((List.eraseIdx_sublist A i).subset ((tlA_sub _).subset hy))
      · right
        subst hy
        refine ⟨rfl, ?_⟩
        have yp' : 38 ≤ xw z 2 := yp
        have il : i < (ln σ).length := by
          rw [hA] at d1
          obtain ⟨g0, -, -⟩ := List.findIdx?_eq_some_iff_getElem.mp d1
          exact g0
        rw [pr_ap, pr_tl, pr_er, hA] at hA'
        have er : ((ln σ).eraseIdx i).length + 1 = (ln σ).length := by
          rw [List.length_eraseIdx, if_pos il]; omega
        have tl0 : tl95 ((ln σ).eraseIdx i) = (ln σ).eraseIdx i := by unfold tl95; exact if_neg (by omega)
        rw [tl0] at hA'
        have ll : (ln σ').length = (ln σ).length := by
          rw [← hA', List.length_append]
          show _ + 1 = _
          omega
        obtain ⟨-, -, c⟩ := h
        rw [hA] at d1
        rcases c with ⟨c1, -⟩ | ⟨k, m, c1, c2, c⟩
        · rw [d1] at c1; cases c1
        · rw [d1] at c1
          have ek := Option.some.inj c1
          subst ek
          have no : ln σ' = (ln σ).eraseIdx i → False := fun e => by rw [e] at ll; omega
          rcases c with ⟨-, c, -⟩ | ⟨-, -, -, -, fi, en, f, c⟩ | ⟨-, -, c, -⟩ | ⟨-, -, c, -⟩
          · exact (no c).elim
          · rcases c with ⟨c, -⟩ | ⟨u, u1, u2, -, -, -, kv, c⟩
            · exact (no c).elim
            · rw [tl0] at c
              rw [c] at hA'
              have q := List.append_inj_right' hA' rfl
              have q1 : (z : Ms) = (xw m 2, [2, σ 31 0, u, 0, 0, 0], kv) := List.head_eq_of_cons_eq q
              have q2 : xw z 2 = u := by rw [q1]; rfl
              rcases f with ⟨f, -, -⟩ | ⟨-, f1, f2⟩
              · exact f
              · omega
          · exact (no c).elim
          · exact (no c).elim

