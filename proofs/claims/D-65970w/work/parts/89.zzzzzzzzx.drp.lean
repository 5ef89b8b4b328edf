-- the drop of the token of a sample: at that time the line is full and no letter is older than the sample
theorem tl_al3 {t s : Nat} {C : List (Ms × Nat × Nat)} (hs : SRT t C) {y : Ms × Nat × Nat} (hy : y ∈ C) (ys : s ≤ y.2.1) : y ∈ tlA C ∨ (lbS s (tlA C) ∧ 94 ≤ (tlA C).length) := by
  unfold tlA
  split
  · next c95 =>
    cases C with
    | nil => cases hy
    | cons a C =>
      rcases List.mem_cons.mp hy with e | e
      · right
        refine ⟨?_, ?_⟩
        · intro x hx
          have hx : x ∈ C := hx
          have p := (List.pairwise_cons.mp hs.1).1 x hx
          rw [← e] at p
          omega
        · rw [List.length_cons] at c95
          show 94 ≤ C.length
          omega
      · exact Or.inl e
  · exact Or.inl hy
theorem tlA_94 {D : List (Ms × Nat × Nat)} (h : 94 ≤ D.length) : 94 ≤ (tlA D).length := by
  unfold tlA
  split
  · next c =>
    rw [List.length_eraseIdx_of_lt (by omega)]
    omega
  · exact h
theorem AC_al3 {t s : Nat} {C A' : List (Ms × Nat × Nat)} {q : List Ms} (r : ACn t C A' q) (hs : SRT (t + 1) C) {y : Ms × Nat × Nat} (hy : y ∈ C) (ys : s ≤ y.2.1) : y ∈ A' ∨ (lbS s A' ∧ 95 ≤ A'.length) := by
  have st : s ≤ t + 1 := Nat.le_trans ys (hs.2 y hy)
  have ap : ∀ {D : List (Ms × Nat × Nat)} (z : Ms), lbS s D → lbS s (D ++ [(z, t + 1, t + 1)]) := fun {D} z hD x hx => by
    rw [List.mem_append, List.mem_singleton] at hx
    rcases hx with hx | hx
    · exact hD x hx
    · rw [hx]; exact st
  have tl : ∀ {D : List (Ms × Nat × Nat)}, lbS s D → lbS s (tlA D) := fun {D} hD x hx => hD x ((tlA_sub D).subset hx)
  rcases r with ⟨e, -⟩ | ⟨z, e, -⟩ | ⟨z, z', e, -⟩
  · rw [e]; exact Or.inl hy
  · rw [e]
    rcases tl_al3 hs hy ys with g | g
    · exact Or.inl (List.mem_append_left _ g)
    · exact Or.inr ⟨ap z g.1, by rw [List.length_append, List.length_singleton]; omega⟩
  · rw [e]
    rcases tl_al3 hs hy ys with g | g
    · have sr := SRT_ap (SRT_sub hs (tlA_sub C)) z (t + 1)
      rcases tl_al3 sr (List.mem_append_left _ g) ys with g' | g'
      · exact Or.inl (List.mem_append_left _ g')
      · exact Or.inr ⟨ap z' g'.1, by rw [List.length_append, List.length_singleton]; omega⟩
    · refine Or.inr ⟨ap z' (tl (ap z g.1)), ?_⟩
      have := tlA_94 (D := tlA C ++ [(z, t + 1, t + 1)]) (by rw [List.length_append, List.length_singleton]; omega)
      rw [List.length_append, List.length_singleton]
      omega
theorem TKRm3 {L s0 : Nat} {τ : Nat → qS} (hR : RNN L τ) {A : Nat → List (Ms × Nat × Nat)} {ρ : Nat → qS × qS × qS} {B : Nat → List (Ms × Nat × Nat) × List (Ms × Nat × Nat) × List (Ms × Nat × Nat)} (h : ANC2 L s0 τ A ρ B) (h7 : 224 ≤ s0) {w : Nat} (hw : w < 6) {t : Nat} (ht : t % 7 = w) (h1 : 7 * 145 ≤ t) (h2 : t + 1 ≤ 7 * L) (hl : LKs (τ (t + 1)) w) {j : Nat} (j1 : 1 ≤ j) (j2 : j ≤ 143) {s : Nat} (es : s = t + 1 - 7 * j) (js : s0 < s) {y : Ms × Nat × Nat} (y5 : xw y.1 0 = 5) (yw : xw y.1 5 = (w : Int)) (yb : y.2.2 = s) (ys : y.2.1 = s) {T : Nat} (T1 : s ≤ T) (T2 : T ≤ t) (l6 : T % 7 < 6) (h0 : y ∈ A T) : (¬ rdY A B T y ∧ (y ∈ A (T + 1) ∨ (lbS s (A (T + 1)) ∧ 95 ≤ (A (T + 1)).length))) ∨ (rdY A B T y ∧ (PRm (w : Int) s T (A (T + 1)) ∨ (lbS s (A (T + 1)) ∧ 95 ≤ (A (T + 1)).length))) := by
  obtain ⟨qe, ye⟩ := st_er hR h.1 (by omega : 224 ≤ T) (by omega) (by omega) l6
  have st : ∀ i, i ≤ 3 → (y ∈ stA A B T i ∧ ∀ i', i' < i → ¬ hdA ((T % 7 : Nat) : Int) (stA A B T i') y) ∨ (rdY A B T y ∧ PRm (w : Int) s T (stA A B T i)) := fun i => by
    induction i with
    | zero => intro _; exact Or.inl ⟨h0, fun i' q => by omega⟩
    | succ i hi =>
      intro q
      have r := st_rd h.1 (by omega : s0 ≤ T) (by omega) l6 (i := i) (by omega)
      have l95 := st_95 hR h.1 (by omega : 224 ≤ T) (by omega) (by omega) l6 i (by omega)
      rcases hi (by omega) with ⟨k1, k2⟩ | ⟨k0, z, z1, z2, z3, z6, zw⟩
      · have yr := ye i (by omega) y k1
        by_cases c : hdA ((T % 7 : Nat) : Int) (stA A B T i) y
        · right
          refine ⟨⟨l6, i, by omega, c⟩, ?_⟩
          obtain ⟨i0, a, b⟩ := c
          rcases r with ⟨d, -⟩ | ⟨j0, y', d1, d2, d⟩
          · rw [a] at d; cases d
          · have ey : y = y' := hdA_u ⟨i0, a, b⟩ ⟨j0, d1, d2⟩
            subst ey
            rcases d with ⟨d, -⟩ | ⟨-, -, z, g1, g2, -, -, -, -, d⟩
            · exfalso
              rcases d with d | d
              · exact d (by rw [yr, qe i (by omega)])
              · exact d y5
            · exact ⟨(z, T + 1, y.2.2), by rw [d]; exact List.mem_append_right _ (List.mem_singleton.mpr rfl), yb, rfl, g2, by rw [← yw]; exact g1⟩
        · left
          refine ⟨?_, fun i' hi' => ?_⟩
          · apply Classical.byContradiction
            intro n
            exact c (RDn_lv r l95 k1 n)
          · by_cases e : i' = i
            · rw [e]; exact c
            · exact k2 i' (by omega)
      · right
        refine ⟨k0, z, ?_, z2, z3, z6, zw⟩
        apply Classical.byContradiction
        intro n
        exact NRD hR h.1 h7 hw ht h1 h2 hl j1 j2 (by omega) (T := T) (by omega) (by omega) l6 (i := i) (by omega) (RDn_lv r l95 z1 n) z6 (by rw [z2, es])
  have u3 := st_srt h.1 (by omega : s0 ≤ T) (by omega) l6 3 (Nat.le_refl _)
  obtain ⟨q, q1, -, -⟩ := h.2 T (by omega) (by omega) l6
  rcases st 3 (by omega) with ⟨k1, k2⟩ | ⟨k0, z, z1, z2, z3, z6, zw⟩
  · exact Or.inl ⟨fun ⟨_, i, hi, c⟩ => k2 i hi c, AC_al3 q1 u3 k1 (by omega)⟩
  · right
    refine ⟨k0, ?_⟩
    rcases AC_al3 (s := s) q1 u3 z1 (by omega) with g | g
    · exact Or.inl ⟨z, g, z2, z3, z6, zw⟩
    · exact Or.inr g
theorem SMPm3 {L s0 : Nat} {τ : Nat → qS} (hR : RNN L τ) {A : Nat → List (Ms × Nat × Nat)} {ρ : Nat → qS × qS × qS} {B : Nat → List (Ms × Nat × Nat) × List (Ms × Nat × Nat) × List (Ms × Nat × Nat)} (h : ANC2 L s0 τ A ρ B) (h7 : 224 ≤ s0) {w : Nat} (hw : w < 6) {t : Nat} (ht : t % 7 = w) (h1 : 7 * 145 ≤ t) (h2 : t + 1 ≤ 7 * L) (hl : LKs (τ (t + 1)) w) {j : Nat} (j1 : 1 ≤ j) (j2 : j ≤ 143) {s : Nat} (es : s = t + 1 - 7 * j) (js : s0 < s) {y : Ms × Nat × Nat} (y5 : xw y.1 0 = 5) (yw : xw y.1 5 = (w : Int)) (yb : y.2.2 = s) (ys : y.2.1 = s) (y6 : y.1.1 ≠ 6) (h0 : y ∈ A s) : ∀ k, s + k ≤ t + 1 → ((∀ i, i < k → ¬ rdY A B (s + i) y) ∧ y ∈ A (s + k)) ∨ (∃ k0, k0 < k ∧ (∀ i, i < k0 → ¬ rdY A B (s + i) y) ∧ rdY A B (s + k0) y ∧ PRm (w : Int) s (s + k0) (A (s + k))) ∨ ∃ k', k' ≤ k ∧ lbS s (A (s + k')) ∧ 95 ≤ (A (s + k')).length
  | 0, _ => Or.inl ⟨fun i q => by omega, h0⟩
  | k + 1, hk => by
    have ih := SMPm3 hR h h7 hw ht h1 h2 hl j1 j2 es js y5 yw yb ys y6 h0 k (by omega)
    rw [show s + (k + 1) = s + k + 1 by omega]
    rcases ih with ⟨i1, i2⟩ | ⟨k0, i1, i2, i3, z, z1, z2, z3, z4, z5⟩ | g
    · by_cases e6 : (s + k) % 7 = 6
      · left
        refine ⟨fun i q => ?_, ?_⟩
        · by_cases e : i = k
          · rw [e]; exact fun c => by have := c.1; omega
          · exact i1 i (by omega)
        · rcases h.1.1.2.2 (s + k) (by omega) (by omega) with ⟨e, -⟩ | ⟨-, σ1, σ2, A1, A2, -, -, -, -, n1, n2, n3⟩
          · omega
          · have l95 := st_l95 hR h (T := s + k) (by omega) (by omega) (by omega)
            obtain ⟨a1, b1⟩ := HRn_lv n1 l95 i2 y6
            obtain ⟨a2, b2⟩ := HRn_lv n2 b1 a1 y6
            exact (HRn_lv n3 b2 a2 y6).1
      · rcases TKRm3 hR h h7 hw ht h1 h2 hl j1 j2 es js y5 yw yb ys (T := s + k) (by omega) (by omega) (by omega) i2 with ⟨g1, g2⟩ | ⟨g1, g2⟩
        · rcases g2 with g2 | g2
          · refine Or.inl ⟨fun i q => ?_, g2⟩
            by_cases e : i = k
            · rw [e]; exact g1
            · exact i1 i (by omega)
          · exact Or.inr (Or.inr ⟨k + 1, Nat.le_refl _, g2⟩)
        · rcases g2 with g2 | g2
          · exact Or.inr (Or.inl ⟨k, by omega, i1, g1, g2⟩)
          · exact Or.inr (Or.inr ⟨k + 1, Nat.le_refl _, g2⟩)
    · have z6 : z.1.1 ≠ 6 := by rw [z5]; omega
      by_cases e6 : (s + k) % 7 = 6
      · right; left
        refine ⟨k0, by omega, i2, i3, z, ?_, z2, z3, z4, z5⟩
        rcases h.1.1.2.2 (s + k) (by omega) (by omega) with ⟨e, -⟩ | ⟨-, σ1, σ2, A1, A2, -, -, -, -, n1, n2, n3⟩
        · omega
        · have l95 := st_l95 hR h (T := s + k) (by omega) (by omega) (by omega)
          obtain ⟨a1, b1⟩ := HRn_lv n1 l95 z1 z6
          obtain ⟨a2, b2⟩ := HRn_lv n2 b1 a1 z6
          exact (HRn_lv n3 b2 a2 z6).1
      · have l6 : (s + k) % 7 < 6 := by omega
        have st : ∀ i, i ≤ 3 → z ∈ stA A B (s + k) i := fun i => by
          induction i with
          | zero => intro _; exact z1
          | succ i hi =>
            intro q
            have m := hi (by omega)
            apply Classical.byContradiction
            intro n
            exact NRD hR h.1 h7 hw ht h1 h2 hl j1 j2 (by omega) (T := s + k) (by omega) (by omega) l6 (i := i) (by omega) (RDn_lv (st_rd h.1 (by omega : s0 ≤ s + k) (by omega) l6 (i := i) (by omega)) (st_95 hR h.1 (by omega : 224 ≤ s + k) (by omega) (by omega) l6 i (by omega)) m n) z4 (by rw [z2, es])
        have u3 := st_srt h.1 (by omega : s0 ≤ s + k) (by omega) l6 3 (Nat.le_refl _)
        obtain ⟨q, q1, -, -⟩ := h.2 (s + k) (by omega) (by omega) l6
        rcases AC_al3 (s := s) q1 u3 (st 3 (Nat.le_refl _)) (by omega) with g | g
        · exact Or.inr (Or.inl ⟨k0, by omega, i2, i3, z, g, z2, z3, z4, z5⟩)
        · exact Or.inr (Or.inr ⟨k + 1, Nat.le_refl _, g⟩)
    · obtain ⟨k', g1, g2⟩ := g
      exact Or.inr (Or.inr ⟨k', by omega, g2⟩)

