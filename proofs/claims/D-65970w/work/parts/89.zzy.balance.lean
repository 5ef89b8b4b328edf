noncomputable def k26 (w : Int) (σ : qS) : Nat := @ite Nat (∃ (i : Nat) (x : Ms), (ln σ).findIdx? (fun m => m.1 == w) = some i ∧ (ln σ)[i]? = some x ∧ xw x 1 = σ 31 0 ∧ (xw x 0 = 2 ∨ xw x 0 = 6)) (Classical.propDecidable _) 1 0
theorem k26_0 {w : Int} {σ : qS} (h : ∀ (i : Nat) (x : Ms), (ln σ).findIdx? (fun m => m.1 == w) = some i → (ln σ)[i]? = some x → xw x 1 = σ 31 0 → xw x 0 ≠ 2 ∧ xw x 0 ≠ 6) : k26 w σ = 0 := by
  unfold k26
  refine if_neg ?_
  rintro ⟨i, x, a, b, c, d⟩
  have := h i x a b c
  omega
theorem k26_1 {w : Int} {σ : qS} {i : Nat} {x : Ms} (a : (ln σ).findIdx? (fun m => m.1 == w) = some i) (b : (ln σ)[i]? = some x) (c : xw x 1 = σ 31 0) (d : xw x 0 = 2 ∨ xw x 0 = 6) : k26 w σ = 1 := by
  unfold k26
  exact if_pos ⟨i, x, a, b, c, d⟩
theorem k26_b (w : Int) (σ : qS) : k26 w σ ≤ 1 := by
  unfold k26
  split <;> omega
theorem er_len {L : List Ms} {i : Nat} {x : Ms} (h : L[i]? = some x) : (L.eraseIdx i).length + 1 = L.length := by
  have hi : i < L.length := by
    apply Classical.byContradiction
    intro c
    rw [List.getElem?_eq_none (by omega)] at h
    cases h
  rw [List.length_eraseIdx_of_lt hi]
  omega
theorem RD_l {w : Int} {σ σ' : qS} (h : RD w σ σ') : (ln σ').length + k26 w σ ≤ (ln σ).length ∧ (same w σ σ' ∨ k26 w σ = 1) := by
  obtain ⟨-, -, -, c⟩ := h
  rcases c with ⟨c1, c2, c3⟩ | ⟨i, x, c1, c2, c⟩
  · have z : k26 w σ = 0 := k26_0 (fun i x a _ _ => by rw [c1] at a; cases a)
    rw [c2, z]
    exact ⟨Nat.le_refl _, Or.inl c3⟩
  · have hx := er_len c2
    have un' : ∀ (j : Nat) (y : Ms), (ln σ).findIdx? (fun m => m.1 == w) = some j → (ln σ)[j]? = some y → y = x := fun j y a b => by
      rw [c1] at a
      have e := Option.some.inj a
      subst e
      rw [c2] at b
      exact (Option.some.inj b).symm
    rcases c with ⟨d0, d1, d2⟩ | ⟨d0, d1, d2, d3⟩ | ⟨d0, d1, d2, a, kv', d3⟩ | ⟨d0, d1, d2, d3⟩
    · have z : k26 w σ = 0 := k26_0 (fun j y a b e => by rw [un' j y a b] at e; exact absurd e d0)
      rw [d1, z]
      exact ⟨by omega, Or.inl d2⟩
    · have z := k26_1 c1 c2 d0 (Or.inl d1)
      rw [d2, z]
      exact ⟨by omega, Or.inr rfl⟩
    · have z : k26 w σ = 0 := k26_0 (fun j y a b e => by rw [un' j y a b]; omega)
      have t := (tl_len ((ln σ).eraseIdx i)).1
      rw [d3, z, List.length_append]
      exact ⟨by simp only [List.length_cons, List.length_nil]; omega, Or.inl d2⟩
    · have z := k26_1 c1 c2 d0 (Or.inr d1)
      rw [d2, z]
      exact ⟨by omega, Or.inr rfl⟩
theorem TL_l {to ty a b c d : Int} {σ σ' : qS} (h : TL to ty a b c d σ σ') : (ln σ').length ≤ (ln σ).length + 1 := by
  obtain ⟨kv, h⟩ := h
  have t := (tl_len (ln σ)).1
  rw [h, List.length_append]
  simp only [List.length_cons, List.length_nil]
  omega
noncomputable def gnw (σ σ' : qS) (w : Int) : Nat := @ite Nat (AK w σ') (Classical.propDecidable _) 1 (@ite Nat (38 ≤ σ 62 w ∧ σ 65 w = 13) (Classical.propDecidable _) (@ite Nat (LKs σ' w) (Classical.propDecidable _) 2 1) (if 0 ≤ σ 62 w ∧ σ 62 w < 38 then 1 else 0))
theorem same_tr {w : Int} {σ1 σ2 σ3 : qS} (a : same w σ1 σ2) (b : same w σ2 σ3) : same w σ1 σ3 := ⟨by rw [b.1, a.1], by rw [b.2.1, a.2.1], by rw [b.2.2.1, a.2.2.1], by rw [b.2.2.2.1, a.2.2.2.1], by rw [b.2.2.2.2, a.2.2.2.2]⟩
theorem LB_w {w : Int} {σ σ' : qS} (hw : 0 ≤ w ∧ w < 6) (hg : GR σ w) (h : WTK w σ σ') : ∃ σ1 σ2 σ3 : qS, ∃ us : Nat, RD w σ σ1 ∧ RD w σ1 σ2 ∧ RD w σ2 σ3 ∧ ACT w σ3 σ' ∧ (ln σ').length + (k26 w σ + k26 w σ1 + k26 w σ2) ≤ (ln σ).length + gnw σ σ' w + us ∧ us ≤ 1 ∧ (us = 1 → 1 ≤ k26 w σ + k26 w σ1 + k26 w σ2) := by
  obtain ⟨σ1, σ2, σ3, r1, r2, r3, a, ⟨j1, j2, j3, j4⟩, -, -, a3, -⟩ := h
  obtain ⟨l1, s1⟩ := RD_l r1
  obtain ⟨l2, s2⟩ := RD_l r2
  obtain ⟨l3, s3⟩ := RD_l r3
  have kk : ∀ k ∈ [33, 40, 31, 32, 29, 10, 11, 2, 13], σ3 k = σ k := fun k m => by
    have m1 : k ∈ rdK := (by decide : ∀ k ∈ [33, 40, 31, 32, 29, 10, 11, 2, 13], k ∈ rdK) k m
    rw [r3.2.2.1 k m1, r2.2.2.1 k m1, r1.2.2.1 k m1]
  have sp3 : spl σ3 = spl σ := (st_c (fun k m => kk k ((by decide : ∀ k ∈ stC, k ∈ [33, 40, 31, 32, 29, 10, 11, 2, 13]) k m))).1
  have key : same w σ σ3 ∨ 1 ≤ k26 w σ + k26 w σ1 + k26 w σ2 := by
    rcases s1 with s1 | s1
    · rcases s2 with s2 | s2
      · rcases s3 with s3 | s3
        · exact Or.inl (same_tr (same_tr s1 s2) s3)
        · exact Or.inr (by omega)
      · exact Or.inr (by omega)
    · exact Or.inr (by omega)
  have fin : (ln σ').length ≤ (ln σ3).length + gnw σ σ' w ∨ ((ln σ').length ≤ (ln σ3).length + gnw σ σ' w + 1 ∧ 1 ≤ k26 w σ + k26 w σ1 + k26 w σ2) := by
    have a' := a
    obtain ⟨-, -, -, c⟩ := a'
    have own : (ln σ').length ≤ (ln σ3).length + 1 → (same w σ σ3 → 1 ≤ gnw σ σ' w) → (ln σ').length ≤ (ln σ3).length + gnw σ σ' w ∨ ((ln σ').length ≤ (ln σ3).length + gnw σ σ' w + 1 ∧ 1 ≤ k26 w σ + k26 w σ1 + k26 w σ2) := fun e f => by
      rcases key with k | k
      · exact Or.inl (by have := f k; omega)
      · exact Or.inr ⟨by omega, k⟩
    have nl : ln σ' = ln σ3 → (ln σ').length ≤ (ln σ3).length + gnw σ σ' w ∨ ((ln σ').length ≤ (ln σ3).length + gnw σ σ' w + 1 ∧ 1 ≤ k26 w σ + k26 w σ1 + k26 w σ2) := fun e => Or.inl (by rw [e]; omega)
    have g3 : 0 ≤ σ 62 w ∧ σ 62 w < 38 → 1 ≤ gnw σ σ' w := fun e => by
      unfold gnw
      by_cases q : AK w σ'
      · rw [if_pos q]; exact Nat.le_refl _
      · rw [if_neg q, if_neg (fun z => by have := z.1; omega), if_pos e]; exact Nat.le_refl _
    have g2 : 38 ≤ σ 62 w ∧ σ 65 w = 13 → 1 ≤ gnw σ σ' w := fun e => by
      unfold gnw
      by_cases q : AK w σ'
      · rw [if_pos q]; exact Nat.le_refl _
      · rw [if_neg q, if_pos e]
        by_cases q' : LKs σ' w
        · rw [if_pos q']; omega
        · rw [if_neg q']; exact Nat.le_refl _
    rcases c with ⟨c1, -, c2, c3, c⟩ | ⟨c0, c⟩ | ⟨c0, c⟩
    · rcases c with ⟨c4, c⟩ | ⟨-, c⟩
      · have t := TL_l c
        have ak : AK w σ' := ⟨c2, by rw [c3, c4]; rfl⟩
        have e : gnw σ σ' w = 1 := by unfold gnw; exact if_pos ak
        exact Or.inl (by omega)
      · exact nl c
    · have hsp := spl_b j3.1
      have fm : same w σ σ3 → 1 ≤ gnw σ σ' w := fun s => g3 (by have := s.1; omega)
      rcases c with ⟨-, -, -, a', c⟩ | ⟨-, -, -, ⟨a', c⟩, -⟩ | ⟨-, -, -, c⟩ | ⟨-, -, -, -, -, c⟩
      · exact own (TL_l c) fm
      · exact own (TL_l c) fm
      · exact own (TL_l c) fm
      · exact nl c
    · rcases c with ⟨u0, -, -, c⟩ | ⟨-, -, -, -, -, c⟩ | ⟨-, -, -, -, -, c, -⟩ | ⟨-, -, -, u6, -, ut, -, -, u9, c⟩ | ⟨-, u, -, -, c⟩
      · refine own (TL_l c) (fun s => ?_)
        exfalso
        have g := (hg (by have := s.1; omega)).2.2
        rw [s.1, kk 40 (by decide), kk 31 (by decide)] at u0
        exact g u0
      · exact nl c
      · exact nl c
      · have ag : same w σ σ3 → 38 ≤ σ 62 w ∧ σ 65 w = 13 := fun s => by
          have e1 := s.1
          have e2 := s.2.2.1
          have g := (hg (by omega)).1
          omega
        rcases c with ⟨-, -, c⟩ | ⟨u7, u8, kv, kv', c⟩
        · exact own (TL_l c) (fun s => g2 (ag s))
        · have t1 := (tl_len (ln σ3)).1
          have t2 := (tl_len (tl95 (ln σ3) ++ [((σ3 33 (σ3 64 w), [5, σ3 31 0, σ3 64 w, σ3 62 w - 38, ps σ3 w, w], kv) : Ms)])).1
          have t3 : (ln σ').length ≤ (ln σ3).length + 2 := by
            rw [c, List.length_append]
            rw [List.length_append] at t2
            simp only [List.length_cons, List.length_nil] at t2 ⊢
            omega
          rcases key with s | k
          · have e := ag s
            left
            have na : ¬ AK w σ' := fun z => by have := z.1; omega
            have lk : LKs σ' w := ⟨by omega, u9, u8⟩
            have g : gnw σ σ' w = 2 := by unfold gnw; rw [if_neg na, if_pos e, if_pos lk]
            omega
          · by_cases e : 38 ≤ σ 62 w ∧ σ 65 w = 13
            · right
              have := g2 e
              exact ⟨by omega, k⟩
            · exfalso
              have tr : ∀ {τ1 τ2 : qS}, RD w τ1 τ2 → same w τ1 τ2 ∨ τ2 66 w = 0 := fun r => by
                obtain ⟨-, -, -, q⟩ := r
                rcases q with ⟨-, -, q⟩ | ⟨i, x, -, -, q⟩
                · exact Or.inl q
                · rcases q with ⟨-, -, q⟩ | ⟨-, -, -, q⟩ | ⟨-, -, q, -⟩ | ⟨-, -, -, q⟩
                  · exact Or.inl q
                  · rcases q with ⟨-, -, -, -, q, -⟩ | ⟨-, q⟩
                    · exact Or.inr q
                    · exact Or.inl q
                  · exact Or.inl q
                  · rcases q with ⟨-, q⟩ | ⟨-, -, -, q, -⟩
                    · exact Or.inl q
                    · exact Or.inr q
              have t0 : ∀ {τ1 τ2 : qS}, RD w τ1 τ2 → τ1 66 w = 0 → τ2 66 w = 0 := fun r z => by
                rcases tr r with q | q
                · rw [q.2.2.2.1]; exact z
                · exact q
              rcases tr r1 with q1 | q1
              · rcases tr r2 with q2 | q2
                · rcases tr r3 with q3 | q3
                  · have s := same_tr (same_tr q1 q2) q3
                    exact e (ag s)
                  · omega
                · have := t0 r3 q2; omega
              · have := t0 r3 (t0 r2 q1); omega
      · refine own ?_ (fun s => ?_)
        · rcases c with ⟨-, -, c⟩ | ⟨-, c⟩
          · exact TL_l c
          · exact TL_l c
        · exfalso
          have g := (hg (by have := s.1; omega)).2.1
          have e := s.2.1
          omega
  rcases fin with f | ⟨f, k⟩
  · exact ⟨σ1, σ2, σ3, 0, r1, r2, r3, a, by omega, by omega, fun e => by omega⟩
  · exact ⟨σ1, σ2, σ3, 1, r1, r2, r3, a, by omega, Nat.le_refl _, fun _ => k⟩
theorem HR_l {σ σ' : qS} (h : HR σ σ') : (ln σ').length ≤ (ln σ).length := by
  obtain ⟨-, -, c⟩ := h
  rcases c with ⟨-, c, -⟩ | ⟨i, x, -, c2, c⟩
  · rw [c]; exact Nat.le_refl _
  · have hx := er_len c2
    rcases c with ⟨-, c, -⟩ | ⟨-, -, -, -, fi, en, -, c⟩ | ⟨-, -, c, -⟩ | ⟨-, -, c, -⟩
    · rw [c]; omega
    · rcases c with ⟨c, -⟩ | ⟨t, -, -, -, -, -, kv, c⟩
      · rw [c]; omega
      · have t := (tl_len ((ln σ).eraseIdx i)).1
        rw [c, List.length_append]
        simp only [List.length_cons, List.length_nil]
        omega
    · rw [c]; omega
    · rw [c]; omega
theorem M_l {σ σ' : qS} (h : MTK σ σ') : (ln σ').length ≤ (ln σ).length := by
  obtain ⟨σ1, σ2, r1, r2, r3, -⟩ := h
  have a1 := HR_l r1
  have a2 := HR_l r2
  have a3 := HR_l r3
  rw [l_clk] at a1
  omega

