theorem RDn_k {w e : Int} {t b : Nat} {A A' : List (Ms × Nat × Nat)} (h : RDn w e t A A') (hl : A.length ≤ 95) (hE : ∀ y ∈ A, xw y.1 0 = 5 → xw y.1 1 = e) : (tbc b A ≤ tbc b A' ∨ ∃ y, hdA w A y ∧ xw y.1 0 = 6 ∧ y.2.2 = b) ∧ A'.length ≤ A.length := by
  rcases h with ⟨-, rfl⟩ | ⟨i, y, c1, c2, c⟩
  · exact ⟨Or.inl (Nat.le_refl _), Nat.le_refl _⟩
  · have il : i < A.length := by
      apply Classical.byContradiction
      intro n
      rw [List.getElem?_eq_none (by omega)] at c2
      cases c2
    have er : (A.eraseIdx i).length + 1 = A.length := by rw [List.length_eraseIdx, if_pos il]; omega
    have p := cpA_er (fun x => tokb x && decide (x.2.2 = b)) A i y c2
    rcases c with ⟨d, rfl⟩ | ⟨-, d5, z, -, z6, -, -, -, -, rfl⟩
    · refine ⟨?_, by omega⟩
      by_cases q : tokb y = true ∧ y.2.2 = b
      · right
        refine ⟨y, ⟨i, c1, c2⟩, ?_, q.2⟩
        rcases (tokb_i y).mp q.1 with k | k
        · exfalso
          have := hE y (List.mem_of_getElem? c2) k
          rcases d with d | d
          · exact d this
          · exact d k
        · exact k
      · left
        rw [if_neg (fun e => by
          rw [Bool.and_eq_true] at e
          exact q ⟨e.1, of_decide_eq_true e.2⟩)] at p
        unfold tbc
        omega
    · have tl : tlA (A.eraseIdx i) = A.eraseIdx i := by unfold tlA; exact if_neg (by omega)
      rw [tl]
      refine ⟨Or.inl ?_, by rw [List.length_append]; show _ + 1 ≤ _; omega⟩
      unfold tbc
      rw [List.countP_append, List.countP_cons, List.countP_nil]
      have ty : tokb y = true := (tokb_i y).mpr (Or.inl d5)
      have tz : tokb (z, t + 1, y.2.2) = true := (tokb_i _).mpr (Or.inr z6)
      rw [ty] at p
      rw [tz]
      simp only [Bool.true_and] at p ⊢
      omega
theorem ACn_k {t b : Nat} {A A' : List (Ms × Nat × Nat)} {s : List Ms} (h : ACn t A A' s) (hl : A.length ≤ 93) : tbc b A ≤ tbc b A' := by
  rcases h with ⟨rfl, -⟩ | ⟨z, rfl, -⟩ | ⟨z, z', rfl, -⟩
  · exact Nat.le_refl _
  · have tl : tlA A = A := by unfold tlA; exact if_neg (by omega)
    rw [tl]
    unfold tbc
    rw [List.countP_append]
    omega
  · have tl : tlA A = A := by unfold tlA; exact if_neg (by omega)
    rw [tl]
    have tl2 : tlA (A ++ [(z, t + 1, t + 1)]) = A ++ [(z, t + 1, t + 1)] := by
      unfold tlA
      refine if_neg ?_
      rw [List.length_append]
      show ¬ 95 ≤ A.length + 1
      omega
    rw [tl2]
    unfold tbc
    rw [List.countP_append, List.countP_append]
    omega
theorem HRn_k {t b : Nat} {A A' : List (Ms × Nat × Nat)} (h : HRn t A A') (hl : A.length ≤ 95) (hM : ∀ y ∈ A, tokb y = true → y.1.1 ≠ 6) : tbc b A ≤ tbc b A' ∧ A'.length ≤ A.length ∧ ∀ y ∈ A', tokb y = true → y.1.1 ≠ 6 := by
  rcases h with ⟨-, rfl⟩ | ⟨i, y, c1, c2, c⟩
  · exact ⟨Nat.le_refl _, Nat.le_refl _, hM⟩
  · have hd : hdA 6 A y := ⟨i, c1, c2⟩
    have m := hd_mem hd
    have il : i < A.length := by
      apply Classical.byContradiction
      intro n
      rw [List.getElem?_eq_none (by omega)] at c2
      cases c2
    have er : (A.eraseIdx i).length + 1 = A.length := by rw [List.length_eraseIdx, if_pos il]; omega
    have nk : ¬ tokb y = true := fun k => hM y m.1 k m.2
    have p := cpA_er (fun x => tokb x && decide (x.2.2 = b)) A i y c2
    rw [if_neg (fun e => by rw [Bool.and_eq_true] at e; exact nk e.1)] at p
    rcases c with rfl | ⟨z, z2, rfl⟩
    · exact ⟨by unfold tbc; omega, by omega, fun x hx => hM x ((List.eraseIdx_sublist A i).subset hx)⟩
    · have tl : tlA (A.eraseIdx i) = A.eraseIdx i := by unfold tlA; exact if_neg (by omega)
      rw [tl]
      refine ⟨?_, by rw [List.length_append]; show _ + 1 ≤ _; omega, fun x hx k => ?_⟩
      · unfold tbc
        rw [List.countP_append]
        omega
      · rw [List.mem_append, List.mem_singleton] at hx
        rcases hx with hx | hx
        · exact hM x ((List.eraseIdx_sublist A i).subset hx) k
        · rw [hx] at k
          rcases (tokb_i _).mp k with q | q
          · have q' : xw z 0 = 5 := q
            omega
          · have q' : xw z 0 = 6 := q
            omega
theorem NDT {L s0 : Nat} {τ : Nat → qS} (hR : RNN L τ) {A : Nat → List (Ms × Nat × Nat)} {ρ : Nat → qS × qS × qS} {B : Nat → List (Ms × Nat × Nat) × List (Ms × Nat × Nat) × List (Ms × Nat × Nat)} (h : ANC L s0 τ A ρ B) (h7 : 224 ≤ s0) {t b : Nat} (h1 : s0 ≤ t) (h2 : t < 7 * L) (hl : (ln (τ t)).length ≤ 93) : tbc b (A t) ≤ tbc b (A (t + 1)) ∨ (t % 7 < 6 ∧ ∃ i, i < 3 ∧ ∃ y, hdA ((t % 7 : Nat) : Int) (stA A B t i) y ∧ xw y.1 0 = 6 ∧ y.2.2 = b) := by
  have e0 := h.1.2.1 t h1 (by omega)
  have l0 : (A t).length ≤ 93 := by rw [← pr_len, e0]; exact hl
  by_cases h6 : t % 7 < 6
  · have er := run_ER hR (by omega : 224 ≤ t) (by omega)
    obtain ⟨wd, -, -, -, -, s, a, -⟩ := h.2 t h1 h2 h6
    obtain ⟨r1, r2, r3, -⟩ := wd
    have q1 : (ρ t).1 31 = τ t 31 := r1.2.2.1 _ (by decide)
    have q2 : (ρ t).2.1 31 = τ t 31 := (r2.2.2.1 _ (by decide)).trans q1
    have qe : ∀ i, i < 3 → stQ τ ρ t i 31 0 = τ t 31 0 := fun i hi => by
      rcases (by omega : i = 0 ∨ i = 1 ∨ i = 2) with e | e | e
      · subst e; rfl
      · subst e; show (ρ t).1 31 0 = _; rw [q1]
      · subst e; show (ρ t).2.1 31 0 = _; rw [q2]
    have hE : ∀ i, i < 3 → ∀ y ∈ stA A B t i, xw y.1 0 = 5 → xw y.1 1 = stQ τ ρ t i 31 0 := fun i hi y hy y5 => by
      have m := st_f5 h h1 h2 h6 i (by omega) y hy y5
      rw [qe i hi]
      exact er y.1 (by rw [← e0]; exact List.mem_map_of_mem m)
    have k1 := RDn_k (b := b) (st_rd h h1 h2 h6 (i := 0) (by omega)) (by show (A t).length ≤ 95; omega) (hE 0 (by omega))
    have l1 : (stA A B t (0 + 1)).length ≤ 93 := by have := k1.2; have e : (stA A B t 0).length = (A t).length := rfl; omega
    have k2 := RDn_k (b := b) (st_rd h h1 h2 h6 (i := 1) (by omega)) (by have e : stA A B t (0 + 1) = stA A B t 1 := rfl; rw [e] at l1; omega) (hE 1 (by omega))
    have l2 : (stA A B t (1 + 1)).length ≤ 93 := by have := k2.2; have e : stA A B t (0 + 1) = stA A B t 1 := rfl; rw [e] at l1; omega
    have k3 := RDn_k (b := b) (st_rd h h1 h2 h6 (i := 2) (by omega)) (by have e : stA A B t (1 + 1) = stA A B t 2 := rfl; rw [e] at l2; omega) (hE 2 (by omega))
    have l3 : (stA A B t 3).length ≤ 93 := by have := k3.2; have e : stA A B t (1 + 1) = stA A B t 2 := rfl; have e' : stA A B t (2 + 1) = stA A B t 3 := rfl; rw [e] at l2; rw [e'] at this; omega
    have k4 := ACn_k (b := b) a (by exact l3)
    rcases k1.1 with c1 | ⟨y, c⟩
    · rcases k2.1 with c2 | ⟨y, c⟩
      · rcases k3.1 with c3 | ⟨y, c⟩
        · left
          have e1 : stA A B t (0 + 1) = stA A B t 1 := rfl
          have e2 : stA A B t (1 + 1) = stA A B t 2 := rfl
          have e3 : stA A B t (2 + 1) = (B t).2.2 := rfl
          have e4 : stA A B t 0 = A t := rfl
          rw [e1, e4] at c1
          rw [e2] at c2
          rw [e3] at c3
          omega
        · exact Or.inr ⟨h6, 2, by omega, y, c⟩
      · exact Or.inr ⟨h6, 1, by omega, y, c⟩
    · exact Or.inr ⟨h6, 0, by omega, y, c⟩
  · left
    have hM : ∀ y ∈ A t, tokb y = true → y.1.1 ≠ 6 := fun y hy k e => by
      have w := to_w hR (by omega : 224 ≤ t) (by omega) (x := y.1) (by rw [← e0]; exact List.mem_map_of_mem hy) (by
        rcases (tokb_i y).mp k with q | q
        · exact Or.inl q
        · exact Or.inr (Or.inl q))
      omega
    rcases h.1.2.2 t h1 h2 with ⟨c, -⟩ | ⟨-, σ1, σ2, A1, A2, -, -, -, -, r1, r2, r3⟩
    · omega
    · obtain ⟨x1, x2, x3⟩ := HRn_k (b := b) r1 (by omega) hM
      obtain ⟨y1, y2, y3⟩ := HRn_k (b := b) r2 (by omega) x3
      obtain ⟨z1, -, -⟩ := HRn_k (b := b) r3 (by omega) y3
      omega

