theorem BIRTH {L s0 : Nat} {τ : Nat → qS} {A : Nat → List (Ms × Nat × Nat)} {ρ : Nat → qS × qS × qS} {B : Nat → List (Ms × Nat × Nat) × List (Ms × Nat × Nat) × List (Ms × Nat × Nat)} (hR : RNN L τ) (h : ANC L s0 τ A ρ B) (h7 : 224 ≤ s0) {u v : Nat} (hv : v < 6) (h1 : s0 ≤ u) (h2 : u < 7 * L) (hu : u % 7 = v) (hf : fe (τ (u + 1)) (v : Int) = 1) (hl : (ln (τ u)).length ≤ 93) : 1 ≤ tbc (u + 1) (A (u + 1)) := by
  have h6 : u % 7 < 6 := by omega
  have e0 := h.1.2.1 u h1 (by omega)
  have l0 : (A u).length ≤ 93 := by rw [← pr_len, e0]; exact hl
  have rr := fe_r hf
  obtain ⟨wd, ⟨p0, p1, p2, p3, p4⟩, q1, q2, q3, s, a, o⟩ := h.2 u h1 h2 h6
  have er := run_ER hR (by omega : 224 ≤ u) (by omega)
  have len : ∀ i, i ≤ 3 → (stA A B u i).length ≤ 93 := fun i => by
    induction i with
    | zero => intro _; exact l0
    | succ i ih =>
      intro q
      have r := st_rd h h1 h2 h6 (i := i) (by omega)
      have li := ih (by omega)
      rcases r with ⟨-, e⟩ | ⟨j, y, -, c2, c⟩
      · rw [e]; exact li
      · have il : j < (stA A B u i).length := by
          apply Classical.byContradiction
          intro n
          rw [List.getElem?_eq_none (by omega)] at c2
          cases c2
        have er : ((stA A B u i).eraseIdx j).length + 1 = (stA A B u i).length := by rw [List.length_eraseIdx, if_pos il]; omega
        rcases c with ⟨-, e⟩ | ⟨-, -, z, -, -, -, -, -, -, e⟩
        · rw [e]; omega
        · rw [e, List.length_append]
          have : (tlA ((stA A B u i).eraseIdx j)).length ≤ ((stA A B u i).eraseIdx j).length := List.Sublist.length_le (tlA_sub _)
          show _ + 1 ≤ 93
          omega
  have l3 : (B u).2.2.length ≤ 93 := len 3 (by omega)
  have n3 : (ln (ρ u).2.2).length = (B u).2.2.length := by rw [← p3, pr_len]
  rw [hu] at wd
  obtain ⟨-, -, -, ac, -⟩ := wd
  have tl0 : tl95 (ln (ρ u).2.2) = ln (ρ u).2.2 := by unfold tl95; exact if_neg (by omega)
  have fin : ∀ z : Ms, xw z 0 = 5 → (∃ r, ln (τ (u + 1)) = ln (ρ u).2.2 ++ (z :: r)) → 1 ≤ tbc (u + 1) (A (u + 1)) := fun z z5 ⟨r, e⟩ => by
    have hz : ∀ (x : Ms × Nat × Nat), x ∈ A (u + 1) → tokb x = true → x.2.2 = u + 1 → 1 ≤ tbc (u + 1) (A (u + 1)) := fun x x1 x2 x3 => by
      unfold tbc
      exact List.countP_pos_iff.mpr ⟨x, x1, by rw [x2, decide_eq_true x3]; rfl⟩
    rcases a with ⟨a1, -⟩ | ⟨y, a1, -⟩ | ⟨y, y', a1, -⟩
    · exfalso
      have q : (prA (A (u + 1))).length = (prA (B u).2.2).length := by rw [a1]
      rw [p4, p3, e, List.length_append] at q
      simp only [List.length_cons] at q
      omega
    · have tA : tlA (B u).2.2 = (B u).2.2 := by unfold tlA; exact if_neg (by omega)
      rw [tA] at a1
      have q := p4
      rw [a1, pr_ap, p3, e] at q
      have q' := List.append_cancel_left q
      have qy : y = z := List.head_eq_of_cons_eq q'
      subst qy
      exact hz (y, u + 1, u + 1) (by rw [a1]; exact List.mem_append.mpr (Or.inr (List.mem_singleton.mpr rfl))) ((tokb_i _).mpr (Or.inl z5)) rfl
    · have tA : tlA (B u).2.2 = (B u).2.2 := by unfold tlA; exact if_neg (by omega)
      have tA2 : tlA ((B u).2.2 ++ [(y, u + 1, u + 1)]) = (B u).2.2 ++ [(y, u + 1, u + 1)] := by
        unfold tlA
        refine if_neg ?_
        rw [List.length_append]
        show ¬ 95 ≤ _ + 1
        omega
      rw [tA, tA2] at a1
      have q := p4
      rw [a1, pr_ap, pr_ap, p3, e, List.append_assoc] at q
      have q' := List.append_cancel_left q
      have qy : y = z := List.head_eq_of_cons_eq q'
      subst qy
      exact hz (y, u + 1, u + 1) (by rw [a1]; exact List.mem_append.mpr (Or.inl (List.mem_append.mpr (Or.inr (List.mem_singleton.mpr rfl))))) ((tokb_i _).mpr (Or.inl z5)) rfl
  have nf : ∀ {P : Prop}, fgo (v : Int) (τ (u + 1)) → P := fun {P} f => by have := f.1; omega
  have jo := (h.2 u h1 h2 h6).1
  rw [hu] at jo
  obtain ⟨r1, r2, r3, -, ⟨j1, j2, j3, j4⟩, -⟩ := jo
  have hsp := spl_b j3.1
  obtain ⟨-, -, -, c⟩ := ac
  rcases c with ⟨-, -, c, -⟩ | ⟨c0, c⟩ | ⟨c0, c⟩
  · omega
  · rcases c with ⟨-, -, f, -⟩ | ⟨-, f, -⟩ | ⟨-, -, f, -⟩ | ⟨-, -, c, -⟩
    · exact nf f
    · exact nf f
    · exact nf f
    · omega
  · rcases c with ⟨-, -, f, -⟩ | ⟨-, -, -, -, f, -⟩ | ⟨-, -, -, ⟨g1, g2⟩, -, -, -, -, -, -, g3⟩ | ⟨-, -, -, -, -, -, -, -, -, c⟩ | ⟨-, -, f, -⟩
    · exact nf f
    · exact nf f
    · exfalso
      have w3 := (rd_P2 j3 (by omega) (by
        have jo' := (h.2 u h1 h2 h6).1
        rw [hu] at jo'
        exact jo'.2.2.2.2.2.2.2.1) c0).1.2.2.1
      omega
    · rcases c with ⟨-, -, kv, c⟩ | ⟨-, -, kv, kv', c⟩
      · rw [tl0] at c
        exact fin _ rfl ⟨[], c⟩
      · rw [tl0] at c
        have t2 : ∀ z : Ms, tl95 (ln (ρ u).2.2 ++ [z]) = ln (ρ u).2.2 ++ [z] := fun z => by
          unfold tl95
          refine if_neg ?_
          rw [List.length_append]
          show ¬ 95 ≤ _ + 1
          omega
        rw [t2, List.append_assoc] at c
        exact fin _ rfl ⟨_, c⟩
    · exact nf f

