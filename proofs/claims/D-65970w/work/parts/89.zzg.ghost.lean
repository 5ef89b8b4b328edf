def sb (B : Nat → Nat) : Nat → Nat
  | 0 => 0
  | n + 1 => sb B n + B n
theorem sb_le {B B' : Nat → Nat} : ∀ n, (∀ k, k < n → B' k ≤ B k) → sb B' n ≤ sb B n
  | 0, _ => Nat.le_refl _
  | n + 1, h => by
    have ih := sb_le n (fun k hk => h k (by omega))
    have := h n (by omega)
    simp only [sb]; omega
theorem sb_up {B B' : Nat → Nat} {j : Nat} : ∀ n, (∀ k, k < n → k ≠ j → B' k ≤ B k) → sb B' n ≤ sb B n + B' j
  | 0, _ => by simp [sb]
  | n + 1, h => by
    by_cases c : n = j
    · have := sb_le n (fun k hk => h k (by omega) (by omega))
      simp only [sb]; rw [c]; rw [c] at this; omega
    · have ih := sb_up (j := j) n (fun k hk => h k (by omega))
      have := h n (by omega) c
      simp only [sb]; omega
theorem sb_dn {B B' : Nat → Nat} {j : Nat} (hj : B' j = 0) : ∀ n, j < n → (∀ k, k < n → k ≠ j → B' k ≤ B k) → sb B' n + B j ≤ sb B n
  | 0, h, _ => by omega
  | n + 1, h, hh => by
    by_cases c : n = j
    · have := sb_le n (fun k hk => hh k (by omega) (by omega))
      simp only [sb]; rw [c]; rw [c] at this; omega
    · have ih := sb_dn hj n (by omega) (fun k hk => hh k (by omega))
      have := hh n (by omega) c
      simp only [sb]; omega
theorem itm_r {σ : qS} {b : Int} : ∀ M : List Ms, M.countP (isD (σ 31 0) b) + M.countP (isG (σ 31 0) b) ≤ M.countP (itm σ b)
  | [] => by simp
  | x :: M => by
    have ih := itm_r (σ := σ) (b := b) M
    simp only [List.countP_cons]
    by_cases d : isD (σ 31 0) b x = true
    · obtain ⟨d1, d2, d3⟩ := of_decide_eq_true (show decide _ = true from d)
      have ng : isG (σ 31 0) b x = false := by unfold isG; exact decide_eq_false (fun z => by have := z.2.1; omega)
      have hi : itm σ b x = true := by unfold itm; exact decide_eq_true ⟨d1, Or.inl ⟨d2, d3⟩⟩
      rw [if_pos d, ng, if_pos hi]
      simp only [Bool.false_eq_true, if_false]
      omega
    · rw [if_neg d]
      by_cases g : isG (σ 31 0) b x = true
      · obtain ⟨g1, g2, g3⟩ := of_decide_eq_true (show decide _ = true from g)
        have hi : itm σ b x = true := by unfold itm; exact decide_eq_true ⟨g1, Or.inr ⟨g2, g3⟩⟩
        rw [if_pos g, if_pos hi]
        omega
      · rw [if_neg g]; omega
noncomputable def nb (σ σ' : qS) (B : Nat → Nat) (k : Nat) : Nat := if isdn σ' k ≠ 0 then 0 else if isdn σ k ≠ 0 then itb σ' k else B k
theorem nb_le {σ σ' : qS} {B : Nat → Nat} {k : Nat} (h : isdn σ k ≠ 0 → isdn σ' k ≠ 0) : nb σ σ' B k ≤ B k := by
  unfold nb
  by_cases c : isdn σ' k ≠ 0
  · rw [if_pos c]; omega
  · rw [if_neg c, if_neg (fun e => c (h e))]; exact Nat.le_refl _
theorem HR_1 {σ σ' : qS} (hJ : JI True (-1) σ) (h : HR σ σ') : (∀ k, isdn σ k ≠ 0 → isdn σ' k ≠ 0) ∨ ∃ x, hd6 σ x ∧ xw x 1 = σ 31 0 ∧ xw x 0 = 7 ∧ 0 ≤ xw x 2 ∧ xw x 2 < 38 ∧ isdn σ (xw x 2) ≠ 0 ∧ isdn σ' (xw x 2) = 0 ∧ ∀ k, k ≠ xw x 2 → isdn σ k ≠ 0 → isdn σ' k ≠ 0 := by
  obtain ⟨-, hk, c⟩ := h
  rcases c with ⟨-, -, c⟩ | ⟨i, x, c1, c2, c⟩
  · left
    intro k e
    rw [isdn_k (c _ (by decide)) (c _ (by decide))]; exact e
  · have hx : x ∈ ln σ := List.mem_of_getElem? c2
    rcases c with ⟨-, -, c⟩ | ⟨-, -, c3, c4, -⟩ | ⟨d0, d1, -, -, -, c⟩ | ⟨d0, d1, -, d3, -, c⟩
    · left
      intro k e
      rw [isdn_k (c _ (by decide)) (c _ (by decide))]; exact e
    · left
      intro k e
      rw [isdn_k c3 c4]; exact e
    · left
      have hL := (hJ.2.2.2.2.2.2.2.1 x hx).2 d0
      intro k e
      rcases c with ⟨b1, b2, b3⟩ | ⟨b1, b2, b3⟩
      · unfold isdn at e ⊢
        by_cases ct : k < 38
        · rw [if_pos ct] at e ⊢
          rw [b3]
          by_cases ek : k = xw x 3
          · rw [if_pos ek]
            have hn : xw x 2 ≠ -1 := by
              rcases hL with ⟨-, g⟩ | ⟨-, g⟩
              · rcases g with ⟨g, -⟩ | ⟨-, g⟩ | ⟨g, -⟩ | ⟨g, -⟩
                · omega
                · have := g.1; omega
                · omega
                · omega
              · rcases g with ⟨g, -⟩ | ⟨g, -⟩ | ⟨g, -⟩ <;> omega
            rw [if_neg hn]; decide
          · rw [if_neg ek]; exact e
        · rw [if_neg ct] at e ⊢
          rw [b2]; exact e
      · unfold isdn at e ⊢
        by_cases ct : k < 38
        · rw [if_pos ct] at e ⊢
          rw [b2]; exact e
        · rw [if_neg ct] at e ⊢
          rw [b3]
          by_cases ek : k - 38 = xw x 3 - 38
          · rw [if_pos ek]; decide
          · rw [if_neg ek]; exact e
    · have hL := (hJ.2.2.2.2.2.2.2.1 x hx).2 d0
      have h0 : 0 ≤ xw x 2 := by
        rcases hL with ⟨-, g⟩ | ⟨-, g⟩
        · rcases g with ⟨g, -⟩ | ⟨g, -⟩ | ⟨g, -⟩ | ⟨-, g, -⟩
          · omega
          · omega
          · omega
          · exact g
        · rcases g with ⟨g, -⟩ | ⟨g, -⟩ | ⟨g, -⟩ <;> omega
      rcases c with ⟨b1, b2, b3, -⟩ | ⟨-, b2, -⟩
      · have oth' : ∀ k, k ≠ xw x 2 → isdn σ' k = isdn σ k := fun k ek => by
          unfold isdn
          by_cases ct : k < 38
          · rw [if_pos ct, if_pos ct, b3, if_neg ek]
          · rw [if_neg ct, if_neg ct, d3]
        have z' : isdn σ' (xw x 2) = 0 := by
          unfold isdn
          rw [if_pos b1, b3, if_pos rfl]; rfl
        by_cases z : isdn σ (xw x 2) = 0
        · left
          intro k e
          by_cases ek : k = xw x 2
          · rw [ek] at e; exact absurd z e
          · rw [oth' k ek]; exact e
        · right
          exact ⟨x, ⟨i, c1, c2⟩, d0, d1, h0, b1, z, z', fun k ek e => by rw [oth' k ek]; exact e⟩
      · left
        intro k e
        rw [isdn_k b2 d3]; exact e
theorem hd6_u {σ : qS} {x y : Ms} (h1 : hd6 σ x) (h2 : hd6 σ y) : x = y := by
  obtain ⟨i, a1, a2⟩ := h1
  obtain ⟨j, b1, b2⟩ := h2
  rw [a1] at b1
  have e := Option.some.inj b1
  rw [← e, a2] at b2
  exact Option.some.inj b2
theorem HR_Bn {σ σ' : qS} (hJ : JI True (-1) σ) (hE : ER σ) (h : HR σ σ') (B : Nat → Nat) (hc : ∀ x, hd6 σ x → ¬ clos σ x) : We σ' + 2 * sb (nb σ σ' B) 38 + 2 * (if 1 ≤ cn 6 (ln σ) then 1 else 0) ≤ We σ + 2 * sb B 38 := by
  have w := HR_hd hJ hE h hc
  rcases HR_1 hJ h with g | ⟨x, g1, g2, g3, g4, g5, g6, g7, g8⟩
  · have := sb_le (B := B) (B' := nb σ σ' B) 38 (fun k _ => nb_le (g k))
    omega
  · have l := HR_lk2 h g1 g2 g3 g4 g5 g6 g7
    have ej : ((xw x 2).toNat : Int) = xw x 2 := Int.toNat_of_nonneg g4
    have u := sb_up (B := B) (B' := nb σ σ' B) (j := (xw x 2).toNat) 38 (fun k _ hk => nb_le (g8 k (fun e => hk (by omega))))
    have e1 : nb σ σ' B (xw x 2).toNat = itb σ' (xw x 2) := by
      unfold nb
      rw [ej, if_neg (fun e => e g7), if_pos g6]
    have he : σ' 31 = σ 31 := h.2.1 _ (by decide)
    have r := itm_r (σ := σ) (b := xw x 2) (ln σ')
    have e2 : itb σ' (xw x 2) = (ln σ').countP (isD (σ 31 0) (xw x 2)) + ((ln σ').countP (isG (σ 31 0) (xw x 2)) + bk σ' (xw x 2)) := by unfold itb gk; rw [he]
    have hi : (if 1 ≤ cn 6 (ln σ) then 1 else 0) ≤ 1 := by split <;> omega
    omega
theorem HR_Bc {σ σ' : qS} (hJ : JI True (-1) σ) (h : HR σ σ') (B : Nat → Nat) {x : Ms} (hx : hd6 σ x) (he' : xw x 1 = σ 31 0) (hc : clos σ x) {j : Nat} (ej : xw x 3 = j) (hj : j < 38) : We σ' + 2 * sb (nb σ σ' B) 38 + 2 * B j ≤ We σ + 2 * sb B 38 + 2 * itb σ' j := by
  have c := HR_cl2 h hx he' hc
  rw [ej] at c
  have g : ∀ k, isdn σ k ≠ 0 → isdn σ' k ≠ 0 := by
    rcases HR_1 hJ h with g | ⟨y, g1, -, g3, -⟩
    · exact g
    · exfalso
      rw [hd6_u g1 hx] at g3
      have := hc.1; omega
  have dj : isdn σ' j ≠ 0 := by
    obtain ⟨-, -, q⟩ := h
    obtain ⟨i0, b1, b2⟩ := hx
    rcases q with ⟨q1, -⟩ | ⟨i, y, q1, q2, q⟩
    · rw [q1] at b1; cases b1
    · rw [q1] at b1
      have e := Option.some.inj b1
      subst e
      rw [q2] at b2
      have e := Option.some.inj b2
      subst e
      have hy : y ∈ ln σ := List.mem_of_getElem? q2
      have hL := (hJ.2.2.2.2.2.2.2.1 y hy).2 he'
      have t3 := hc.1
      rcases q with ⟨d0, -⟩ | ⟨-, d1, -⟩ | ⟨d0, d1, -, -, -, d3⟩ | ⟨-, d1, -⟩
      · exact absurd he' d0
      · omega
      · rcases d3 with ⟨f1, f2, f3⟩ | ⟨f1, -⟩
        · have hn : xw y 2 ≠ -1 := by
            rcases hL with ⟨-, g⟩ | ⟨-, g⟩
            · rcases g with ⟨g, -⟩ | ⟨-, g⟩ | ⟨g, -⟩ | ⟨g, -⟩
              · omega
              · have := g.1; omega
              · omega
              · omega
            · rcases g with ⟨g, -⟩ | ⟨g, -⟩ | ⟨g, -⟩ <;> omega
          unfold isdn
          rw [if_pos (by omega), f3, if_pos ej.symm, if_neg hn]; decide
        · omega
      · omega
  have z : nb σ σ' B j = 0 := by unfold nb; rw [if_pos dj]
  have d := sb_dn (B := B) (B' := nb σ σ' B) (j := j) z 38 hj (fun k _ _ => nb_le (g k))
  omega

