def t12 (x : Ms) : Bool := xw x 0 == 1 || xw x 0 == 2
def qAG (σ : qS) : Nat := (ln σ).countP t12
theorem t12_f {x : Ms} (h1 : xw x 0 ≠ 1) (h2 : xw x 0 ≠ 2) : t12 x = false := by
  unfold t12
  rw [beq_eq_false_iff_ne.mpr h1, beq_eq_false_iff_ne.mpr h2]; rfl
theorem RD_q12 {w : Int} {σ σ' : qS} (h : RD w σ σ') : qAG σ' ≤ qAG σ ∧ (σ 62 w = -1 → σ' 62 w ≠ -1 → qAG σ' + 1 ≤ qAG σ) := by
  obtain ⟨-, -, -, c⟩ := h
  unfold qAG
  rcases c with ⟨-, c2, c3⟩ | ⟨i, x, -, c2, c⟩
  · rw [c2]; exact ⟨Nat.le_refl _, fun a b => absurd (c3.1.trans a) b⟩
  · have p := cp_er t12 (ln σ) i x c2
    rcases c with ⟨-, d1, d2⟩ | ⟨-, d1, d2, d3⟩ | ⟨-, d1, d2, a, kv', d3⟩ | ⟨-, d1, d2, d3⟩
    · rw [d1]; exact ⟨by omega, fun a b => absurd (d2.1.trans a) b⟩
    · rw [if_pos (by unfold t12; rw [d1]; rfl)] at p
      rw [d2]; exact ⟨by omega, fun _ _ => by omega⟩
    · rw [d3, List.countP_append]
      have e := cp_tl t12 ((ln σ).eraseIdx i)
      have q : [((xw x 5, [6, σ 31 0, xw x 2, xw x 4, a, xw x 3], kv') : Ms)].countP t12 = 0 := rfl
      rw [q]
      exact ⟨by omega, fun a b => absurd (d2.1.trans a) b⟩
    · rw [d2]
      refine ⟨by omega, fun a b => ?_⟩
      rcases d3 with ⟨-, d3⟩ | ⟨-, d3, -⟩
      · exact absurd (d3.1.trans a) b
      · exact absurd (d3.trans a) b
theorem TL_12 {to ty a b c d : Int} {σ σ' : qS} (h : TL to ty a b c d σ σ') (h1 : ty ≠ 1) (h2 : ty ≠ 2) : qAG σ' ≤ qAG σ := by
  obtain ⟨kv, e⟩ := h
  unfold qAG
  rw [e, List.countP_append, List.countP_cons, List.countP_nil, t12_f (x := ((to, [ty, σ 31 0, a, b, c, d], kv) : Ms)) h1 h2]
  have := cp_tl t12 (ln σ)
  simp
  omega
theorem ACT_q12 {w : Int} {σ σ' : qS} (h : ACT w σ σ') : qAG σ' ≤ qAG σ ∨ (qAG σ' ≤ qAG σ + 1 ∧ AK w σ') := by
  obtain ⟨-, -, -, c⟩ := h
  have nl : ln σ' = ln σ → qAG σ' ≤ qAG σ := fun e => by unfold qAG; rw [e]; exact Nat.le_refl _
  rcases c with ⟨-, -, c0, c1, c⟩ | ⟨-, c⟩ | ⟨-, c⟩
  · rcases c with ⟨a0, c⟩ | ⟨-, c⟩
    · right
      obtain ⟨kv, e⟩ := c
      refine ⟨?_, c0, by rw [c1, a0]; rfl⟩
      unfold qAG
      rw [e, List.countP_append]
      have := cp_tl t12 (ln σ)
      have q : [((6, [1, σ 31 0, w, 0, 0, 0], kv) : Ms)].countP t12 ≤ 1 := List.countP_le_length
      omega
    · exact Or.inl (nl c)
  · left
    rcases c with ⟨-, -, -, a', c⟩ | ⟨-, -, -, ⟨a', c⟩, -⟩ | ⟨-, -, -, c⟩ | ⟨-, -, -, -, -, c⟩
    · exact TL_12 c (by decide) (by decide)
    · exact TL_12 c (by decide) (by decide)
    · exact TL_12 c (by decide) (by decide)
    · exact nl c
  · left
    rcases c with ⟨-, -, -, c⟩ | ⟨-, -, -, -, -, c⟩ | ⟨-, -, -, -, -, c, -⟩ | ⟨-, -, -, -, -, -, -, -, -, c⟩ | ⟨-, -, -, -, c⟩
    · exact TL_12 c (by decide) (by decide)
    · exact nl c
    · exact nl c
    · rcases c with ⟨-, -, c⟩ | ⟨-, -, kv, kv', c⟩
      · exact TL_12 c (by decide) (by decide)
      · unfold qAG
        rw [c, List.countP_append]
        have e1 := cp_tl t12 (tl95 (ln σ) ++ [((σ 33 (σ 64 w), [5, σ 31 0, σ 64 w, σ 62 w - 38, ps σ w, w], kv) : Ms)])
        rw [List.countP_append] at e1
        have e2 := cp_tl t12 (ln σ)
        have q1 : [((σ 33 (σ 64 w), [5, σ 31 0, σ 64 w, σ 62 w - 38, ps σ w, w], kv) : Ms)].countP t12 = 0 := rfl
        have q2 : [((6, [7, σ 31 0, σ 64 w, σ 33 (σ 64 w), 0, 0], kv') : Ms)].countP t12 = 0 := rfl
        omega
    · rcases c with ⟨-, -, c⟩ | ⟨-, c⟩
      · exact TL_12 c (by decide) (by decide)
      · exact TL_12 c (by decide) (by decide)
theorem HR_q12 {σ σ' : qS} (h : HR σ σ') : qAG σ' ≤ qAG σ := by
  obtain ⟨-, -, c⟩ := h
  unfold qAG
  have er : ∀ i, ln σ' = (ln σ).eraseIdx i → (ln σ').countP t12 ≤ (ln σ).countP t12 := fun i e => by
    rw [e]; exact (List.eraseIdx_sublist _ i).countP_le
  rcases c with ⟨-, c, -⟩ | ⟨i, x, -, c2, c⟩
  · rw [c]; exact Nat.le_refl _
  · rcases c with ⟨-, c, -⟩ | ⟨-, k1, -, -, fi, en, -, c⟩ | ⟨-, -, c, -⟩ | ⟨-, -, c, -⟩
    · exact er i c
    · rcases c with ⟨c, -⟩ | ⟨u, -, -, -, -, -, kv, c⟩
      · exact er i c
      · have p := cp_er t12 (ln σ) i x c2
        rw [if_pos (by unfold t12; rw [k1]; rfl)] at p
        rw [c, List.countP_append]
        have e := cp_tl t12 ((ln σ).eraseIdx i)
        have q : [((xw x 2, [2, σ 31 0, u, 0, 0, 0], kv) : Ms)].countP t12 ≤ 1 := List.countP_le_length
        omega
    · exact er i c
    · exact er i c
def ASKt (τ : Nat → qS) (t : Nat) : Prop := t % 7 < 6 ∧ AK ((t % 7 : Nat) : Int) (τ (t + 1))
theorem q12_t {L : Nat} {τ : Nat → qS} (hR : RNN L τ) {t : Nat} (h2 : t < 7 * L) : qAG (τ (t + 1)) + gsq τ t ≤ qAG (τ t) + @ite Nat (ASKt τ t) (Classical.propDecidable _) 1 0 := by
  rcases hR.2 t h2 with ⟨h6, s⟩ | ⟨e6, σ1, σ2, r1, r2, r3, -⟩
  · obtain ⟨σ1, σ2, σ3, r1, r2, r3, a, -⟩ := s
    have a1 := RD_q12 r1
    have a2 := RD_q12 r2
    have a3 := RD_q12 r3
    by_cases g : gsq τ t = 1
    · have gs : gq τ t = 1 ∧ τ t 62 ((t % 7 : Nat) : Int) = -1 := by
        apply Classical.byContradiction
        intro n
        unfold gsq at g
        rw [if_neg n] at g
        omega
      have f := gs.1
      unfold gq at f
      rw [if_pos (by omega)] at f
      have f38 := (fe_r f).1
      have nak : ¬ AK ((t % 7 : Nat) : Int) (τ (t + 1)) := fun q => by have := q.1; omega
      have n3 : σ3 62 ((t % 7 : Nat) : Int) ≠ -1 := fun e => by
        obtain ⟨-, -, -, c⟩ := a
        rcases c with ⟨-, -, c, -⟩ | ⟨c, -⟩ | ⟨c, -⟩ <;> omega
      have key : qAG σ3 + 1 ≤ qAG (τ t) := by
        by_cases c1 : σ1 62 ((t % 7 : Nat) : Int) = -1
        · by_cases c2 : σ2 62 ((t % 7 : Nat) : Int) = -1
          · have := a3.2 c2 n3; omega
          · have := a2.2 c1 c2; omega
        · have := a1.2 gs.2 c1; omega
      rcases ACT_q12 a with q | ⟨-, q⟩
      · split <;> omega
      · exact absurd q nak
    · have g0 : gsq τ t = 0 := by
        unfold gsq at g ⊢
        split
        · rename_i c; rw [if_pos c] at g; omega
        · rfl
      rcases ACT_q12 a with q | ⟨q, k⟩
      · split <;> omega
      · rw [if_pos (show ASKt τ t from ⟨by omega, k⟩)]
        omega
  · have x5 : qAG (clk (τ t)) = qAG (τ t) := by unfold qAG; rw [l_clk]
    have a1 := HR_q12 r1
    have a2 := HR_q12 r2
    have a3 := HR_q12 r3
    have g0 : gsq τ t = 0 := (q_6 τ (by omega)).2.1
    split <;> omega
theorem GRA {L : Nat} {τ : Nat → qS} (hR : RNN L τ) {s : Nat} : ∀ k, s + k ≤ 7 * L → qAG (τ (s + k)) + smq (gsq τ) s k ≤ qAG (τ s) + ctq (ASKt τ) s k
  | 0, _ => by simp [smq, ctq]
  | k + 1, hl => by
    have ih := GRA hR k (s := s) (by omega)
    have b := q12_t hR (t := s + k) (by omega)
    rw [show s + (k + 1) = s + k + 1 by omega]
    simp only [ctq, smq]
    omega

