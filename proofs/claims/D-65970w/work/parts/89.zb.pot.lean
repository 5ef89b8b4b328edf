def isK (x : Ms) : Bool := xw x 0 == 1
def ka (σ : qS) : Nat := (mq (ln σ)).countP isK
def fr (σ : qS) (v : Int) : Nat := if σ 62 v = -1 ∧ σ 65 v = 0 then 1 else 0
def frs (σ : qS) : Nat := fr σ 0 + fr σ 1 + fr σ 2 + fr σ 3 + fr σ 4 + fr σ 5
def Vp (σ : qS) : Nat := 2 * ka σ + frs σ
theorem fr_1 (σ : qS) (v : Int) : fr σ v ≤ 1 := by unfold fr; split <;> omega
theorem fr_i {σ : qS} {v : Int} (h : idl σ v 0) : fr σ v = 1 := by unfold fr; exact if_pos h
theorem fr_z {σ : qS} {v : Int} (h : ¬ idl σ v 0) : fr σ v = 0 := by unfold fr; exact if_neg h
theorem fr_k {σ σ' : qS} {v : Int} (h1 : σ' 62 v = σ 62 v) (h2 : σ' 65 v = σ 65 v) : fr σ' v = fr σ v := by unfold fr; rw [h1, h2]
theorem frs_o {σ σ' : qS} {w : Int} (hw : 0 ≤ w ∧ w < 6) (ho : oth w σ σ') : frs σ' + fr σ w = frs σ + fr σ' w := by
  have e : ∀ v, v ≠ w → fr σ' v = fr σ v := fun v hv => fr_k (ho.1 v hv 62 (by decide)) (ho.1 v hv 65 (by decide))
  have hc : w = 0 ∨ w = 1 ∨ w = 2 ∨ w = 3 ∨ w = 4 ∨ w = 5 := by omega
  unfold frs
  rcases hc with rfl | rfl | rfl | rfl | rfl | rfl
  · rw [e 1 (by decide), e 2 (by decide), e 3 (by decide), e 4 (by decide), e 5 (by decide)]; omega
  · rw [e 0 (by decide), e 2 (by decide), e 3 (by decide), e 4 (by decide), e 5 (by decide)]; omega
  · rw [e 0 (by decide), e 1 (by decide), e 3 (by decide), e 4 (by decide), e 5 (by decide)]; omega
  · rw [e 0 (by decide), e 1 (by decide), e 2 (by decide), e 4 (by decide), e 5 (by decide)]; omega
  · rw [e 0 (by decide), e 1 (by decide), e 2 (by decide), e 3 (by decide), e 5 (by decide)]; omega
  · rw [e 0 (by decide), e 1 (by decide), e 2 (by decide), e 3 (by decide), e 4 (by decide)]; omega
theorem frs_6 (σ : qS) : frs σ ≤ 6 := by
  have h0 := fr_1 σ 0
  have h1 := fr_1 σ 1
  have h2 := fr_1 σ 2
  have h3 := fr_1 σ 3
  have h4 := fr_1 σ 4
  have h5 := fr_1 σ 5
  unfold frs; omega
theorem Vp_b {σ : qS} (hl : (ln σ).length ≤ 95) : Vp σ ≤ 196 := by
  have h1 := frs_6 σ
  have h2 : ka σ ≤ (mq (ln σ)).length := List.countP_le_length
  have h3 : (mq (ln σ)).length ≤ (ln σ).length := List.length_filter_le _ _
  unfold Vp; omega
theorem isK_t {x : Ms} (h : xw x 0 = 1) : isK x = true := by unfold isK; rw [h]; rfl
theorem isK_f {x : Ms} (h : xw x 0 ≠ 1) : isK x = false := by unfold isK; exact beq_eq_false_iff_ne.mpr h
theorem ka_tl (L : List Ms) : (mq (tl95 L)).countP isK ≤ (mq L).countP isK := by
  rcases mq_tl L with e | ⟨-, e⟩
  · rw [e]; exact Nat.le_refl _
  · rw [e]; exact (List.drop_sublist 1 _).countP_le
def PT (w : Int) (σ σ' : qS) : Prop :=
  (idl σ w 0 ∧ idl σ' w 1 ∧ ∃ (x : Ms) (d : Nat), x.1 = 6 ∧ isK x = true ∧ d ≤ 1 ∧ mq (ln σ') = (mq (ln σ)).drop d ++ [x]) ∨
  (¬ idl σ w 0 ∧ idl σ' w 0 ∧ ((σ 62 w = -1 ∧ σ 65 w = 5) ∨ ((∃ k, 0 ≤ k ∧ k < spl σ' ∧ σ' 33 k = -1) ∧ ∃ x ∈ ln σ, xw x 0 = 2 ∧ 38 ≤ xw x 2) ∨ (0 ≤ σ 62 w) ∨ ∃ x : Ms, x.1 = 6 ∧ isK x = false ∧ mq (ln σ') = mq (ln σ) ++ [x]))
theorem Vp_wk {w : Int} {σ σ' : qS} (hJ : JI False (-1) σ) (hw : 0 ≤ w ∧ w < 6) (hl : (ln σ).length ≤ 95) (ha : AW σ w) (h : WTK w σ σ') (hk : ¬ LKs σ' w) (ht : σ 62 w = -1 ∨ 0 ≤ σ 62 w) : Vp σ' ≤ Vp σ + 1 ∧ (Vp σ' = Vp σ + 1 → PT w σ σ') := by
  have ho := frs_o hw (WTK_o h).1
  obtain ⟨L, m1, m2, c⟩ := WTK_q hJ hw hl h
  have kd : (mq (tl95 L)).countP isK ≤ ka σ := by unfold ka; rw [← m1]; exact ka_tl L
  rcases c with ⟨a1, a2, x, x1, x2, a3⟩ | ⟨a0, a1, a2, a3⟩ | ⟨a1, a2, x, x1, x2, a3⟩ | ⟨a1, a2, a3⟩ | ⟨a1, a2⟩
  · have e1 : ka σ' = (mq (tl95 L)).countP isK + 1 := by
      unfold ka
      rw [a3, mq_app, mq_1 x1, List.countP_append, List.countP_cons, if_pos (isK_t x2), List.countP_nil]
    rw [fr_i a1] at ho
    have f0 : fr σ' w = 0 := fr_z (fun e => by have := a2.2; have := e.2; omega)
    rw [f0] at ho
    refine ⟨by unfold Vp; omega, fun _ => Or.inl ⟨a1, a2, x, ?_⟩⟩
    rcases mq_tl L with e | ⟨-, e⟩
    · exact ⟨0, x1, isK_t x2, by omega, by rw [a3, mq_app, mq_1 x1, e, m1]; rfl⟩
    · exact ⟨1, x1, isK_t x2, by omega, by rw [a3, mq_app, mq_1 x1, e, m1]⟩
  · have e1 : ka σ' = ka σ := by unfold ka; rw [a3, m1]
    have f0 : fr σ w = 0 := fr_z (fun e => a1 e.2)
    rw [f0] at ho
    have := fr_1 σ' w
    refine ⟨by unfold Vp; omega, fun e => Or.inr ⟨fun e => a1 e.2, ?_, Or.inl ⟨a0, ?_⟩⟩⟩
    · by_cases c5 : σ 65 w = 5
      · rw [if_pos c5] at a2; exact a2
      · exfalso
        rw [if_neg c5] at a2
        have hW := hJ.2.2.2.2.2.2.2.2.1 w hw.1 hw.2 (by omega) ha.1
        have ag : 0 ≤ σ 65 w := by
          rcases hW with ⟨-, g, -⟩ | ⟨g, -⟩
          · exact g.1
          · omega
        have : fr σ' w = 0 := fr_z (fun e => by have := a2.2; have := e.2; omega)
        unfold Vp at e; omega
    · by_cases c5 : σ 65 w = 5
      · exact c5
      · exfalso
        rw [if_neg c5] at a2
        have hW := hJ.2.2.2.2.2.2.2.2.1 w hw.1 hw.2 (by omega) ha.1
        have ag : 0 ≤ σ 65 w := by
          rcases hW with ⟨-, g, -⟩ | ⟨g, -⟩
          · exact g.1
          · omega
        have : fr σ' w = 0 := fr_z (fun e => by have := a2.2; have := e.2; omega)
        unfold Vp at e; omega
  · have e1 : ka σ' = (mq (tl95 L)).countP isK := by
      unfold ka
      rw [a3, mq_app, mq_1 x1, List.countP_append, List.countP_cons, isK_f (by omega), List.countP_nil]
      simp
    rw [fr_i a1] at ho
    refine ⟨by unfold Vp; omega, fun e => Or.inr ⟨fun e' => ?_, a1, ?_⟩⟩
    · rw [fr_i e'] at ho; unfold Vp at e; omega
    · rcases ht with ht | ht
      · refine Or.inr (Or.inr (Or.inr ⟨x, x1, isK_f (by omega), ?_⟩))
        have := a2 ht
        rw [a3, mq_app, mq_1 x1, tl_z (by omega), m1]
      · exact Or.inr (Or.inr (Or.inl ht))
  · have e1 : ka σ' = ka σ := by unfold ka; rw [a2, m1]
    rw [fr_i a1] at ho
    refine ⟨by unfold Vp; omega, fun e => Or.inr ⟨fun e' => ?_, a1, ?_⟩⟩
    · rw [fr_i e'] at ho; unfold Vp at e; omega
    · rcases a3.2 with e | e
      · exact Or.inr (Or.inr (Or.inl (by omega)))
      · exact Or.inr (Or.inl ⟨a3.1, e⟩)
  · have e1 : ka σ' ≤ ka σ := by
      rcases a2 with a2 | ⟨x, x1, a2⟩ | a2
      · unfold ka; rw [a2, m1]; exact Nat.le_refl _
      · have : ka σ' = (mq (tl95 L)).countP isK := by unfold ka; rw [a2, mq_app, mq_0 x1, List.append_nil]
        omega
      · exact absurd a2 hk
    have f0 : fr σ' w = 0 := fr_z (fun e => by have := e.1; omega)
    rw [f0] at ho
    exact ⟨by unfold Vp; omega, fun e => by unfold Vp at e; omega⟩

