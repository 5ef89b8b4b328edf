theorem cp_er (p : Ms → Bool) : ∀ (L : List Ms) (i : Nat) (x : Ms), L[i]? = some x → (L.eraseIdx i).countP p + (if p x = true then 1 else 0) = L.countP p
  | [], _, _, h => by simp at h
  | a :: L, 0, x, h => by
    have e : a = x := by simpa using h
    subst e
    rw [List.eraseIdx_zero, List.tail_cons, List.countP_cons]
  | a :: L, i + 1, x, h => by
    have := cp_er p L i x (by simpa using h)
    rw [List.eraseIdx_cons_succ, List.countP_cons, List.countP_cons]
    omega
theorem cp_tl (p : Ms → Bool) (L : List Ms) : (tl95 L).countP p ≤ L.countP p := by
  unfold tl95
  split
  · exact (List.eraseIdx_sublist L 0).countP_le
  · exact Nat.le_refl _
def isG (e k : Int) (x : Ms) : Bool := decide (xw x 1 = e ∧ xw x 0 = 2 ∧ xw x 2 = k)
def isD (e k : Int) (x : Ms) : Bool := decide (xw x 1 = e ∧ xw x 0 = 3 ∧ xw x 3 = k)
def isA (e v : Int) (x : Ms) : Bool := decide (xw x 1 = e ∧ xw x 0 = 1 ∧ xw x 2 = v)
def b1 (σ : qS) (k v : Int) : Nat := if σ 62 v = k then 1 else 0
def bk (σ : qS) (k : Int) : Nat := b1 σ k 0 + b1 σ k 1 + b1 σ k 2 + b1 σ k 3 + b1 σ k 4 + b1 σ k 5
def gk (σ : qS) (k : Int) : Nat := (ln σ).countP (isG (σ 31 0) k)
theorem bk_o {σ σ' : qS} {w k : Int} (hw : 0 ≤ w ∧ w < 6) (ho : oth w σ σ') : bk σ' k + b1 σ k w = bk σ k + b1 σ' k w := by
  have e : ∀ v, v ≠ w → b1 σ' k v = b1 σ k v := fun v hv => by unfold b1; rw [ho.1 v hv 62 (by decide)]
  have hc : w = 0 ∨ w = 1 ∨ w = 2 ∨ w = 3 ∨ w = 4 ∨ w = 5 := by omega
  unfold bk
  rcases hc with rfl | rfl | rfl | rfl | rfl | rfl
  · rw [e 1 (by decide), e 2 (by decide), e 3 (by decide), e 4 (by decide), e 5 (by decide)]; omega
  · rw [e 0 (by decide), e 2 (by decide), e 3 (by decide), e 4 (by decide), e 5 (by decide)]; omega
  · rw [e 0 (by decide), e 1 (by decide), e 3 (by decide), e 4 (by decide), e 5 (by decide)]; omega
  · rw [e 0 (by decide), e 1 (by decide), e 2 (by decide), e 4 (by decide), e 5 (by decide)]; omega
  · rw [e 0 (by decide), e 1 (by decide), e 2 (by decide), e 3 (by decide), e 5 (by decide)]; omega
  · rw [e 0 (by decide), e 1 (by decide), e 2 (by decide), e 3 (by decide), e 4 (by decide)]; omega
theorem RD_c {w : Int} {σ σ' : qS} (hw : 0 ≤ w ∧ w < 6) (h : RD w σ σ') : ∃ s, rdop w (ln σ) (ln σ') s ∧ (∀ x ∈ s, xw x 0 = 6) ∧ ∀ k, 0 ≤ k → gk σ' k + bk σ' k ≤ gk σ k + bk σ k := by
  obtain ⟨-, ho, hk, c⟩ := h
  have he : σ' 31 = σ 31 := hk _ (by decide)
  have sm : same w σ σ' → ∀ k, bk σ' k = bk σ k := fun s k => by
    have := bk_o (k := k) hw ho
    have e : b1 σ' k w = b1 σ k w := by unfold b1; rw [s.1]
    omega
  rcases c with ⟨c1, c2, c3⟩ | ⟨i, x, c1, c2, c⟩
  · refine ⟨[], Or.inl ⟨c1, c2, rfl⟩, fun x hx => absurd hx (by simp), fun k _ => ?_⟩
    rw [sm c3]; unfold gk; rw [c2, he]; exact Nat.le_refl _
  · have er : ∀ k, ln σ' = (ln σ).eraseIdx i → gk σ' k + (if isG (σ 31 0) k x = true then 1 else 0) = gk σ k := fun k e => by
      unfold gk; rw [e, he]; exact cp_er _ _ i x c2
    rcases c with ⟨-, d1, d2⟩ | ⟨d0, d1, d2, d3⟩ | ⟨d0, d1, d2, a, kv, d3⟩ | ⟨-, -, d1, d2⟩
    · refine ⟨[], Or.inr ⟨i, c1, Or.inl ⟨d1, rfl⟩⟩, fun x hx => absurd hx (by simp), fun k _ => ?_⟩
      have := er k d1
      rw [sm d2]; omega
    · refine ⟨[], Or.inr ⟨i, c1, Or.inl ⟨d2, rfl⟩⟩, fun x hx => absurd hx (by simp), fun k hk0 => ?_⟩
      have h1 := er k d2
      rcases d3 with ⟨t0, t1, -⟩ | ⟨-, d3⟩
      · have h2 := bk_o (k := k) hw ho
        have h3 : b1 σ' k w = if isG (σ 31 0) k x = true then 1 else 0 := by
          unfold b1 isG
          rw [t1]
          by_cases e : xw x 2 = k
          · rw [if_pos e, if_pos (decide_eq_true ⟨d0, d1, e⟩)]
          · rw [if_neg e, if_neg (fun z => e (of_decide_eq_true z).2.2)]
        omega
      · rw [sm d3]; omega
    · refine ⟨_, Or.inr ⟨i, c1, Or.inr ⟨_, d3, rfl⟩⟩, fun y hy => ?_, fun k _ => ?_⟩
      · rw [List.mem_singleton.mp hy]; rfl
      · rw [sm d2]
        have h1 := cp_er (isG (σ 31 0) k) (ln σ) i x c2
        have h2 := cp_tl (isG (σ 31 0) k) ((ln σ).eraseIdx i)
        have h3 : isG (σ 31 0) k ((xw x 5, [6, σ 31 0, xw x 2, xw x 4, a, xw x 3], kv) : Ms) = false := by
          unfold isG
          refine decide_eq_false (fun e => ?_)
          exact absurd e.2.1 (show ¬ (6 : Int) = 2 by decide)
        unfold gk
        rw [d3, he, List.countP_append, List.countP_cons, h3, List.countP_nil]
        simp only [Bool.false_eq_true, if_false]
        omega
    · refine ⟨[], Or.inr ⟨i, c1, Or.inl ⟨d1, rfl⟩⟩, fun x hx => absurd hx (by simp), fun k _ => ?_⟩
      have h1 := er k d1
      rcases d2 with ⟨-, d2⟩ | ⟨-, d2, -⟩
      · rw [sm d2]; omega
      · have h2 := bk_o (k := k) hw ho
        have h3 : b1 σ' k w = b1 σ k w := by unfold b1; rw [d2]
        omega

