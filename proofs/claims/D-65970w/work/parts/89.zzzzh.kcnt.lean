theorem cov8 {α : Type} (p0 p1 p2 p3 p4 p5 p6 p7 : α → Bool) : ∀ l : List α, (∀ x ∈ l, p0 x = true ∨ p1 x = true ∨ p2 x = true ∨ p3 x = true ∨ p4 x = true ∨ p5 x = true ∨ p6 x = true ∨ p7 x = true) → l.length ≤ l.countP p0 + l.countP p1 + l.countP p2 + l.countP p3 + l.countP p4 + l.countP p5 + l.countP p6 + l.countP p7
  | [], _ => by simp
  | a :: l, h => by
    have ih := cov8 p0 p1 p2 p3 p4 p5 p6 p7 l (fun x hx => h x (List.mem_cons_of_mem a hx))
    have c := h a List.mem_cons_self
    simp only [List.countP_cons, List.length_cons]
    rcases c with c | c | c | c | c | c | c | c <;> rw [if_pos c] <;> omega
def tkc (v : Int) (A : List (Ms × Nat × Nat)) : Nat := A.countP (fun z => decide (tokb z = true ∧ asr z.1 = v))
def gvc (A : List (Ms × Nat × Nat)) : Nat := A.countP (fun z => decide (xw z.1 0 = 2))
def mqc (A : List (Ms × Nat × Nat)) : Nat := A.countP (fun z => decide (z.1.1 = 6))
theorem KCNT {L s0 : Nat} {τ : Nat → qS} (hR : RNN L τ) {A : Nat → List (Ms × Nat × Nat)} (h : ANR L s0 τ A) {y : Nat} (h0 : s0 ≤ y) (h1 : 224 ≤ y) (h2 : y ≤ 7 * L) : (ln (τ y)).length ≤ mqc (A y) + gvc (A y) + tkc 0 (A y) + tkc 1 (A y) + tkc 2 (A y) + tkc 3 (A y) + tkc 4 (A y) + tkc 5 (A y) := by
  have e := h.2.1 y h0 h2
  rw [← e, pr_len]
  have gs := hR.1 y h2
  have er := run_ER hR h1 h2
  refine cov8 _ _ _ _ _ _ _ _ (A y) (fun z hz => ?_)
  have mz : z.1 ∈ ln (τ y) := by rw [← e]; exact List.mem_map_of_mem hz
  have lk : LOK False (τ y) z.1 := gs.1.2.2.2.2.2.2.2.1 z.1 mz
  have ee : xw z.1 1 = τ y 31 0 := er z.1 mz
  have tok : (xw z.1 0 = 5 ∨ xw z.1 0 = 6) → 0 ≤ asr z.1 → asr z.1 < 6 → (decide (tokb z = true ∧ asr z.1 = 0)) = true ∨ (decide (tokb z = true ∧ asr z.1 = 1)) = true ∨ (decide (tokb z = true ∧ asr z.1 = 2)) = true ∨ (decide (tokb z = true ∧ asr z.1 = 3)) = true ∨ (decide (tokb z = true ∧ asr z.1 = 4)) = true ∨ (decide (tokb z = true ∧ asr z.1 = 5)) = true := fun k a b => by
    have tk := (tokb_i z).mpr k
    rcases (by omega : asr z.1 = 0 ∨ asr z.1 = 1 ∨ asr z.1 = 2 ∨ asr z.1 = 3 ∨ asr z.1 = 4 ∨ asr z.1 = 5) with q | q | q | q | q | q
    · exact Or.inl (decide_eq_true ⟨tk, q⟩)
    · exact Or.inr (Or.inl (decide_eq_true ⟨tk, q⟩))
    · exact Or.inr (Or.inr (Or.inl (decide_eq_true ⟨tk, q⟩)))
    · exact Or.inr (Or.inr (Or.inr (Or.inl (decide_eq_true ⟨tk, q⟩))))
    · exact Or.inr (Or.inr (Or.inr (Or.inr (Or.inl (decide_eq_true ⟨tk, q⟩)))))
    · exact Or.inr (Or.inr (Or.inr (Or.inr (Or.inr (decide_eq_true ⟨tk, q⟩)))))
  rcases lk.2 ee with ⟨k, -⟩ | ⟨⟨k1, k2⟩, k⟩
  · exact Or.inl (decide_eq_true k)
  · right
    rcases k with ⟨k, -⟩ | ⟨k, f⟩ | ⟨k, -⟩
    · exact Or.inl (decide_eq_true k)
    · right
      have ea : asr z.1 = xw z.1 5 := by unfold asr; exact if_pos k
      have fb := f.2.2.2
      exact tok (Or.inl k) (by omega) (by omega)
    · right
      have ea : asr z.1 = z.1.1 := by unfold asr; exact if_neg (by omega)
      exact tok (Or.inr k) (by omega) (by omega)

