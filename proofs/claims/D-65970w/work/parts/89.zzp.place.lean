def eF (e v p s q : Int) (x : Ms) : Bool := decide (xw x 1 = e ∧ xw x 0 = 5 ∧ xw x 5 = v ∧ xw x 3 = p ∧ xw x 2 = s ∧ xw x 4 = q)
def eP (e v p s q : Int) (x : Ms) : Bool := decide (xw x 1 = e ∧ xw x 0 = 6 ∧ x.1 = v ∧ xw x 5 = p ∧ xw x 2 = s ∧ xw x 3 = q)
def eL (e v p s q : Int) (L : List Ms) : Nat := L.countP (eF e v p s q) + L.countP (eP e v p s q)
def ke (σ : qS) (v p s q : Int) : Nat := eL (σ 31 0) v p s q (ln σ)
theorem eL_app (e v p s q : Int) (A B : List Ms) : eL e v p s q (A ++ B) = eL e v p s q A + eL e v p s q B := by unfold eL; rw [List.countP_append, List.countP_append]; omega
theorem eL_tl (e v p s q : Int) (L : List Ms) : eL e v p s q (tl95 L) ≤ eL e v p s q L := by
  have h1 := cp_tl (eF e v p s q) L
  have h2 := cp_tl (eP e v p s q) L
  unfold eL; omega
theorem eL_er (e v p s q : Int) (L : List Ms) (i : Nat) (x : Ms) (h : L[i]? = some x) : eL e v p s q (L.eraseIdx i) + ((if eF e v p s q x = true then 1 else 0) + (if eP e v p s q x = true then 1 else 0)) = eL e v p s q L := by
  have h1 := cp_er (eF e v p s q) L i x h
  have h2 := cp_er (eP e v p s q) L i x h
  unfold eL; omega
theorem eL_1 (e v p s q : Int) (x : Ms) : eL e v p s q [x] = (if eF e v p s q x = true then 1 else 0) + (if eP e v p s q x = true then 1 else 0) := by
  unfold eL; rw [List.countP_cons, List.countP_cons, List.countP_nil, List.countP_nil]; omega
theorem eF_f {e v p s q : Int} {x : Ms} (h : xw x 0 ≠ 5) : eF e v p s q x = false := by unfold eF; exact decide_eq_false (fun z => h z.2.1)
theorem eP_f {e v p s q : Int} {x : Ms} (h : xw x 0 ≠ 6) : eP e v p s q x = false := by unfold eP; exact decide_eq_false (fun z => h z.2.1)
theorem eL_0 {e v p s q : Int} {x : Ms} (h1 : xw x 0 ≠ 5) (h2 : xw x 0 ≠ 6) : eL e v p s q [x] = 0 := by rw [eL_1, eF_f h1, eP_f h2]; rfl
theorem RD_ke {w : Int} {σ σ' : qS} (h : RD w σ σ') (v p s q : Int) : ke σ' v p s q ≤ ke σ v p s q := by
  obtain ⟨-, -, hk, c⟩ := h
  have he : σ' 31 = σ 31 := hk _ (by decide)
  rcases c with ⟨-, c2, c3⟩ | ⟨i, x, c1, c2, c⟩
  · unfold ke; rw [c2, he]; exact Nat.le_refl _
  · have er : ln σ' = (ln σ).eraseIdx i → ke σ' v p s q ≤ ke σ v p s q := fun e => by
      have := eL_er (σ 31 0) v p s q _ i x c2
      unfold ke; rw [e, he]; omega
    rcases c with ⟨-, d1, d2⟩ | ⟨-, -, d2, d3⟩ | ⟨d0, d1, d2, a, kv', d3⟩ | ⟨d0, d6, d1, d2⟩
    · exact er d1
    · exact er d2
    · have h1 := eL_er (σ 31 0) v p s q _ i x c2
      have h2 := eL_tl (σ 31 0) v p s q ((ln σ).eraseIdx i)
      have h3 : eL (σ 31 0) v p s q [((xw x 5, [6, σ 31 0, xw x 2, xw x 4, a, xw x 3], kv') : Ms)] ≤ (if eF (σ 31 0) v p s q x = true then 1 else 0) := by
        have n5 : eF (σ 31 0) v p s q ((xw x 5, [6, σ 31 0, xw x 2, xw x 4, a, xw x 3], kv') : Ms) = false := eF_f (by decide : ¬ (6 : Int) = 5)
        rw [eL_1, n5]
        by_cases c5 : eP (σ 31 0) v p s q ((xw x 5, [6, σ 31 0, xw x 2, xw x 4, a, xw x 3], kv') : Ms) = true
        · have z := of_decide_eq_true c5
          have : eF (σ 31 0) v p s q x = true := by unfold eF; exact decide_eq_true ⟨d0, d1, z.2.2.1, z.2.2.2.1, z.2.2.2.2.1, z.2.2.2.2.2⟩
          rw [if_pos this, if_neg (by decide)]
          split <;> omega
        · rw [if_neg c5]
          simp
      unfold ke
      rw [d3, he, eL_app]
      omega
    · exact er d1
def sF (w p s q : Int) (σ : qS) : Prop := 38 ≤ σ 62 w ∧ (σ 65 w = 0 ∨ σ 65 w = 13) ∧ σ 62 w - 38 = p ∧ σ 64 w = s ∧ ps σ w = q
def Pz (w p s q : Int) (σ : qS) : Prop := σ 62 w = p + 38 ∧ σ 64 w = s ∧ ps σ w = q ∧ σ 65 w = 1
theorem ACT_ke {w : Int} {σ σ' : qS} (h : ACT w σ σ') (v p s q : Int) : ke σ' v p s q ≤ ke σ v p s q ∨ (v = w ∧ (sF w p s q σ ∧ Pz w p s q σ') ∧ ke σ' v p s q ≤ ke σ v p s q + 1) := by
  obtain ⟨-, -, hk, c⟩ := h
  have he : σ' 31 = σ 31 := hk _ (by decide)
  have nl : ln σ' = ln σ → ke σ' v p s q ≤ ke σ v p s q := fun e => by unfold ke; rw [e, he]; exact Nat.le_refl _
  have tl : ∀ {to ty a b c d}, ty ≠ 5 → ty ≠ 6 → TL to ty a b c d σ σ' → ke σ' v p s q ≤ ke σ v p s q := fun {to ty a b c d} n5 n6 t => by
    obtain ⟨r, t⟩ := t
    have h1 := eL_tl (σ 31 0) v p s q (ln σ)
    have h2 : eL (σ 31 0) v p s q [((to, [ty, σ 31 0, a, b, c, d], r) : Ms)] = 0 := eL_0 n5 n6
    unfold ke
    rw [t, he, eL_app, h2]
    omega
  rcases c with ⟨-, -, -, -, c⟩ | ⟨-, c⟩ | ⟨c0, c⟩
  · rcases c with ⟨-, c⟩ | ⟨-, c⟩
    · exact Or.inl (tl (by decide) (by decide) c)
    · exact Or.inl (nl c)
  · rcases c with ⟨-, -, -, a, c⟩ | ⟨-, -, -, ⟨a, c⟩, -⟩ | ⟨-, -, -, c⟩ | ⟨-, -, -, -, -, c⟩
    · exact Or.inl (tl (by decide) (by decide) c)
    · exact Or.inl (tl (by decide) (by decide) c)
    · exact Or.inl (tl (by decide) (by decide) c)
    · exact Or.inl (nl c)
  · rcases c with ⟨-, -, -, c⟩ | ⟨-, -, -, -, -, c⟩ | ⟨-, -, -, -, -, c, -⟩ | ⟨-, -, -, c6, -, c1, g1, g2, g3, c⟩ | ⟨-, -, -, -, c⟩
    · exact Or.inl (tl (by decide) (by decide) c)
    · exact Or.inl (nl c)
    · exact Or.inl (nl c)
    · have key : ∀ r : List Pr, eL (σ 31 0) v p s q [((σ 33 (σ 64 w), [5, σ 31 0, σ 64 w, σ 62 w - 38, ps σ w, w], r) : Ms)] = 0 ∨ ((v = w ∧ sF w p s q σ ∧ Pz w p s q σ') ∧ eL (σ 31 0) v p s q [((σ 33 (σ 64 w), [5, σ 31 0, σ 64 w, σ 62 w - 38, ps σ w, w], r) : Ms)] ≤ 1) := fun r => by
        have n6 : eP (σ 31 0) v p s q ((σ 33 (σ 64 w), [5, σ 31 0, σ 64 w, σ 62 w - 38, ps σ w, w], r) : Ms) = false := eP_f (by decide : ¬ (5 : Int) = 6)
        rw [eL_1, n6]
        by_cases z : eF (σ 31 0) v p s q ((σ 33 (σ 64 w), [5, σ 31 0, σ 64 w, σ 62 w - 38, ps σ w, w], r) : Ms) = true
        · have z' := of_decide_eq_true z
          have y1 : σ 62 w - 38 = p := z'.2.2.2.1
          have y2 : σ 64 w = s := z'.2.2.2.2.1
          have y3 : ps σ w = q := z'.2.2.2.2.2
          refine Or.inr ⟨⟨z'.2.2.1.symm, ⟨c0, c6, y1, y2, y3⟩, by omega, g1.trans y2, g2.trans y3, g3⟩, ?_⟩
          rw [if_pos z, if_neg (by decide)]
          omega
        · left
          rw [if_neg z, if_neg (by decide)]
      rcases c with ⟨-, -, r, c⟩ | ⟨-, -, r, r', c⟩
      · have h1 := eL_tl (σ 31 0) v p s q (ln σ)
        have e0 : ke σ' v p s q = eL (σ 31 0) v p s q (tl95 (ln σ)) + eL (σ 31 0) v p s q [((σ 33 (σ 64 w), [5, σ 31 0, σ 64 w, σ 62 w - 38, ps σ w, w], r) : Ms)] := by unfold ke; rw [c, he, eL_app]
        have e1 : ke σ v p s q = eL (σ 31 0) v p s q (ln σ) := rfl
        rcases key r with k | ⟨k1, k2⟩
        · left; omega
        · exact Or.inr ⟨k1.1, k1.2, by omega⟩
      · have h1 := eL_tl (σ 31 0) v p s q (ln σ)
        have h3 := eL_tl (σ 31 0) v p s q (tl95 (ln σ) ++ [((σ 33 (σ 64 w), [5, σ 31 0, σ 64 w, σ 62 w - 38, ps σ w, w], r) : Ms)])
        have h4 : eL (σ 31 0) v p s q [((6, [7, σ 31 0, σ 64 w, σ 33 (σ 64 w), 0, 0], r') : Ms)] = 0 := eL_0 (by decide : ¬ (7 : Int) = 5) (by decide : ¬ (7 : Int) = 6)
        rw [eL_app] at h3
        have e0 : ke σ' v p s q = eL (σ 31 0) v p s q (tl95 (tl95 (ln σ) ++ [((σ 33 (σ 64 w), [5, σ 31 0, σ 64 w, σ 62 w - 38, ps σ w, w], r) : Ms)])) := by unfold ke; rw [c, he, eL_app, h4]; rfl
        have e1 : ke σ v p s q = eL (σ 31 0) v p s q (ln σ) := rfl
        rcases key r with k | ⟨k1, k2⟩
        · left; omega
        · exact Or.inr ⟨k1.1, k1.2, by omega⟩
    · rcases c with ⟨-, -, c⟩ | ⟨-, c⟩
      · exact Or.inl (tl (by decide) (by decide) c)
      · exact Or.inl (tl (by decide) (by decide) c)
theorem HR_ke {σ σ' : qS} (h : HR σ σ') (v p s q : Int) : ke σ' v p s q ≤ ke σ v p s q := by
  obtain ⟨-, hk, c⟩ := h
  have he : σ' 31 = σ 31 := hk _ (by decide)
  rcases c with ⟨-, c2, -⟩ | ⟨i, x, c1, c2, c⟩
  · unfold ke; rw [c2, he]; exact Nat.le_refl _
  · have er : ln σ' = (ln σ).eraseIdx i → ke σ' v p s q ≤ ke σ v p s q := fun e => by
      have := eL_er (σ 31 0) v p s q _ i x c2
      unfold ke; rw [e, he]; omega
    rcases c with ⟨-, c, -⟩ | ⟨-, -, -, -, fi, en, -, c⟩ | ⟨-, -, c, -⟩ | ⟨-, -, c, -⟩
    · exact er c
    · rcases c with ⟨c, -⟩ | ⟨t, -, -, -, -, -, kv, c⟩
      · exact er c
      · have h1 := eL_er (σ 31 0) v p s q _ i x c2
        have h2 := eL_tl (σ 31 0) v p s q ((ln σ).eraseIdx i)
        have h3 : eL (σ 31 0) v p s q [((xw x 2, [2, σ 31 0, t, 0, 0, 0], kv) : Ms)] = 0 := eL_0 (by decide : ¬ (2 : Int) = 5) (by decide : ¬ (2 : Int) = 6)
        unfold ke
        rw [c, he, eL_app, h3]
        omega
    · exact er c
    · exact er c
theorem ke_t {L : Nat} {τ : Nat → qS} (h : RNN L τ) {t : Nat} (ht : t < 7 * L) (v p s q : Int) : ke (τ (t + 1)) v p s q ≤ ke (τ t) v p s q ∨ (v = ((t % 7 : Nat) : Int) ∧ t % 7 < 6 ∧ Pz v p s q (τ (t + 1)) ∧ ke (τ (t + 1)) v p s q ≤ ke (τ t) v p s q + 1) := by
  rcases h.2 t ht with ⟨hw, σ1, σ2, σ3, r1, r2, r3, a, -⟩ | ⟨-, σ1, σ2, r1, r2, r3, -⟩
  · have k1 := RD_ke r1 v p s q
    have k2 := RD_ke r2 v p s q
    have k3 := RD_ke r3 v p s q
    rcases ACT_ke a v p s q with k | ⟨rfl, k, k4⟩
    · left; omega
    · exact Or.inr ⟨rfl, by omega, k.2, by omega⟩
  · left
    have k0 : ke (clk (τ t)) v p s q = ke (τ t) v p s q := by unfold ke; rw [l_clk, clk_k (by decide)]
    have k1 := HR_ke r1 v p s q
    have k2 := HR_ke r2 v p s q
    have k3 := HR_ke r3 v p s q
    omega
theorem ke_run {L : Nat} {τ : Nat → qS} (h : RNN L τ) (v p s q : Int) (t0 : Nat) : ∀ n, t0 + n ≤ 7 * L → (∀ t, t0 ≤ t → t < t0 + n → t % 7 < 6 → v = ((t % 7 : Nat) : Int) → ¬ Pz v p s q (τ (t + 1))) → ke (τ (t0 + n)) v p s q ≤ ke (τ t0) v p s q
  | 0, _, _ => Nat.le_refl _
  | n + 1, hl, hp => by
    have ih := ke_run h v p s q t0 n (by omega) (fun t t1 t2 => hp t t1 (by omega))
    rcases ke_t h (t := t0 + n) (by omega) v p s q with k | ⟨k1, k2, k3, -⟩
    · rw [show t0 + (n + 1) = t0 + n + 1 by omega]; omega
    · exact absurd k3 (hp (t0 + n) (by omega) (by omega) k2 k1)

