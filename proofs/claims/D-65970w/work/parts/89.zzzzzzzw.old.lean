-- many old letters to workers: the round is covered
theorem cp_RDn {p : Ms × Nat × Nat → Bool} {w e : Int} {t : Nat} {A A' : List (Ms × Nat × Nat)} (r : RDn w e t A A') (hl : A.length ≤ 95) (hp : ∀ y : Ms × Nat × Nat, y.1.1 = w → p y = false) : A.countP p ≤ A'.countP p ∧ A'.length ≤ 95 := by
  rcases r with ⟨-, e⟩ | ⟨i, y, c1, c2, c⟩
  · rw [e]; exact ⟨Nat.le_refl _, hl⟩
  · have yw : y.1.1 = w := (hd_mem ⟨i, c1, c2⟩).2
    have q := cpA_er p A i y c2
    rw [if_neg (by rw [hp y yw]; decide)] at q
    have il : i < A.length := by
      apply Classical.byContradiction
      intro n
      rw [List.getElem?_eq_none (by omega)] at c2
      cases c2
    have er : (A.eraseIdx i).length + 1 = A.length := by rw [List.length_eraseIdx, if_pos il]; omega
    rcases c with ⟨-, e⟩ | ⟨-, -, z, -, -, -, -, -, -, e⟩
    · rw [e]; exact ⟨by omega, by omega⟩
    · have tl : tlA (A.eraseIdx i) = A.eraseIdx i := by unfold tlA; exact if_neg (by omega)
      rw [e, tl, List.countP_append, List.length_append]
      exact ⟨by omega, by show _ + 1 ≤ 95; omega⟩
theorem cp_tl1 (p : Ms × Nat × Nat → Bool) (A : List (Ms × Nat × Nat)) : A.countP p ≤ (tlA A).countP p + 1 := by
  unfold tlA
  split
  · cases A with
    | nil => simp
    | cons y A =>
      show (y :: A).countP p ≤ A.countP p + 1
      rw [List.countP_cons]
      split <;> omega
  · omega
theorem cp_ACn {p : Ms × Nat × Nat → Bool} {t : Nat} {A A' : List (Ms × Nat × Nat)} {s : List Ms} (r : ACn t A A' s) : A.countP p ≤ A'.countP p + s.length := by
  rcases r with ⟨e, rfl⟩ | ⟨z, e, rfl⟩ | ⟨z, z', e, rfl⟩
  · rw [e]; omega
  · rw [e, List.countP_append, List.length_singleton]
    have := cp_tl1 p A
    omega
  · have e2 : [z, z'].length = 2 := rfl
    rw [e, List.countP_append, e2]
    have a := cp_tl1 p A
    have b := cp_tl1 p (tlA A ++ [(z, t + 1, t + 1)])
    rw [List.countP_append] at b
    omega
theorem cp_tk {L s0 : Nat} {τ : Nat → qS} (hR : RNN L τ) {A : Nat → List (Ms × Nat × Nat)} {ρ : Nat → qS × qS × qS} {B : Nat → List (Ms × Nat × Nat) × List (Ms × Nat × Nat) × List (Ms × Nat × Nat)} (h : ANC2 L s0 τ A ρ B) {p : Ms × Nat × Nat → Bool} {u : Nat} (h0 : 224 ≤ u) (h1 : s0 ≤ u) (h2 : u < 7 * L) (h6 : u % 7 < 6) (hp : ∀ y : Ms × Nat × Nat, y.1.1 = ((u % 7 : Nat) : Int) → p y = false) : (A u).countP p ≤ (A (u + 1)).countP p + ow (τ (u + 1)) ((u % 7 : Nat) : Int) := by
  have l := run_95 hR (by omega) (by omega : 7 ≤ u) (by omega)
  have e0 := h.1.1.2.1 u h1 (by omega)
  have l0 : (A u).length ≤ 95 := by rw [← pr_len, e0]; omega
  obtain ⟨-, -, r1, r2, r3, -⟩ := h.1.2 u h1 h2 h6
  obtain ⟨q, q1, q2, -⟩ := h.2 u h1 h2 h6
  have a1 := cp_RDn (p := p) r1 l0 hp
  have a2 := cp_RDn (p := p) r2 a1.2 hp
  have a3 := cp_RDn (p := p) r3 a2.2 hp
  have a4 := cp_ACn (p := p) q1
  omega
def oW (g v : Nat) (A : List (Ms × Nat × Nat)) : Nat := A.countP (fun y => decide (y.2.1 ≤ g ∧ (v : Int) ≤ y.1.1 ∧ y.1.1 < 6))
theorem oW_s (g v : Nat) (hv : v < 6) : ∀ A : List (Ms × Nat × Nat), oW g v A ≤ oc g (v : Int) A + oW g (v + 1) A
  | [] => Nat.zero_le _
  | y :: A => by
    have ih := oW_s g v hv A
    unfold oW oc at ih ⊢
    rw [List.countP_cons, List.countP_cons, List.countP_cons]
    by_cases c : y.2.1 ≤ g ∧ (v : Int) ≤ y.1.1 ∧ y.1.1 < 6
    · rw [if_pos (decide_eq_true c)]
      by_cases d : y.1.1 = (v : Int)
      · rw [if_pos (decide_eq_true (⟨c.1, d⟩ : y.2.1 ≤ g ∧ y.1.1 = (v : Int)))]
        omega
      · have e : decide (y.2.1 ≤ g ∧ ((v + 1 : Nat) : Int) ≤ y.1.1 ∧ y.1.1 < 6) = true := decide_eq_true ⟨c.1, by omega, c.2.2⟩
        rw [if_pos e]
        omega
    · rw [if_neg (fun q => c (of_decide_eq_true q))]
      omega
theorem OLD {L s0 : Nat} {τ : Nat → qS} (hR : RNN L τ) {A : Nat → List (Ms × Nat × Nat)} {ρ : Nat → qS × qS × qS} {B : Nat → List (Ms × Nat × Nat) × List (Ms × Nat × Nat) × List (Ms × Nat × Nat)} (h : ANC2 L s0 τ A ρ B) {r : Nat} (h0 : 224 ≤ 7 * r) (h1 : s0 ≤ 7 * r) (h2 : 7 * r + 7 ≤ 7 * L) (hc : ¬ CVr A r) : oW (7 * r - 14) 0 (A (7 * r)) ≤ 12 + (ow (τ (7 * r + 1)) 0 + ow (τ (7 * r + 2)) 1 + ow (τ (7 * r + 3)) 2 + ow (τ (7 * r + 4)) 3 + ow (τ (7 * r + 5)) 4 + ow (τ (7 * r + 6)) 5) := by
  have st : ∀ v, v < 6 → oW (7 * r - 14) v (A (7 * r + v)) ≤ 2 + oW (7 * r - 14) (v + 1) (A (7 * r + (v + 1))) + ow (τ (7 * r + (v + 1))) (v : Int) := fun v hv => by
    have a := oW_s (7 * r - 14) v hv (A (7 * r + v))
    have b : oc (7 * r - 14) (v : Int) (A (7 * r + v)) ≤ 2 := by
      apply Classical.byContradiction
      intro n
      have m := oc_mo (g := 7 * r - 14) (g' := 7 * r + v - 14) (by omega) (v : Int) (A (7 * r + v))
      exact hc ⟨v, hv, by omega, by rw [show (7 * r + v) % 7 = v by omega]; omega⟩
    have c := cp_tk hR h (p := fun y => decide (y.2.1 ≤ 7 * r - 14 ∧ ((v + 1 : Nat) : Int) ≤ y.1.1 ∧ y.1.1 < 6)) (u := 7 * r + v) (by omega) (by omega) (by omega) (by omega) (fun y e => decide_eq_false (fun q => by rw [show (7 * r + v) % 7 = v by omega] at e; omega))
    rw [show (7 * r + v) % 7 = v by omega] at c
    unfold oW at a ⊢
    rw [show 7 * r + (v + 1) = 7 * r + v + 1 by omega]
    omega
  have z : oW (7 * r - 14) 6 (A (7 * r + 6)) = 0 := List.countP_eq_zero.mpr (fun y _ q => by
    have := of_decide_eq_true q
    omega)
  have s0' : oW (7 * r - 14) 0 (A (7 * r)) ≤ 2 + oW (7 * r - 14) 1 (A (7 * r + 1)) + ow (τ (7 * r + 1)) 0 := st 0 (by omega)
  have s1 : oW (7 * r - 14) 1 (A (7 * r + 1)) ≤ 2 + oW (7 * r - 14) 2 (A (7 * r + 2)) + ow (τ (7 * r + 2)) 1 := st 1 (by omega)
  have s2 : oW (7 * r - 14) 2 (A (7 * r + 2)) ≤ 2 + oW (7 * r - 14) 3 (A (7 * r + 3)) + ow (τ (7 * r + 3)) 2 := st 2 (by omega)
  have s3 : oW (7 * r - 14) 3 (A (7 * r + 3)) ≤ 2 + oW (7 * r - 14) 4 (A (7 * r + 4)) + ow (τ (7 * r + 4)) 3 := st 3 (by omega)
  have s4 : oW (7 * r - 14) 4 (A (7 * r + 4)) ≤ 2 + oW (7 * r - 14) 5 (A (7 * r + 5)) + ow (τ (7 * r + 5)) 4 := st 4 (by omega)
  have s5 : oW (7 * r - 14) 5 (A (7 * r + 5)) ≤ 2 + oW (7 * r - 14) 6 (A (7 * r + 6)) + ow (τ (7 * r + 6)) 5 := st 5 (by omega)
  omega

