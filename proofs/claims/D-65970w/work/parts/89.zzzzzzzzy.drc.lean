-- letters that are younger than g and no PAIRS, and ASK letters: they grow by own letters only
def nnb (g : Nat) (x : Ms × Nat × Nat) : Bool := (decide (g < x.2.1) && !(t6 x.1)) || t1 x.1
def NN (g : Nat) (A : List (Ms × Nat × Nat)) : Nat := A.countP (nnb g)
theorem nn_ap (g : Nat) (A : List (Ms × Nat × Nat)) (z : Ms × Nat × Nat) : NN g (A ++ [z]) ≤ NN g A + 1 := by
  unfold NN
  rw [List.countP_append, List.countP_singleton]
  split <;> omega
theorem nn_tl (g : Nat) (A : List (Ms × Nat × Nat)) : NN g (tlA A) ≤ NN g A := cpA_tl _ A
theorem nn_RD {g : Nat} {w e : Int} {t : Nat} {A A' : List (Ms × Nat × Nat)} (r : RDn w e t A A') : NN g A' ≤ NN g A := by
  rcases r with ⟨-, e⟩ | ⟨i, y, -, c2, c⟩
  · rw [e]; exact Nat.le_refl _
  · have er := cpA_er (nnb g) A i y c2
    have le : NN g (A.eraseIdx i) ≤ NN g A := by unfold NN; omega
    rcases c with ⟨-, e⟩ | ⟨-, -, z, -, z6, -, -, -, -, e⟩
    · rw [e]; exact le
    · have tl := nn_tl g (A.eraseIdx i)
      have ap : NN g A' = NN g (tlA (A.eraseIdx i)) := by
        rw [e]
        unfold NN
        rw [List.countP_append, List.countP_singleton]
        have f : nnb g (z, t + 1, y.2.2) = false := by
          unfold nnb t6 t1
          rw [z6]
          simp
        rw [if_neg (by rw [f]; decide)]
        omega
      omega
theorem nn_AC {g t : Nat} {A A' : List (Ms × Nat × Nat)} {s : List Ms} (r : ACn t A A' s) : NN g A' ≤ NN g A + s.length := by
  rcases r with ⟨e, rfl⟩ | ⟨z, e, rfl⟩ | ⟨z, z', e, rfl⟩
  · rw [e]; exact Nat.le_refl _
  · rw [List.length_singleton, e]
    have a := nn_ap g (tlA A) (z, t + 1, t + 1)
    have b := nn_tl g A
    omega
  · have e2 : [z, z'].length = 2 := rfl
    rw [e2, e]
    have a := nn_ap g (tlA A) (z, t + 1, t + 1)
    have b := nn_tl g A
    have a' := nn_ap g (tlA (tlA A ++ [(z, t + 1, t + 1)])) (z', t + 1, t + 1)
    have b' := nn_tl g (tlA A ++ [(z, t + 1, t + 1)])
    omega
theorem nn_HR {g t : Nat} {A A' : List (Ms × Nat × Nat)} {σ σ' : qS} (r : HRn t A A') (hr : HR σ σ') (e0 : prA A = ln σ) (e1 : prA A' = ln σ') (hA : A.length ≤ 95) : NN g A' ≤ NN g A ∧ A'.length ≤ 95 := by
  rcases r with ⟨-, e⟩ | ⟨i, z, c1, c2, c⟩
  · rw [e]; exact ⟨Nat.le_refl _, hA⟩
  · have qz : (prA A)[i]? = some z.1 := by
      unfold prA
      rw [List.getElem?_map, c2]
      rfl
    have er := cpA_er (nnb g) A i z c2
    have il : i < A.length := (List.getElem?_eq_some_iff.mp c2).1
    have le : (A.eraseIdx i).length + 1 = A.length := by rw [List.length_eraseIdx, if_pos il]; omega
    have lA : A.length = (ln σ).length := by rw [← e0]; unfold prA; rw [List.length_map]
    have lA' : A'.length = (ln σ').length := by rw [← e1]; unfold prA; rw [List.length_map]
    rcases c with e | ⟨z', -, e⟩
    · rw [e]; exact ⟨by unfold NN; omega, by omega⟩
    · have tl : tlA (A.eraseIdx i) = A.eraseIdx i := by unfold tlA; exact if_neg (by omega)
      have l1 : A'.length = A.length := by
        rw [e, tl, List.length_append]
        exact le
      have lx : ((ln σ).eraseIdx i).length + 1 = (ln σ).length := by rw [List.length_eraseIdx, if_pos (by omega)]; omega
      have ask : nnb g z = true := by
        obtain ⟨-, -, d⟩ := hr
        rcases d with ⟨d1, d2, -⟩ | ⟨j, x, d1, d2, d⟩
        · rw [← e0, c1] at d1
          cases d1
        · rw [← e0, c1] at d1
          have ej : i = j := Option.some.inj d1
          subst ej
          rw [← e0, qz] at d2
          have ex : z.1 = x := Option.some.inj d2
          rcases d with ⟨-, d, -⟩ | ⟨-, d1', -⟩ | ⟨-, -, d, -⟩ | ⟨-, -, d, -⟩
          · rw [d] at lA'; omega
          · unfold nnb t1; rw [ex, d1']; simp
          · rw [d] at lA'; omega
          · rw [d] at lA'; omega
      rw [if_pos ask] at er
      refine ⟨?_, by omega⟩
      have ap := nn_ap g (A.eraseIdx i) (z', t + 1, t + 1)
      rw [e, tl]
      unfold NN at ap ⊢
      omega
theorem nn_MT {g t : Nat} {A A' : List (Ms × Nat × Nat)} {σ σ' : qS} (r : MTn t σ σ' A A') (hA : A.length ≤ 95) : NN g A' ≤ NN g A := by
  obtain ⟨σ1, σ2, A1, A2, r1, r2, r3, ⟨p0, p1, p2, p3⟩, n1, n2, n3⟩ := r
  obtain ⟨a1, b1⟩ := nn_HR (g := g) n1 r1 (by rw [l_clk]; exact p0) p1 hA
  obtain ⟨a2, b2⟩ := nn_HR (g := g) n2 r2 p1 p2 b1
  have a3 := (nn_HR (g := g) n3 r3 p2 p3 b2).1
  omega
theorem nn_run {L s0 : Nat} {τ : Nat → qS} (hR : RNN L τ) {A : Nat → List (Ms × Nat × Nat)} {ρ : Nat → qS × qS × qS} {B : Nat → List (Ms × Nat × Nat) × List (Ms × Nat × Nat) × List (Ms × Nat × Nat)} (h : ANC2 L s0 τ A ρ B) {g : Nat} (hg : s0 ≤ g) (g7 : 7 ≤ g) : ∀ k, g + k ≤ 7 * L → NN g (A (g + k)) ≤ zA (τ g) + osm true τ g k
  | 0, hk => by
    have e0 := h.1.1.2.1 g hg hk
    have sr := ANR_srt h.1.1 (g - s0) (by omega)
    rw [show s0 + (g - s0) = g by omega] at sr
    have z : NN g (A g) ≤ (A g).countP (fun x => t1 x.1) := by
      unfold NN
      refine List.countP_mono_left (fun x hx hh => ?_)
      have m := sr.2 x hx
      unfold nnb at hh
      rw [decide_eq_false (by omega), Bool.false_and, Bool.false_or] at hh
      exact hh
    have e : zA (τ g) = (A g).countP (fun x => t1 x.1) := by
      unfold zA
      rw [← e0]
      unfold prA
      rw [List.countP_map]
      rfl
    show NN g (A g) ≤ zA (τ g) + 0
    omega
  | k + 1, hk => by
    have ih := nn_run hR h hg g7 k (by omega)
    rw [show g + (k + 1) = g + k + 1 by omega]
    simp only [osm]
    rcases h.1.1.2.2 (g + k) (by omega) (by omega) with ⟨l6, -⟩ | ⟨l6, mt⟩
    · rw [if_neg (by omega)]
      obtain ⟨-, -, r1, r2, r3, -⟩ := h.1.2 (g + k) (by omega) (by omega) l6
      obtain ⟨q, q1, q2⟩ := h.2 (g + k) (by omega) (by omega) l6
      have a1 := nn_RD (g := g) r1
      have a2 := nn_RD (g := g) r2
      have a3 := nn_RD (g := g) r3
      have a4 := nn_AC (g := g) q1
      have a5 := q2.1
      omega
    · rw [if_pos l6]
      have l95 := st_l95 hR h (T := g + k) (by omega) (by omega) (by omega)
      have a := nn_MT (g := g) mt l95
      have e3 : mi true = 0 := rfl
      omega
-- at a drop of the token of a sample s: 95 <= PAIRS letters + ASK letters at s - 1 + own letters since
theorem DRPc {L s0 : Nat} {τ : Nat → qS} (hR : RNN L τ) {A : Nat → List (Ms × Nat × Nat)} {ρ : Nat → qS × qS × qS} {B : Nat → List (Ms × Nat × Nat) × List (Ms × Nat × Nat) × List (Ms × Nat × Nat)} (h : ANC2 L s0 τ A ρ B) {s y : Nat} (hs : s0 < s) (s7 : 8 ≤ s) (sy : s ≤ y) (hy : y ≤ 7 * L) (lb : lbS s (A y)) (l95 : 95 ≤ (A y).length) : 95 ≤ zP (τ y) + zA (τ (s - 1)) + ctq (OWt τ) (s - 1) (y + 1 - s) + ctq (LKt τ) (s - 1) (y + 1 - s) := by
  have n := nn_run hR h (g := s - 1) (by omega) (by omega) (y + 1 - s) (by omega)
  rw [show s - 1 + (y + 1 - s) = y by omega] at n
  have o := osm_c1 τ (s - 1) (y + 1 - s)
  have e0 := h.1.1.2.1 y (by omega) hy
  have z : zP (τ y) = (A y).countP (fun x => t6 x.1) := by
    unfold zP
    rw [← e0]
    unfold prA
    rw [List.countP_map]
    rfl
  have c : (A y).length ≤ (A y).countP (fun x => t6 x.1) + NN (s - 1) (A y) := by
    have l := List.length_eq_countP_add_countP (fun x : Ms × Nat × Nat => t6 x.1) (l := A y)
    have m : (A y).countP (fun x => decide (¬ t6 x.1 = true)) ≤ NN (s - 1) (A y) := by
      unfold NN
      refine List.countP_mono_left (fun x hx hh => ?_)
      have q := lb x hx
      have hh := of_decide_eq_true hh
      unfold nnb
      rw [decide_eq_true (by omega)]
      simp [hh]
    omega
  omega

