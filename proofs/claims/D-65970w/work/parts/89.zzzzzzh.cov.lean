-- a letter that its worker does not read in its tick stands behind three older ones
theorem rd_oq {L s0 : Nat} {τ : Nat → qS} (hR : RNN L τ) {A : Nat → List (Ms × Nat × Nat)} {ρ : Nat → qS × qS × qS} {B : Nat → List (Ms × Nat × Nat) × List (Ms × Nat × Nat) × List (Ms × Nat × Nat)} (h : ANC L s0 τ A ρ B) {u : Nat} (h0 : 224 ≤ u) (h1 : s0 ≤ u) (h2 : u < 7 * L) (h6 : u % 7 < 6) {y : Ms × Nat × Nat} (hy : y ∈ A u) (yw : y.1.1 = ((u % 7 : Nat) : Int)) : (∃ i, i < 3 ∧ hdA ((u % 7 : Nat) : Int) (stA A B u i) y) ∨ 4 ≤ oc y.2.1 ((u % 7 : Nat) : Int) (A u) := by
  have ys : y.2.1 ≤ u := by
    have k := ANR_srt h.1 (u - s0) (by omega)
    rw [show s0 + (u - s0) = u by omega] at k
    exact k.2 y hy
  by_cases c : 4 ≤ oc y.2.1 ((u % 7 : Nat) : Int) (A u)
  · exact Or.inr c
  · left
    apply Classical.byContradiction
    intro n
    have st : ∀ i, i ≤ 3 → y ∈ stA A B u i := fun i => by
      induction i with
      | zero => intro _; exact hy
      | succ i ih =>
        intro q
        have m := ih (by omega)
        apply Classical.byContradiction
        intro z
        exact n ⟨i, by omega, RDn_lv (st_rd h h1 h2 h6 (i := i) (by omega)) (st_95 hR h h0 h1 h2 h6 i (by omega)) m z⟩
    have dn : ∀ i, i ≤ 3 → oc y.2.1 ((u % 7 : Nat) : Int) (stA A B u i) ≤ 3 - i := fun i => by
      induction i with
      | zero => intro _; show oc y.2.1 ((u % 7 : Nat) : Int) (A u) ≤ 3; omega
      | succ i ih =>
        intro q
        have m := ih (by omega)
        have r := (RDn_oc (t0 := y.2.1) (st_rd h h1 h2 h6 (i := i) (by omega)) (st_srt h h1 h2 h6 i (by omega)) ys).1
        omega
    have z := dn 3 (Nat.le_refl _)
    have : 1 ≤ oc y.2.1 ((u % 7 : Nat) : Int) (stA A B u 3) := by
      unfold oc
      exact List.countP_pos_iff.mpr ⟨y, st 3 (Nat.le_refl _), decide_eq_true ⟨Nat.le_refl _, yw⟩⟩
    omega
theorem oc_mo {g g' : Nat} (h : g ≤ g') (w : Int) (A : List (Ms × Nat × Nat)) : oc g w A ≤ oc g' w A := by
  unfold oc
  refine List.countP_mono_left (fun y _ q => ?_)
  have := of_decide_eq_true q
  exact decide_eq_true ⟨by omega, this.2⟩
-- COV: a letter two rounds old that is not read makes the tick of its worker a chosen one
theorem COV {L s0 : Nat} {τ : Nat → qS} (hR : RNN L τ) {A : Nat → List (Ms × Nat × Nat)} {ρ : Nat → qS × qS × qS} {B : Nat → List (Ms × Nat × Nat) × List (Ms × Nat × Nat) × List (Ms × Nat × Nat)} (h : ANC L s0 τ A ρ B) {u : Nat} (h0 : 224 ≤ u) (h1 : s0 ≤ u) (h2 : u < 7 * L) (h6 : u % 7 < 6) {y : Ms × Nat × Nat} (hy : y ∈ A u) (yw : y.1.1 = ((u % 7 : Nat) : Int)) (ho : y.2.1 + 14 ≤ u) (hn : ∀ i, i < 3 → ¬ hdA ((u % 7 : Nat) : Int) (stA A B u i) y) : T1t A u := by
  rcases rd_oq hR h h0 h1 h2 h6 hy yw with ⟨i, hi, q⟩ | q
  · exact absurd q (hn i hi)
  · have := oc_mo (show y.2.1 ≤ u - 14 by omega) ((u % 7 : Nat) : Int) (A u)
    exact ⟨h6, by omega⟩
-- thirteen old letters for workers: a chosen tick, if none of them is dropped in the round
theorem T1_13 {A : Nat → List (Ms × Nat × Nat)} {g : Nat} {C : List (Ms × Nat × Nat)} (h : 13 ≤ oc g 0 C + oc g 1 C + oc g 2 C + oc g 3 C + oc g 4 C + oc g 5 C) : ∃ v : Nat, v < 6 ∧ 3 ≤ oc g (v : Int) C := by
  apply Classical.byContradiction
  intro n
  have z : ∀ v : Nat, v < 6 → oc g (v : Int) C ≤ 2 := fun v hv => by
    apply Classical.byContradiction
    intro q
    exact n ⟨v, hv, by omega⟩
  have z0 : oc g 0 C ≤ 2 := z 0 (by omega)
  have z1 : oc g 1 C ≤ 2 := z 1 (by omega)
  have z2 : oc g 2 C ≤ 2 := z 2 (by omega)
  have z3 : oc g 3 C ≤ 2 := z 3 (by omega)
  have z4 : oc g 4 C ≤ 2 := z 4 (by omega)
  have z5 : oc g 5 C ≤ 2 := z 5 (by omega)
  omega

