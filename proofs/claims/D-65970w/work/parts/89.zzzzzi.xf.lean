theorem mem_er {A : List (Ms × Nat × Nat)} {j : Nat} {x y : Ms × Nat × Nat} (hx : A[j]? = some x) (hy : y ∈ A) (hn : y ∉ A.eraseIdx j) : x = y := by
  have p := cpA_er (fun z => @decide (z = y) (Classical.propDecidable _)) A j x hx
  have a : 1 ≤ A.countP (fun z => @decide (z = y) (Classical.propDecidable _)) := List.countP_pos_iff.mpr ⟨y, hy, by simp⟩
  have b : (A.eraseIdx j).countP (fun z => @decide (z = y) (Classical.propDecidable _)) = 0 := List.countP_eq_zero.mpr (fun z hz q => hn (by
    have e : z = y := by simpa using q
    rw [← e]; exact hz))
  apply Classical.byContradiction
  intro n
  rw [if_neg (by simpa using n)] at p
  omega
theorem RDn_lv {w e : Int} {t : Nat} {A A' : List (Ms × Nat × Nat)} (h : RDn w e t A A') (hl : A.length ≤ 95) {y : Ms × Nat × Nat} (hy : y ∈ A) (hn : y ∉ A') : hdA w A y := by
  rcases h with ⟨-, e⟩ | ⟨j, x, c1, c2, c⟩
  · rw [e] at hn; exact absurd hy hn
  · have fin : y ∉ A.eraseIdx j → hdA w A y := fun q => by
      have := mem_er c2 hy q
      rw [← this]
      exact ⟨j, c1, c2⟩
    rcases c with ⟨-, e⟩ | ⟨-, -, z, -, -, -, -, -, -, e⟩
    · rw [e] at hn; exact fin hn
    · have jl : j < A.length := by
        apply Classical.byContradiction
        intro n
        rw [List.getElem?_eq_none (by omega)] at c2
        cases c2
      have tl : tlA (A.eraseIdx j) = A.eraseIdx j := by
        unfold tlA
        refine if_neg ?_
        rw [List.length_eraseIdx, if_pos jl]
        omega
      rw [e, tl] at hn
      exact fin (fun q => hn (List.mem_append_left _ q))
-- a letter for the worker that is on the line at its tick is read, or the worker has four letters
theorem rd_or {L s0 : Nat} {τ : Nat → qS} (hR : RNN L τ) {A : Nat → List (Ms × Nat × Nat)} {ρ : Nat → qS × qS × qS} {B : Nat → List (Ms × Nat × Nat) × List (Ms × Nat × Nat) × List (Ms × Nat × Nat)} (h : ANC L s0 τ A ρ B) {u : Nat} (h0 : 224 ≤ u) (h1 : s0 ≤ u) (h2 : u < 7 * L) (h6 : u % 7 < 6) {y : Ms × Nat × Nat} (hy : y ∈ A u) (yw : y.1.1 = ((u % 7 : Nat) : Int)) : (∃ i, i < 3 ∧ hdA ((u % 7 : Nat) : Int) (stA A B u i) y) ∨ 4 ≤ cn ((u % 7 : Nat) : Int) (ln (τ u)) := by
  by_cases c : 4 ≤ cn ((u % 7 : Nat) : Int) (ln (τ u))
  · exact Or.inr c
  · left
    apply Classical.byContradiction
    intro n
    have st : ∀ i, i ≤ 3 → y ∈ stA A B u i := fun i => by
      induction i with
      | zero => intro _; exact hy
      | succ i ih =>
        intro q
        have m := ih (by omega)
        apply Classical.byContradiction
        intro z
        exact n ⟨i, by omega, RDn_lv (st_rd h h1 h2 h6 (i := i) (by omega)) (st_95 hR h h0 h1 h2 h6 i (by omega)) m z⟩
    have o0 : oc u ((u % 7 : Nat) : Int) (A u) ≤ 3 := by
      have a := oc_le u ((u % 7 : Nat) : Int) (A u)
      rw [h.1.2.1 u h1 (by omega)] at a
      omega
    have dn : ∀ i, i ≤ 3 → oc u ((u % 7 : Nat) : Int) (stA A B u i) ≤ 3 - i := fun i => by
      induction i with
      | zero => intro _; exact o0
      | succ i ih =>
        intro q
        have m := ih (by omega)
        have r := (RDn_oc (t0 := u) (st_rd h h1 h2 h6 (i := i) (by omega)) (st_srt h h1 h2 h6 i (by omega)) (Nat.le_refl _)).1
        omega
    have z := dn 3 (Nat.le_refl _)
    have ys : y.2.1 ≤ u := by
      have k := ANR_srt h.1 (u - s0) (by omega)
      rw [show s0 + (u - s0) = u by omega] at k
      exact k.2 y hy
    have : 1 ≤ oc u ((u % 7 : Nat) : Int) (stA A B u 3) := by
      unfold oc
      exact List.countP_pos_iff.mpr ⟨y, st 3 (Nat.le_refl _), decide_eq_true ⟨ys, yw⟩⟩
    omega
-- XF: while the PAIRS of a FETCH of a LACKS wait is on the line its waiter is full and accepts nothing
theorem XF1 {L s0 : Nat} {τ : Nat → qS} (hR : RNN L τ) {A : Nat → List (Ms × Nat × Nat)} {ρ : Nat → qS × qS × qS} {B : Nat → List (Ms × Nat × Nat) × List (Ms × Nat × Nat) × List (Ms × Nat × Nat)} (h : ANC L s0 τ A ρ B) (h7 : 224 ≤ s0) {w : Nat} (hw : w < 6) {t : Nat} (ht : t % 7 = w) (h1 : 7 * 145 ≤ t) (h2 : t + 1 ≤ 7 * L) (hl : LKs (τ (t + 1)) w) {j : Nat} (j1 : 1 ≤ j) (j2 : j ≤ 143) (js : s0 < t + 1 - 7 * j) {u : Nat} (u1 : t + 1 - 7 * j ≤ u) (u2 : u ≤ t) (uw : u % 7 = w) {y : Ms × Nat × Nat} (hy : y ∈ A u) (yw : y.1.1 = (w : Int)) (y6 : xw y.1 0 = 6) (yb : y.2.2 = t + 1 - 7 * j) : 4 ≤ cn (w : Int) (ln (τ u)) ∧ ∀ b, ¬ ACC τ A ρ B u b := by
  constructor
  · rcases rd_or hR h (u := u) (by omega) (by omega) (by omega) (by omega) hy (by rw [uw]; exact yw) with ⟨i, hi, q⟩ | q
    · exact (NRD hR h h7 hw ht h1 h2 hl j1 j2 js u1 u2 (by omega) hi q y6 yb).elim
    · rw [uw] at q; exact q
  · intro b
    exact LK_na hR h hw ht h1 h2 hl uw (by omega) u2 (by omega) b

