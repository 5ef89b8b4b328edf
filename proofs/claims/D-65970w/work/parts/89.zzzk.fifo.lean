def lbv (s : Nat) (v : Int) (A : List (Ms × Nat × Nat)) : Prop := ∀ z ∈ A, z.1.1 = v → s ≤ z.2.1
theorem lbv_sub {s : Nat} {v : Int} {A B : List (Ms × Nat × Nat)} (h : lbv s v A) (hs : B.Sublist A) : lbv s v B := fun y hy => h y (hs.subset hy)
theorem lbv_ap {s t b : Nat} {v : Int} {A : List (Ms × Nat × Nat)} (h : lbv s v A) (hs : s ≤ t) (z : Ms) : lbv s v (A ++ [(z, t, b)]) := fun x hx e => by
  rw [List.mem_append, List.mem_singleton] at hx
  rcases hx with hx | hx
  · exact h x hx e
  · rw [hx]; exact hs
theorem RDn_lb {t s : Nat} {w e v : Int} {A A' : List (Ms × Nat × Nat)} (h : RDn w e t A A') (hs : s ≤ t + 1) (hk : lbv s v A) : lbv s v A' := by
  rcases h with ⟨-, rfl⟩ | ⟨i, y, -, c2, c⟩
  · exact hk
  · have e1 := lbv_sub hk (List.eraseIdx_sublist A i)
    rcases c with ⟨-, rfl⟩ | ⟨-, -, z, -, -, -, -, -, -, rfl⟩
    · exact e1
    · exact lbv_ap (lbv_sub e1 (tlA_sub _)) hs z
theorem HRn_lb {t s : Nat} {v : Int} {A A' : List (Ms × Nat × Nat)} (h : HRn t A A') (hs : s ≤ t + 1) (hk : lbv s v A) : lbv s v A' := by
  rcases h with ⟨-, rfl⟩ | ⟨i, y, -, -, c⟩
  · exact hk
  · have e1 := lbv_sub hk (List.eraseIdx_sublist A i)
    rcases c with rfl | ⟨z, z0, rfl⟩
    · exact e1
    · exact lbv_ap (lbv_sub e1 (tlA_sub _)) hs z
theorem ACn_lb {t s : Nat} {v : Int} {A A' : List (Ms × Nat × Nat)} {l : List Ms} (h : ACn t A A' l) (hs : s ≤ t + 1) (hk : lbv s v A) : lbv s v A' := by
  rcases h with ⟨rfl, -⟩ | ⟨z, rfl, -⟩ | ⟨z, z', rfl, -⟩
  · exact hk
  · exact lbv_ap (lbv_sub hk (tlA_sub _)) hs z
  · exact lbv_ap (lbv_sub (lbv_ap (lbv_sub hk (tlA_sub _)) hs z) (tlA_sub _)) hs z'
theorem hd_lb {T : Nat} {v : Int} {A : List (Ms × Nat × Nat)} (hs : SRT T A) {y : Ms × Nat × Nat} (h : hdA v A y) : lbv y.2.1 v A := fun z hz e => by
  obtain ⟨i, h1, h2⟩ := h
  obtain ⟨j, hj, ej⟩ := List.getElem_of_mem hz
  obtain ⟨g0, g1, g2⟩ := List.findIdx?_eq_some_iff_getElem.mp h1
  have hi : i < A.length := by rw [pr_len] at g0; exact g0
  have ey : A[i] = y := by rw [List.getElem?_eq_getElem hi] at h2; exact Option.some.inj h2
  by_cases d : j < i
  · exfalso
    have := g2 j d
    have q : (prA A)[j]'(by rw [pr_len]; exact hj) = z.1 := by rw [pr_gi A j (by rw [pr_len]; exact hj) hj, ej]
    rw [q] at this
    simp at this
    exact this e
  · by_cases c : j = i
    · subst c
      rw [← ey, ← ej]; exact Nat.le_refl _
    · have := List.pairwise_iff_getElem.mp hs.1 i j hi hj (by omega)
      rw [ey, ej] at this
      exact this
theorem hd_mem {v : Int} {A : List (Ms × Nat × Nat)} {y : Ms × Nat × Nat} (h : hdA v A y) : y ∈ A ∧ y.1.1 = v := by
  obtain ⟨i, h1, h2⟩ := h
  obtain ⟨g0, g1, -⟩ := List.findIdx?_eq_some_iff_getElem.mp h1
  have hi : i < A.length := by rw [pr_len] at g0; exact g0
  have ey : A[i] = y := by rw [List.getElem?_eq_getElem hi] at h2; exact Option.some.inj h2
  refine ⟨List.mem_of_getElem? h2, ?_⟩
  rw [pr_gi A i g0 hi, ey] at g1
  simpa using g1
theorem st_srt {L s0 : Nat} {τ : Nat → qS} {A : Nat → List (Ms × Nat × Nat)} {ρ : Nat → qS × qS × qS} {B : Nat → List (Ms × Nat × Nat) × List (Ms × Nat × Nat) × List (Ms × Nat × Nat)} (h : ANC L s0 τ A ρ B) {t : Nat} (h1 : s0 ≤ t) (h2 : t < 7 * L) (h6 : t % 7 < 6) : ∀ i, i ≤ 3 → SRT (t + 1) (stA A B t i)
  | 0, _ => by
    have := ANR_srt h.1 (t - s0) (by omega)
    rw [show s0 + (t - s0) = t by omega] at this
    exact SRT_mo this (by omega)
  | i + 1, hi => RDn_srt (st_rd h h1 h2 h6 (i := i) (by omega)) (st_srt h h1 h2 h6 i (by omega))
theorem st_lb {L s0 : Nat} {τ : Nat → qS} {A : Nat → List (Ms × Nat × Nat)} {ρ : Nat → qS × qS × qS} {B : Nat → List (Ms × Nat × Nat) × List (Ms × Nat × Nat) × List (Ms × Nat × Nat)} (h : ANC L s0 τ A ρ B) {t : Nat} (h1 : s0 ≤ t) (h2 : t < 7 * L) (h6 : t % 7 < 6) {s : Nat} (hs : s ≤ t + 1) {v : Int} : ∀ d i, i + d ≤ 3 → lbv s v (stA A B t i) → lbv s v (stA A B t (i + d))
  | 0, _, _, hk => hk
  | d + 1, i, hi, hk => by
    have ih := st_lb h h1 h2 h6 hs d i (by omega) hk
    rw [show i + (d + 1) = i + d + 1 by omega]
    exact RDn_lb (st_rd h h1 h2 h6 (i := i + d) (by omega)) hs ih
theorem ANR_lb {L s0 : Nat} {τ : Nat → qS} {A : Nat → List (Ms × Nat × Nat)} (h : ANR L s0 τ A) {t s : Nat} (ht : s0 ≤ t) (hs : s ≤ t + 1) {v : Int} (hk : lbv s v (A t)) : ∀ k, t + k ≤ 7 * L → lbv s v (A (t + k))
  | 0, _ => hk
  | k + 1, hl => by
    have ih := ANR_lb h ht hs hk k (by omega)
    rw [show t + (k + 1) = t + k + 1 by omega]
    rcases h.2.2 (t + k) (by omega) (by omega) with ⟨h6, σ1, σ2, σ3, A1, A2, A3, -, -, r1, r2, r3, l, a, o⟩ | ⟨-, σ1, σ2, A1, A2, -, -, -, -, r1, r2, r3⟩
    · exact ACn_lb a (by omega) (RDn_lb r3 (by omega) (RDn_lb r2 (by omega) (RDn_lb r1 (by omega) ih)))
    · exact HRn_lb r3 (by omega) (HRn_lb r2 (by omega) (HRn_lb r1 (by omega) ih))
theorem FIFO {L s0 : Nat} {τ : Nat → qS} {A : Nat → List (Ms × Nat × Nat)} {ρ : Nat → qS × qS × qS} {B : Nat → List (Ms × Nat × Nat) × List (Ms × Nat × Nat) × List (Ms × Nat × Nat)} (h : ANC L s0 τ A ρ B) {v : Nat} (hv : v < 6) {t t' i i' : Nat} (h1 : s0 ≤ t) (h2' : t' < 7 * L) (ht : t % 7 = v) (ht' : t' % 7 = v) (hi : i < 3) (hi' : i' < 3) (hlt : t < t' ∨ (t = t' ∧ i ≤ i')) {y y' : Ms × Nat × Nat} (hy : hdA v (stA A B t i) y) (hy' : hdA v (stA A B t' i') y') : y.2.1 ≤ y'.2.1 := by
  have h2 : t < 7 * L := by omega
  have h6 : t % 7 < 6 := by omega
  have h6' : t' % 7 < 6 := by omega
  have sr := st_srt h h1 h2 h6 i (by omega)
  have l0 := hd_lb sr hy
  have ys : y.2.1 ≤ t + 1 := sr.2 y (hd_mem hy).1
  rcases hlt with c | ⟨e, c⟩
  · have l1 := st_lb h h1 h2 h6 ys (3 - i) i (by omega) l0
    rw [show i + (3 - i) = 3 by omega] at l1
    obtain ⟨-, -, -, -, -, l, a, -⟩ := h.2 t h1 h2 h6
    have l2 : lbv y.2.1 v (A (t + 1)) := ACn_lb a ys l1
    have l3 := ANR_lb h.1 (t := t + 1) (by omega) (by omega) l2 (t' - (t + 1)) (by omega)
    rw [show t + 1 + (t' - (t + 1)) = t' by omega] at l3
    have l4 := st_lb h (by omega : s0 ≤ t') h2' h6' (by omega) i' 0 (by omega) l3
    rw [Nat.zero_add] at l4
    exact l4 y' (hd_mem hy').1 (hd_mem hy').2
  · subst e
    have l1 := st_lb h h1 h2 h6 ys (i' - i) i (by omega) l0
    rw [show i + (i' - i) = i' by omega] at l1
    exact l1 y' (hd_mem hy').1 (hd_mem hy').2

