-- a stamped letter with the letters behind it and the FETCHes before it
def KA (y : Ms × Nat × Nat) (A : List (Ms × Nat × Nat)) (m : Nat) : Prop := ∃ p n, A = p ++ y :: n ∧ n.length + p.countP (fun z => t5 z.1) ≤ m
theorem KA_mo {y : Ms × Nat × Nat} {A : List (Ms × Nat × Nat)} {m m' : Nat} (h : KA y A m) (hm : m ≤ m') : KA y A m' := by
  obtain ⟨p, n, e, h2⟩ := h
  exact ⟨p, n, e, by omega⟩
theorem KA_mem {y : Ms × Nat × Nat} {A : List (Ms × Nat × Nat)} {m : Nat} (h : KA y A m) : y ∈ A := by
  obtain ⟨p, n, e, h2⟩ := h
  rw [e]
  exact List.mem_append_right p List.mem_cons_self
theorem kA_tl {y : Ms × Nat × Nat} {A : List (Ms × Nat × Nat)} {m : Nat} (h : KA y A m) (hm : m ≤ 93) : KA y (tlA A) m := by
  obtain ⟨p, n, e, h2⟩ := h
  subst e
  unfold tlA
  split
  · rename_i c95
    cases p with
    | nil => simp at c95; simp at h2; omega
    | cons b p =>
      have s := List.sublist_cons_self b p
      have f2 := s.countP_le (p := fun z : Ms × Nat × Nat => t5 z.1)
      exact ⟨p, n, rfl, by omega⟩
  · exact ⟨p, n, rfl, h2⟩
theorem ka_ap {y z : Ms × Nat × Nat} {A : List (Ms × Nat × Nat)} {m : Nat} (h : KA y A m) : KA y (A ++ [z]) (m + 1) := by
  obtain ⟨p, n, e, h2⟩ := h
  exact ⟨p, n ++ [z], by rw [e, List.append_assoc]; rfl, by rw [List.length_append, List.length_singleton]; omega⟩
theorem ka_er {y z : Ms × Nat × Nat} {A : List (Ms × Nat × Nat)} {m i : Nat} (h : KA y A m) (hz : A[i]? = some z) (hn : z ≠ y) : KA y (A.eraseIdx i) m ∧ (t5 z.1 = true → 1 ≤ m ∧ KA y (A.eraseIdx i) (m - 1)) := by
  obtain ⟨p, n, e, h2⟩ := h
  subst e
  obtain ⟨i0, hzi⟩ := List.getElem?_eq_some_iff.mp hz
  by_cases c1 : i < p.length
  · have hp : p[i]? = some z := by rw [List.getElem?_append_left c1] at hz; exact hz
    have hc1 := cpA_er (fun z => t5 z.1) p i z hp
    refine ⟨⟨p.eraseIdx i, n, List.eraseIdx_append_of_lt_length c1 _, by omega⟩, fun t => ?_⟩
    rw [if_pos t] at hc1
    exact ⟨by omega, ⟨p.eraseIdx i, n, List.eraseIdx_append_of_lt_length c1 _, by omega⟩⟩
  · by_cases c2 : i = p.length
    · exfalso
      apply hn
      subst c2
      rw [← hzi, List.getElem_append_right (Nat.le_refl _)]
      simp
    · have hlt : i - p.length - 1 < n.length := by simp at i0; omega
      have hlen := List.length_eraseIdx_of_lt hlt
      have he : (p ++ y :: n).eraseIdx i = p ++ y :: n.eraseIdx (i - p.length - 1) := by
        rw [List.eraseIdx_append_of_length_le (by omega)]
        obtain ⟨k, hk⟩ : ∃ k, i - p.length = k + 1 := ⟨i - p.length - 1, by omega⟩
        rw [hk, List.eraseIdx_cons_succ]
        rfl
      exact ⟨⟨p, _, he, by omega⟩, fun _ => ⟨by omega, p, _, he, by omega⟩⟩
theorem ka_RD {w e : Int} {t : Nat} {y : Ms × Nat × Nat} {A A' : List (Ms × Nat × Nat)} {m : Nat} (h : KA y A m) (r : RDn w e t A A') (hm : m ≤ 93) : hdA w A y ∨ KA y A' m := by
  rcases r with ⟨-, e⟩ | ⟨i, z, c1, c2, c⟩
  · rw [e]; exact Or.inr h
  · by_cases ez : z = y
    · rw [ez] at c2
      exact Or.inl ⟨i, c1, c2⟩
    · obtain ⟨k1, k2⟩ := ka_er h c2 ez
      right
      rcases c with ⟨-, e⟩ | ⟨-, d5, z', -, -, -, -, -, -, e⟩
      · rw [e]; exact k1
      · have t : t5 z.1 = true := by unfold t5; rw [d5]; rfl
        obtain ⟨f1, f2⟩ := k2 t
        rw [e]
        exact KA_mo (ka_ap (kA_tl f2 (by omega))) (by omega)
theorem ka_HR {t : Nat} {y : Ms × Nat × Nat} {A A' : List (Ms × Nat × Nat)} {m : Nat} (h : KA y A m) (r : HRn t A A') (h6 : y.1.1 ≠ 6) (hm : m ≤ 93) : KA y A' (m + 1) := by
  rcases r with ⟨-, e⟩ | ⟨i, z, c1, c2, c⟩
  · rw [e]; exact KA_mo h (by omega)
  · have ez : z ≠ y := fun ez => by
      obtain ⟨i0, i1, -⟩ := List.findIdx?_eq_some_iff_getElem.mp c1
      have q : (prA A)[i]? = some z.1 := by
        unfold prA
        rw [List.getElem?_map, c2]
        rfl
      obtain ⟨i0', q'⟩ := List.getElem?_eq_some_iff.mp q
      rw [q'] at i1
      apply h6
      rw [← ez]
      simpa using i1
    obtain ⟨k1, -⟩ := ka_er h c2 ez
    rcases c with e | ⟨z', -, e⟩
    · rw [e]; exact KA_mo k1 (by omega)
    · rw [e]
      exact ka_ap (kA_tl k1 hm)
theorem ka_AC {t : Nat} {y : Ms × Nat × Nat} {A A' : List (Ms × Nat × Nat)} {s : List Ms} {m : Nat} (h : KA y A m) (r : ACn t A A' s) (hm : m + s.length ≤ 94) : KA y A' (m + s.length) := by
  rcases r with ⟨e, rfl⟩ | ⟨z, e, rfl⟩ | ⟨z, z', e, rfl⟩
  · rw [e]; exact h
  · rw [List.length_singleton] at hm ⊢
    rw [e]
    exact ka_ap (kA_tl h (by omega))
  · have e2 : [z, z'].length = 2 := rfl
    rw [e2] at hm ⊢
    rw [e]
    exact ka_ap (kA_tl (ka_ap (kA_tl h (by omega))) (by omega))
-- the stamped form of keep
theorem keepA {L s0 : Nat} {τ : Nat → qS} {A : Nat → List (Ms × Nat × Nat)} {ρ : Nat → qS × qS × qS} {B : Nat → List (Ms × Nat × Nat) × List (Ms × Nat × Nat) × List (Ms × Nat × Nat)} (h : ANC2 L s0 τ A ρ B) {y : Ms × Nat × Nat} (h6 : y.1.1 ≠ 6) {s m : Nat} (h1 : s0 ≤ s) (h0 : KA y (A s) m) : ∀ k, s + k ≤ 7 * L → m + osm false τ s k ≤ 93 → (∃ j i, j < k ∧ i < 3 ∧ (s + j) % 7 < 6 ∧ hdA (((s + j) % 7 : Nat) : Int) (stA A B (s + j) i) y) ∨ KA y (A (s + k)) (m + osm false τ s k)
  | 0, _, _ => Or.inr (by simpa [osm] using h0)
  | k + 1, hk, hm => by
    have hm' := osm_m false τ s k 1
    rcases keepA h h6 h1 h0 k (by omega) (by omega) with ⟨j, i, j1, j2, j3⟩ | ih
    · exact Or.inl ⟨j, i, by omega, j2, j3⟩
    rw [show s + (k + 1) = s + k + 1 by omega]
    simp only [osm] at hm ⊢
    by_cases e6 : (s + k) % 7 = 6
    · rw [if_pos e6] at hm ⊢
      have e3 : mi false = 3 := rfl
      rw [e3] at hm ⊢
      right
      rcases h.1.1.2.2 (s + k) (by omega) (by omega) with ⟨e, -⟩ | ⟨-, σ1, σ2, A1, A2, -, -, -, -, n1, n2, n3⟩
      · omega
      · exact KA_mo (ka_HR (ka_HR (ka_HR ih n1 h6 (by omega)) n2 h6 (by omega)) n3 h6 (by omega)) (by omega)
    · rw [if_neg e6] at hm ⊢
      have l6 : (s + k) % 7 < 6 := by omega
      obtain ⟨-, -, r1, r2, r3, -⟩ := h.1.2 (s + k) (by omega) (by omega) l6
      obtain ⟨q, q1, q2, -⟩ := h.2 (s + k) (by omega) (by omega) l6
      rcases ka_RD ih r1 (by omega) with g | k1
      · exact Or.inl ⟨k, 0, by omega, by omega, l6, g⟩
      rcases ka_RD k1 r2 (by omega) with g | k2
      · exact Or.inl ⟨k, 1, by omega, by omega, l6, g⟩
      rcases ka_RD k2 r3 (by omega) with g | k3
      · exact Or.inl ⟨k, 2, by omega, by omega, l6, g⟩
      exact Or.inr (KA_mo (ka_AC k3 q1 (by omega)) (by omega))
-- COVk: a letter that is not read makes T1t ticks as long as the line cannot drop it
theorem COVk {L s0 : Nat} {τ : Nat → qS} (hR : RNN L τ) {A : Nat → List (Ms × Nat × Nat)} {ρ : Nat → qS × qS × qS} {B : Nat → List (Ms × Nat × Nat) × List (Ms × Nat × Nat) × List (Ms × Nat × Nat)} (h : ANC2 L s0 τ A ρ B) {y : Ms × Nat × Nat} {s m : Nat} (h00 : 224 ≤ s) (h1 : s0 ≤ s) (h0 : KA y (A s) m) (hst : y.2.1 ≤ s) {k : Nat} (hk : s + k < 7 * L) (k14 : 14 ≤ k) (hm : m + osm false τ s k ≤ 93) (l6 : (s + k) % 7 < 6) (yw : y.1.1 = (((s + k) % 7 : Nat) : Int)) (hn : ∀ j i, j ≤ k → i < 3 → (s + j) % 7 < 6 → ¬ hdA (((s + j) % 7 : Nat) : Int) (stA A B (s + j) i) y) : T1t A (s + k) := by
  have h6 : y.1.1 ≠ 6 := by rw [yw]; omega
  rcases keepA h h6 h1 h0 k (by omega) hm with ⟨j, i, j1, j2, j3, j4⟩ | q
  · exact absurd j4 (hn j i (by omega) j2 j3)
  · exact COV hR h.1 (by omega) (by omega) hk l6 (KA_mem q) yw (by omega) (fun i hi => hn k i (Nat.le_refl _) hi l6)

