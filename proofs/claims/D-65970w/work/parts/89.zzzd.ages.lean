theorem cpA_er (p : Ms × Nat × Nat → Bool) : ∀ (A : List (Ms × Nat × Nat)) (i : Nat) (y : Ms × Nat × Nat), A[i]? = some y → (A.eraseIdx i).countP p + (if p y = true then 1 else 0) = A.countP p
  | [], i, y, h => by simp at h
  | x :: A, 0, y, h => by
    simp only [List.getElem?_cons_zero, Option.some.injEq] at h
    subst h
    rw [List.eraseIdx_cons_zero, List.countP_cons]
  | x :: A, i + 1, y, h => by
    rw [List.getElem?_cons_succ] at h
    have := cpA_er p A i y h
    rw [List.eraseIdx_cons_succ, List.countP_cons, List.countP_cons]
    omega
theorem cpA_tl (p : Ms × Nat × Nat → Bool) (A : List (Ms × Nat × Nat)) : (tlA A).countP p ≤ A.countP p := by
  unfold tlA
  split
  · exact List.Sublist.countP_le (List.eraseIdx_sublist A 0)
  · exact Nat.le_refl _
def SRT (t : Nat) (A : List (Ms × Nat × Nat)) : Prop := A.Pairwise (fun a b => a.2.1 ≤ b.2.1) ∧ ∀ y ∈ A, y.2.1 ≤ t
theorem SRT_sub {t : Nat} {A B : List (Ms × Nat × Nat)} (h : SRT t A) (hs : B.Sublist A) : SRT t B := ⟨h.1.sublist hs, fun y hy => h.2 y (hs.subset hy)⟩
theorem tlA_sub (A : List (Ms × Nat × Nat)) : (tlA A).Sublist A := by
  unfold tlA
  split
  · exact List.eraseIdx_sublist A 0
  · exact List.Sublist.refl A
theorem SRT_mo {t t' : Nat} {A : List (Ms × Nat × Nat)} (h : SRT t A) (ht : t ≤ t') : SRT t' A := ⟨h.1, fun y hy => Nat.le_trans (h.2 y hy) ht⟩
theorem SRT_ap {t : Nat} {A : List (Ms × Nat × Nat)} (h : SRT t A) (z : Ms) (b : Nat) : SRT t (A ++ [(z, t, b)]) := by
  refine ⟨List.pairwise_append.mpr ⟨h.1, List.pairwise_singleton _ _, fun a ha c hc => ?_⟩, fun y hy => ?_⟩
  · rw [List.mem_singleton] at hc
    rw [hc]; exact h.2 a ha
  · rw [List.mem_append, List.mem_singleton] at hy
    rcases hy with hy | hy
    · exact h.2 y hy
    · rw [hy]; exact Nat.le_refl _
theorem RDn_srt {w e : Int} {t : Nat} {A A' : List (Ms × Nat × Nat)} (h : RDn w e t A A') (hs : SRT (t + 1) A) : SRT (t + 1) A' := by
  rcases h with ⟨-, rfl⟩ | ⟨i, y, -, -, c⟩
  · exact hs
  · have e1 := SRT_sub hs (List.eraseIdx_sublist A i)
    rcases c with ⟨-, rfl⟩ | ⟨-, -, z, -, -, -, -, -, -, rfl⟩
    · exact e1
    · exact SRT_ap (SRT_sub e1 (tlA_sub _)) z _
theorem ACn_srt {t : Nat} {A A' : List (Ms × Nat × Nat)} {s : List Ms} (h : ACn t A A' s) (hs : SRT (t + 1) A) : SRT (t + 1) A' := by
  rcases h with ⟨rfl, -⟩ | ⟨z, rfl, -⟩ | ⟨z, z', rfl, -⟩
  · exact hs
  · exact SRT_ap (SRT_sub hs (tlA_sub _)) z _
  · exact SRT_ap (SRT_sub (SRT_ap (SRT_sub hs (tlA_sub _)) z _) (tlA_sub _)) z' _
theorem HRn_srt {t : Nat} {A A' : List (Ms × Nat × Nat)} (h : HRn t A A') (hs : SRT (t + 1) A) : SRT (t + 1) A' := by
  rcases h with ⟨-, rfl⟩ | ⟨i, y, -, -, c⟩
  · exact hs
  · have e1 := SRT_sub hs (List.eraseIdx_sublist A i)
    rcases c with rfl | ⟨z, -, rfl⟩
    · exact e1
    · exact SRT_ap (SRT_sub e1 (tlA_sub _)) z _
theorem STn_srt {t : Nat} {σ σ' : qS} {A A' : List (Ms × Nat × Nat)} (h : STn t σ σ' A A') (hs : SRT t A) : SRT (t + 1) A' := by
  have h0 := SRT_mo hs (Nat.le_succ t)
  rcases h with ⟨-, σ1, σ2, σ3, A1, A2, A3, -, -, r1, r2, r3, s, a, -⟩ | ⟨-, σ1, σ2, A1, A2, -, -, -, -, r1, r2, r3⟩
  · exact ACn_srt a (RDn_srt r3 (RDn_srt r2 (RDn_srt r1 h0)))
  · exact HRn_srt r3 (HRn_srt r2 (HRn_srt r1 h0))
theorem ANR_srt {L s0 : Nat} {τ : Nat → qS} {A : Nat → List (Ms × Nat × Nat)} (h : ANR L s0 τ A) : ∀ k, s0 + k ≤ 7 * L → SRT (s0 + k) (A (s0 + k))
  | 0, _ => by
    rw [Nat.add_zero, h.1]
    refine ⟨?_, fun y hy => ?_⟩
    · rw [List.pairwise_map]
      exact List.pairwise_of_forall (fun _ _ => Nat.le_refl _)
    · rw [List.mem_map] at hy
      obtain ⟨m, -, rfl⟩ := hy
      exact Nat.le_refl _
  | k + 1, hk => STn_srt (h.2.2 (s0 + k) (by omega) (by omega)) (ANR_srt h k (by omega))
theorem pr_gi (A : List (Ms × Nat × Nat)) (i : Nat) (h : i < (prA A).length) (h' : i < A.length) : (prA A)[i] = (A[i]).1 := List.getElem_map _
def oc (t0 : Nat) (w : Int) (A : List (Ms × Nat × Nat)) : Nat := A.countP (fun y => decide (y.2.1 ≤ t0 ∧ y.1.1 = w))
theorem oc_first {t0 T : Nat} {w : Int} {A : List (Ms × Nat × Nat)} (hs : SRT T A) {i : Nat} {y : Ms × Nat × Nat} (h1 : (prA A).findIdx? (fun m => m.1 == w) = some i) (h2 : A[i]? = some y) : oc t0 w (A.eraseIdx i) ≤ oc t0 w A - 1 := by
  have c := cpA_er (fun y => decide (y.2.1 ≤ t0 ∧ y.1.1 = w)) A i y h2
  unfold oc
  by_cases p : y.2.1 ≤ t0 ∧ y.1.1 = w
  · rw [if_pos (decide_eq_true p)] at c
    omega
  · have z : A.countP (fun y => decide (y.2.1 ≤ t0 ∧ y.1.1 = w)) = 0 := by
      rw [List.countP_eq_zero]
      intro y' hy' hp
      have hp' := of_decide_eq_true hp
      obtain ⟨j, hj, ej⟩ := List.getElem_of_mem hy'
      obtain ⟨g0, g1, g2⟩ := List.findIdx?_eq_some_iff_getElem.mp h1
      have hi : i < A.length := by rw [pr_len] at g0; exact g0
      have ey : A[i] = y := by rw [List.getElem?_eq_getElem hi] at h2; exact Option.some.inj h2
      have wy : y.1.1 = w := by
        have : (prA A)[i] = y.1 := by rw [pr_gi A i g0 hi, ey]
        rw [this] at g1
        simpa using g1
      by_cases d : j < i
      · have := g2 j d
        have q : (prA A)[j]'(by rw [pr_len]; exact hj) = y'.1 := by rw [pr_gi A j (by rw [pr_len]; exact hj) hj, ej]
        rw [q] at this
        simp at this
        exact this hp'.2
      · have le : y.2.1 ≤ y'.2.1 := by
          by_cases e : j = i
          · subst e
            rw [← ey, ← ej]; exact Nat.le_refl _
          · have := List.pairwise_iff_getElem.mp hs.1 i j hi hj (by omega)
            rw [ey, ej] at this
            exact this
        exact p ⟨by omega, wy⟩
    have := List.Sublist.countP_le (p := fun y => decide (y.2.1 ≤ t0 ∧ y.1.1 = w)) (List.eraseIdx_sublist A i)
    omega
theorem oc_ap (t0 : Nat) (w : Int) (A : List (Ms × Nat × Nat)) {z : Ms} {t b : Nat} (h : t0 < t) : oc t0 w (A ++ [(z, t, b)]) = oc t0 w A := by
  unfold oc
  rw [List.countP_append, List.countP_cons, List.countP_nil]
  have : decide ((z, t, b).2.1 ≤ t0 ∧ (z, t, b).1.1 = w) = false := decide_eq_false (fun e => by have := e.1; simp at this; omega)
  rw [this]
  simp
theorem oc_tl (t0 : Nat) (w : Int) (A : List (Ms × Nat × Nat)) : oc t0 w (tlA A) ≤ oc t0 w A := cpA_tl _ A
theorem oc_er (t0 : Nat) (w : Int) (A : List (Ms × Nat × Nat)) (i : Nat) : oc t0 w (A.eraseIdx i) ≤ oc t0 w A := List.Sublist.countP_le (List.eraseIdx_sublist A i)
theorem oc_0 {t0 : Nat} {w : Int} {A : List (Ms × Nat × Nat)} (h : (prA A).findIdx? (fun m => m.1 == w) = none) : oc t0 w A = 0 := by
  unfold oc
  rw [List.countP_eq_zero]
  intro y hy hp
  have hp' := of_decide_eq_true hp
  have := List.findIdx?_eq_none_iff.mp h y.1 (List.mem_map_of_mem hy)
  rw [hp'.2] at this
  simp at this
theorem RDn_oc {w e : Int} {t t0 : Nat} {A A' : List (Ms × Nat × Nat)} (h : RDn w e t A A') (hs : SRT (t + 1) A) (ht : t0 ≤ t) : oc t0 w A' ≤ oc t0 w A - 1 ∧ ∀ v, oc t0 v A' ≤ oc t0 v A := by
  rcases h with ⟨c, rfl⟩ | ⟨i, y, c1, c2, c⟩
  · rw [oc_0 c]
    exact ⟨by omega, fun v => Nat.le_refl _⟩
  · have e1 := oc_first (t0 := t0) hs c1 c2
    have e2 : ∀ v, oc t0 v (A.eraseIdx i) ≤ oc t0 v A := fun v => oc_er t0 v A i
    rcases c with ⟨-, rfl⟩ | ⟨-, -, z, -, -, -, -, -, -, rfl⟩
    · exact ⟨e1, e2⟩
    · refine ⟨?_, fun v => ?_⟩
      · rw [oc_ap t0 w _ (by omega)]
        exact Nat.le_trans (oc_tl t0 w _) e1
      · rw [oc_ap t0 v _ (by omega)]
        exact Nat.le_trans (oc_tl t0 v _) (e2 v)
theorem ACn_oc {t t0 : Nat} {A A' : List (Ms × Nat × Nat)} {s : List Ms} (h : ACn t A A' s) (ht : t0 ≤ t) (v : Int) : oc t0 v A' ≤ oc t0 v A := by
  rcases h with ⟨rfl, -⟩ | ⟨z, rfl, -⟩ | ⟨z, z', rfl, -⟩
  · exact Nat.le_refl _
  · rw [oc_ap t0 v _ (by omega)]; exact oc_tl t0 v A
  · rw [oc_ap t0 v _ (by omega)]
    refine Nat.le_trans (oc_tl t0 v _) ?_
    rw [oc_ap t0 v _ (by omega)]; exact oc_tl t0 v A
theorem HRn_oc {t t0 : Nat} {A A' : List (Ms × Nat × Nat)} (h : HRn t A A') (ht : t0 ≤ t) (v : Int) : oc t0 v A' ≤ oc t0 v A := by
  rcases h with ⟨-, rfl⟩ | ⟨i, y, -, -, c⟩
  · exact Nat.le_refl _
  · rcases c with rfl | ⟨z, -, rfl⟩
    · exact oc_er t0 v A i
    · rw [oc_ap t0 v _ (by omega)]
      exact Nat.le_trans (oc_tl t0 v _) (oc_er t0 v A i)
theorem STn_oc {t t0 : Nat} {σ σ' : qS} {A A' : List (Ms × Nat × Nat)} (h : STn t σ σ' A A') (hs : SRT t A) (ht : t0 ≤ t) (v : Nat) : oc t0 v A' ≤ oc t0 v A - (if t % 7 = v ∧ v < 6 then 3 else 0) := by
  have h0 := SRT_mo hs (Nat.le_succ t)
  rcases h with ⟨h6, σ1, σ2, σ3, A1, A2, A3, -, -, r1, r2, r3, s, a, -⟩ | ⟨h6, σ1, σ2, A1, A2, -, -, -, -, r1, r2, r3⟩
  · have s1 := RDn_srt r1 h0
    have s2 := RDn_srt r2 s1
    have o1 := RDn_oc (t0 := t0) r1 h0 ht
    have o2 := RDn_oc (t0 := t0) r2 s1 ht
    have o3 := RDn_oc (t0 := t0) r3 s2 ht
    have o4 := ACn_oc (t0 := t0) a ht (v : Int)
    by_cases c : t % 7 = v
    · rw [if_pos ⟨c, by omega⟩]
      rw [c] at o1 o2 o3
      have := o1.1
      have := o2.1
      have := o3.1
      omega
    · rw [if_neg (fun e => c e.1)]
      have := o1.2 (v : Int)
      have := o2.2 (v : Int)
      have := o3.2 (v : Int)
      omega
  · have o1 := HRn_oc (t0 := t0) r1 ht (v : Int)
    have o2 := HRn_oc (t0 := t0) r2 ht (v : Int)
    have o3 := HRn_oc (t0 := t0) r3 ht (v : Int)
    rw [if_neg (fun e => by omega)]
    omega
theorem ANR_oc {L s0 : Nat} {τ : Nat → qS} {A : Nat → List (Ms × Nat × Nat)} (h : ANR L s0 τ A) {t0 : Nat} (h0 : s0 ≤ t0) {v : Nat} (hv : v < 6) : ∀ k, t0 + k ≤ 7 * L → oc t0 v (A (t0 + k)) ≤ oc t0 v (A t0) - 3 * ntk v t0 k
  | 0, _ => by rw [Nat.add_zero]; unfold ntk; omega
  | k + 1, hk => by
    have ih := ANR_oc h h0 hv k (by omega)
    have sr := ANR_srt h (t0 + k - s0) (by omega)
    rw [show s0 + (t0 + k - s0) = t0 + k by omega] at sr
    have st := STn_oc (t0 := t0) (h.2.2 (t0 + k) (by omega) (by omega)) sr (by omega) v
    rw [show t0 + (k + 1) = t0 + k + 1 by omega]
    unfold ntk
    by_cases c : (t0 + k) % 7 = v
    · rw [if_pos c]
      rw [if_pos ⟨c, hv⟩] at st
      omega
    · rw [if_neg c]
      rw [if_neg (fun e => c e.1)] at st
      omega
theorem oc_le (t0 : Nat) (w : Int) (A : List (Ms × Nat × Nat)) : oc t0 w A ≤ cn w (prA A) := by
  unfold oc cn prA
  rw [List.countP_map]
  exact List.countP_mono_left (fun y _ hp => by
    have := of_decide_eq_true hp
    show toW w y.1 = true
    unfold toW
    rw [this.2]
    simp)
theorem AGE {L s0 : Nat} {τ : Nat → qS} (hR : RNN L τ) {A : Nat → List (Ms × Nat × Nat)} (h : ANR L s0 τ A) {t0 : Nat} (h0 : s0 ≤ t0) (h7 : 7 ≤ t0) {v : Nat} (hv : v < 6) {r : Nat} (hr : cn v (ln (τ t0)) ≤ 3 * r) (hl : t0 + 7 * r ≤ 7 * L) : ∀ y ∈ A (t0 + 7 * r), y.1.1 = v → t0 < y.2.1 := fun y hy e => by
  have a := ANR_oc h h0 hv (7 * r) hl
  have b := oc_le t0 v (A t0)
  rw [h.2.1 t0 h0 (by omega)] at b
  rw [ntk_r v t0 (by omega) r] at a
  have z : oc t0 v (A (t0 + 7 * r)) = 0 := by omega
  unfold oc at z
  rw [List.countP_eq_zero] at z
  have := z y hy
  apply Classical.byContradiction
  intro n
  exact this (decide_eq_true ⟨by omega, e⟩)

