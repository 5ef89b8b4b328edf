def Hol (σ0 σ : qS) (kk kv : Nat) (b k i : Int) : Prop := (∀ q, q ≠ kk → q ≠ kv → σ q = σ0 q) ∧ (∀ j, (j < b + i ∨ b + k < j) → σ kk j = σ0 kk j ∧ σ kv j = σ0 kv j) ∧ (∀ j, b + i < j → j ≤ b + k → σ kk j = σ0 kk (j - 1) ∧ σ kv j = σ0 kv (j - 1))
theorem Hol_0 {σ0 : qS} {kk kv : Nat} {b k : Int} : Hol σ0 σ0 kk kv b k k := ⟨fun _ _ _ => rfl, fun _ _ => ⟨rfl, rfl⟩, fun j h1 h2 => by omega⟩
theorem Hol_s {σ0 σ : qS} {kk kv : Nat} {b k i : Int} (hne : kk ≠ kv) (h : Hol σ0 σ kk kv b k i) (hi : i ≤ k) (hi0 : 0 < i) : Hol σ0 (su (su σ kk (b + i) (σ kk (b + i - 1))) kv (b + i) (su σ kk (b + i) (σ kk (b + i - 1)) kv (b + i - 1))) kk kv b k (i - 1) := by
  obtain ⟨h1, h2, h3⟩ := h
  refine ⟨fun q q1 q2 => by rw [su_k q2, su_k q1]; exact h1 q q1 q2, fun j hj => ?_, fun j j1 j2 => ?_⟩
  · rw [su_k hne, su_e, su_e, if_neg (by omega), if_neg (by omega), su_k (Ne.symm hne)]
    exact h2 j (by omega)
  · rw [su_k hne, su_e, su_e, su_k (Ne.symm hne)]
    by_cases e : j = b + i
    · subst e
      rw [if_pos rfl, if_pos rfl]
      exact h2 (b + i - 1) (by omega)
    · rw [if_neg e, if_neg e]
      exact h3 j (by omega) j2
theorem Hol_end {σ0 σ : qS} {kk kv : Nat} {b : Int} {k i : Nat} {x : Pr} (hne : kk ≠ kv) (h : Hol σ0 σ kk kv b k i) (hi : i ≤ k) : row (su (su σ kk (b + i) x.1) kv (b + i) x.2) kk kv b (k + 1) = (row σ0 kk kv b k).take i ++ x :: (row σ0 kk kv b k).drop i := by
  obtain ⟨h1, h2, h3⟩ := h
  apply List.ext_getElem?
  intro j
  by_cases hj : j < k + 1
  · rw [row_at hj, su_k hne, su_e, su_e, su_k (Ne.symm hne)]
    by_cases j1 : j < i
    · rw [if_neg (by omega), if_neg (by omega), List.getElem?_append_left (by rw [List.length_take, row_len]; omega), List.getElem?_take_of_lt j1, row_at (by omega)]
      obtain ⟨e1, e2⟩ := h2 (b + j) (by omega)
      rw [e1, e2]
    · rw [List.getElem?_append_right (by rw [List.length_take, row_len]; omega), List.length_take, row_len, show min i k = i by omega]
      by_cases j2 : j = i
      · subst j2; rw [if_pos rfl, if_pos rfl, Nat.sub_self]; rfl
      · rw [if_neg (by omega), if_neg (by omega), show j - i = (j - i - 1) + 1 by omega, List.getElem?_cons_succ, List.getElem?_drop, row_at (by omega)]
        obtain ⟨e1, e2⟩ := h3 (b + j) (by omega) (by omega)
        rw [e1, e2, show b + (j : Int) - 1 = b + ((i + (j - i - 1) : Nat) : Int) by omega]
  · rw [row_no hj, List.getElem?_eq_none]
    simp [row_len]; omega
theorem take_ext {l : List Pr} {i : Nat} {P : Pr → Prop} (h : ∀ (j : Nat) y, j < i → l[j]? = some y → P y) : ∀ y ∈ l.take i, P y := by
  intro y hy
  obtain ⟨j, hj⟩ := List.getElem?_of_mem hy
  rw [List.getElem?_take] at hj
  split at hj
  · exact h j y ‹_› hj
  · cases hj
theorem drop_ext {l : List Pr} {i : Nat} {P : Pr → Prop} (h : ∀ (j : Nat) y, i ≤ j → l[j]? = some y → P y) : ∀ y ∈ l.drop i, P y := by
  intro y hy
  obtain ⟨j, hj⟩ := List.getElem?_of_mem hy
  rw [List.getElem?_drop] at hj
  exact h (i + j) y (by omega) hj
theorem srtd_at {l : List Pr} (h : srtd l) {i j : Nat} {a b : Pr} (hij : i ≤ j) (ha : l[i]? = some a) (hb : l[j]? = some b) : a.1 ≤ b.1 := by
  by_cases e : i = j
  · subst e; rw [ha] at hb; cases hb; omega
  · obtain ⟨h1, rfl⟩ := List.getElem?_eq_some_iff.mp ha
    obtain ⟨h2, rfl⟩ := List.getElem?_eq_some_iff.mp hb
    exact List.pairwise_iff_getElem.mp h i j h1 h2 (by omega)

