theorem tl_len (L : List Ms) : (tl95 L).length ≤ L.length ∧ (95 ≤ L.length → (tl95 L).length + 1 = L.length) := by
  unfold tl95
  by_cases c : 95 ≤ L.length
  · rw [if_pos c]
    have : (L.eraseIdx 0).length = L.length - 1 := List.length_eraseIdx_of_lt (by omega)
    omega
  · rw [if_neg c]; omega
theorem rd_95 {w : Int} {L L' s : List Ms} (h : rdop w L L' s) (hl : L.length ≤ 96) : (L'.length ≤ 95) ∨ (L' = L ∧ L.findIdx? (fun m => m.1 == w) = none) := by
  rcases h with ⟨h1, h2, -⟩ | ⟨i, h1, h2⟩
  · exact Or.inr ⟨h2, h1⟩
  · obtain ⟨i0, -, -⟩ := List.findIdx?_eq_some_iff_getElem.mp h1
    have e : (L.eraseIdx i).length = L.length - 1 := List.length_eraseIdx_of_lt i0
    refine Or.inl ?_
    rcases h2 with ⟨rfl, -⟩ | ⟨y, rfl, -⟩
    · omega
    · have := tl_len (L.eraseIdx i)
      rw [List.length_append, List.length_singleton]
      omega
theorem rd_95' {w : Int} {L L' s : List Ms} (h : rdop w L L' s) (hl : L.length ≤ 95) : L'.length ≤ 95 := by
  rcases rd_95 h (by omega) with h | ⟨rfl, -⟩
  · exact h
  · exact hl
theorem ac_95 {L L' s : List Ms} (h : acop L L' s) (hl : L.length ≤ 95) : L'.length ≤ 95 := by
  rcases h with ⟨rfl, -⟩ | ⟨y, rfl, -⟩ | ⟨y, y', rfl, -⟩
  · exact hl
  · have := tl_len L
    rw [List.length_append, List.length_singleton]; omega
  · have h1 := tl_len L
    have h2 := tl_len (tl95 L ++ [y])
    rw [List.length_append, List.length_singleton] at h2 ⊢
    omega
theorem ts_95 {w : Int} {L L' s : List Ms} (h : TS w L L' s) (hl : L.length ≤ 95) : L'.length ≤ 95 := by
  obtain ⟨L1, L2, L3, s1, s2, s3, s4, h1, h2, h3, h4, -⟩ := h
  exact ac_95 h4 (rd_95' h3 (rd_95' h2 (rd_95' h1 hl)))
theorem ts_96 {w : Int} {L L' s : List Ms} (h : TS w L L' s) (hl : L.length ≤ 96) : L'.length ≤ 95 ∨ (L.findIdx? (fun m => m.1 == w) = none ∧ acop L L' (s.drop 0) ∨ L.findIdx? (fun m => m.1 == w) = none ∧ ∃ s', acop L L' s') := by
  obtain ⟨L1, L2, L3, s1, s2, s3, s4, h1, h2, h3, h4, -⟩ := h
  rcases rd_95 h1 hl with e | ⟨rfl, n1⟩
  · exact Or.inl (ac_95 h4 (rd_95' h3 (rd_95' h2 e)))
  · rcases rd_95 h2 hl with e | ⟨rfl, -⟩
    · exact Or.inl (ac_95 h4 (rd_95' h3 e))
    · rcases rd_95 h3 hl with e | ⟨rfl, -⟩
      · exact Or.inl (ac_95 h4 e)
      · exact Or.inr (Or.inr ⟨n1, s4, h4⟩)
theorem tl_drop (L : List Ms) : (L.drop 1).Sublist (tl95 L) := by
  unfold tl95
  split
  · rw [List.eraseIdx_zero, List.drop_one]; exact List.Sublist.refl _
  · exact List.drop_sublist 1 L
theorem ac_drop {L L' s : List Ms} (h : acop L L' s) : (L.drop 2).Sublist L' := by
  have a1 : (L.drop 2).Sublist L := List.drop_sublist 2 L
  have a2 : (L.drop 2).Sublist (tl95 L) := by
    have : L.drop 2 = (L.drop 1).drop 1 := by rw [List.drop_drop]
    rw [this]
    exact (List.drop_sublist 1 _).trans (tl_drop L)
  rcases h with ⟨rfl, -⟩ | ⟨y, rfl, -⟩ | ⟨y, y', rfl, -⟩
  · exact a1
  · exact a2.trans (List.sublist_append_left _ _)
  · have h1 : ((L.drop 1).drop 1).Sublist ((tl95 L ++ [y]).drop 1) := ((tl_drop L).trans (List.sublist_append_left _ [y])).drop 1
    rw [List.drop_drop] at h1
    exact (h1.trans (tl_drop _)).trans (List.sublist_append_left _ _)
theorem run_95 {L : Nat} {τ : Nat → qS} (h : RNN L τ) (hL : 1 ≤ L) {t : Nat} (h1 : 7 ≤ t) (h2 : t ≤ 7 * L) : (ln (τ t)).length ≤ 95 := by
  obtain ⟨S, hS⟩ := SND_ex h
  have le96 : ∀ t, t ≤ 7 * L → (ln (τ t)).length ≤ 96 := fun t ht => by
    have := (h.1 t ht).1.2.2.1
    unfold lok at this
    rw [ln_len]; omega
  have keep : ∀ a b, a + b ≤ 7 * L → (ln (τ a)).length ≤ 95 → (ln (τ (a + b))).length ≤ 95 := fun a b => by
    induction b with
    | zero => exact fun _ e => e
    | succ b ih => exact fun hb e => ts_95 (hS (a + b) (by omega)) (ih (by omega) e)
  by_cases hx : (ln (τ 7)).length ≤ 95
  · have := keep 7 (t - 7) (by omega) hx
    rw [show 7 + (t - 7) = t by omega] at this
    exact this
  exfalso
  have full : ∀ k, k ≤ 7 → ¬ (ln (τ k)).length ≤ 95 := fun k hk e => by
    have := keep k (7 - k) (by omega) e
    rw [show k + (7 - k) = 7 by omega] at this
    exact hx this
  have step : ∀ k, k < 7 → (ln (τ k)).findIdx? (fun m => m.1 == ((k % 7 : Nat) : Int)) = none ∧ ((ln (τ k)).drop 2).Sublist (ln (τ (k + 1))) := fun k hk => by
    rcases ts_96 (hS k (by omega)) (le96 k (by omega)) with e | e | e
    · exact absurd e (full (k + 1) (by omega))
    · exact ⟨e.1, ac_drop e.2⟩
    · obtain ⟨e1, s', e2⟩ := e
      exact ⟨e1, ac_drop e2⟩
  have sub : ∀ k, k ≤ 7 → ((ln (τ 0)).drop (2 * k)).Sublist (ln (τ k)) := fun k => by
    induction k with
    | zero => exact fun _ => List.drop_sublist _ _
    | succ k ih =>
      intro hk
      have h3 := (ih (by omega)).drop 2
      rw [List.drop_drop] at h3
      rw [show 2 * (k + 1) = 2 * k + 2 by omega]
      exact h3.trans (step k (by omega)).2
  have l0 : 96 ≤ (ln (τ 0)).length := by have := full 0 (by omega); omega
  have hd : ((ln (τ 0)).drop 14).length ≠ 0 := by rw [List.length_drop]; omega
  obtain ⟨x, hxm⟩ : ∃ x, x ∈ (ln (τ 0)).drop 14 := by
    cases e : (ln (τ 0)).drop 14 with
    | nil => rw [e] at hd; exact absurd rfl hd
    | cons a M => exact ⟨a, List.mem_cons_self⟩
  have hr := ((h.1 0 (by omega)).1.2.2.2.2.2.2.2.1 x ((List.drop_sublist 14 _).subset hxm)).1.2
  have hw : x.1.toNat < 7 := by omega
  have hm : x ∈ ln (τ x.1.toNat) := by
    apply (sub x.1.toNat (by omega)).subset
    have e : (ln (τ 0)).drop 14 = ((ln (τ 0)).drop (2 * x.1.toNat)).drop (14 - 2 * x.1.toNat) := by
      rw [List.drop_drop]
      congr 1
      omega
    rw [e] at hxm
    exact (List.drop_sublist _ _).subset hxm
  have hn := List.findIdx?_eq_none_iff.mp (step x.1.toNat hw).1 x hm
  rw [show ((x.1.toNat % 7 : Nat) : Int) = x.1 by omega] at hn
  rw [beq_self_eq_true] at hn
  cases hn

