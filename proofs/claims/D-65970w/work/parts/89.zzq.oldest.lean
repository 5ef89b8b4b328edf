def XL (x : Ms) (S L : List Ms) : Prop := (∃ p n, L = p ++ x :: n ∧ n.Sublist S) ∨ L.Sublist S
theorem xl_tl {x : Ms} {S L : List Ms} (h : XL x S L) : XL x S (tl95 L) := by
  rcases h with ⟨p, n, e, h⟩ | h
  · subst e
    unfold tl95
    split
    · cases p with
      | nil => exact Or.inr (by simpa using h)
      | cons b p => exact Or.inl ⟨p, n, rfl, h⟩
    · exact Or.inl ⟨p, n, rfl, h⟩
  · refine Or.inr (List.Sublist.trans ?_ h)
    unfold tl95
    split
    · exact List.eraseIdx_sublist _ _
    · exact List.Sublist.refl _
theorem xl_ap {x : Ms} {S L : List Ms} (h : XL x S L) (s : List Ms) : XL x (S ++ s) (L ++ s) := by
  rcases h with ⟨p, n, e, h⟩ | h
  · exact Or.inl ⟨p, n ++ s, by rw [e, List.append_assoc]; rfl, List.Sublist.append h (List.Sublist.refl _)⟩
  · exact Or.inr (List.Sublist.append h (List.Sublist.refl _))
theorem xl_er {w : Int} {x : Ms} {S L : List Ms} {i : Nat} (h : XL x S L) (hi : L.findIdx? (fun m => m.1 == w) = some i) : rdX w x L ∨ XL x S (L.eraseIdx i) := by
  rcases h with ⟨p, n, e, h⟩ | h
  · subst e
    obtain ⟨i0, i1, i2⟩ := List.findIdx?_eq_some_iff_getElem.mp hi
    by_cases c1 : i < p.length
    · exact Or.inr (Or.inl ⟨p.eraseIdx i, n, List.eraseIdx_append_of_lt_length c1 _, h⟩)
    · by_cases c2 : i = p.length
      · left
        subst c2
        have e : (p ++ x :: n)[p.length]? = some x := by rw [List.getElem?_append_right (Nat.le_refl _)]; simp
        refine ⟨?_, p.length, hi, e⟩
        rw [List.getElem_append_right (Nat.le_refl _)] at i1
        simpa using i1
      · right; left
        refine ⟨p, n.eraseIdx (i - p.length - 1), ?_, (List.eraseIdx_sublist _ _).trans h⟩
        rw [List.eraseIdx_append_of_length_le (by omega)]
        obtain ⟨k, hk⟩ : ∃ k, i - p.length = k + 1 := ⟨i - p.length - 1, by omega⟩
        rw [hk, List.eraseIdx_cons_succ]
        rfl
  · exact Or.inr (Or.inr ((List.eraseIdx_sublist _ _).trans h))
theorem xl_rd {w : Int} {x : Ms} {S L L' s : List Ms} (h : XL x S L) (hr : rdop w L L' s) : rdX w x L ∨ XL x (S ++ s) L' := by
  rcases hr with ⟨-, rfl, rfl⟩ | ⟨i, hi, hr⟩
  · exact Or.inr (by rw [List.append_nil]; exact h)
  · rcases xl_er h hi with g | g
    · exact Or.inl g
    · right
      rcases hr with ⟨rfl, rfl⟩ | ⟨y, rfl, rfl⟩
      · rw [List.append_nil]; exact g
      · exact xl_ap (xl_tl g) [y]
theorem xl_ac {x : Ms} {S L L' s : List Ms} (h : XL x S L) (ha : acop L L' s) : XL x (S ++ s) L' := by
  rcases ha with ⟨rfl, rfl⟩ | ⟨y, rfl, rfl⟩ | ⟨y, y', rfl, rfl⟩
  · rw [List.append_nil]; exact h
  · exact xl_ap (xl_tl h) [y]
  · have := xl_ap (xl_tl (xl_ap (xl_tl h) [y])) [y']
    rw [List.append_assoc] at this
    exact this
def XRd (w : Int) (x : Ms) (L L' s : List Ms) : Prop := ∃ L1 L2 L3 s1 s2 s3 s4, rdop w L L1 s1 ∧ rdop w L1 L2 s2 ∧ rdop w L2 L3 s3 ∧ acop L3 L' s4 ∧ s = s1 ++ s2 ++ s3 ++ s4 ∧ (rdX w x L ∨ rdX w x L1 ∨ rdX w x L2)
theorem xl_ts {w : Int} {x : Ms} {S L L' s : List Ms} (h : XL x S L) (ht : TS w L L' s) : XRd w x L L' s ∨ XL x (S ++ s) L' := by
  obtain ⟨L1, L2, L3, s1, s2, s3, s4, h1, h2, h3, h4, e⟩ := ht
  have fin : (rdX w x L ∨ rdX w x L1 ∨ rdX w x L2) → XRd w x L L' s ∨ XL x (S ++ s) L' := fun g => Or.inl ⟨L1, L2, L3, s1, s2, s3, s4, h1, h2, h3, h4, e, g⟩
  rcases xl_rd h h1 with g | g1
  · exact fin (Or.inl g)
  rcases xl_rd g1 h2 with g | g2
  · exact fin (Or.inr (Or.inl g))
  rcases xl_rd g2 h3 with g | g3
  · exact fin (Or.inr (Or.inr g))
  have g4 := xl_ac g3 h4
  right
  rw [e]
  simpa only [List.append_assoc] using g4
theorem xl_run {L : Nat} {τ : Nat → qS} {S : Nat → List Ms} (hS : SND L τ S) {x : Ms} {s : Nat} (h0 : XL x [] (ln (τ s))) : ∀ k, s + k ≤ 7 * L → (∃ j, j < k ∧ x.1 = (((s + j) % 7 : Nat) : Int) ∧ XRd x.1 x (ln (τ (s + j))) (ln (τ (s + j + 1))) (S (s + j))) ∨ XL x (sns S s k) (ln (τ (s + k)))
  | 0, _ => Or.inr h0
  | k + 1, hk => by
    rcases xl_run hS h0 k (by omega) with ⟨j, j1, j2, j3⟩ | ih
    · exact Or.inl ⟨j, by omega, j2, j3⟩
    · rcases xl_ts ih (hS (s + k) (by omega)) with g | g
      · have e : x.1 = (((s + k) % 7 : Nat) : Int) := by
          obtain ⟨L1, L2, L3, s1, s2, s3, s4, -, -, -, -, -, g⟩ := g
          rcases g with g | g | g <;> exact g.1
        refine Or.inl ⟨k, by omega, e, ?_⟩
        rw [e]; exact g
      · exact Or.inr g

