theorem TL_c {to ty a b c d : Int} {σ σ' : qS} (he : σ' 31 = σ 31) (h : TL to ty a b c d σ σ') (h2 : ty ≠ 2) : ∃ kv : List Pr, acop (ln σ) (ln σ') [(to, [ty, σ 31 0, a, b, c, d], kv)] ∧ ∀ k, gk σ' k ≤ gk σ k := by
  obtain ⟨kv, h⟩ := h
  refine ⟨kv, Or.inr (Or.inl ⟨_, h, rfl⟩), fun k => ?_⟩
  have h1 := cp_tl (isG (σ 31 0) k) (ln σ)
  have h3 : isG (σ 31 0) k ((to, [ty, σ 31 0, a, b, c, d], kv) : Ms) = false := by
    unfold isG
    exact decide_eq_false (fun e => h2 e.2.1)
  unfold gk
  rw [h, he, List.countP_append, List.countP_cons, h3, List.countP_nil]
  simp only [Bool.false_eq_true, if_false]
  omega
def OWC (w : Int) (σ σ' : qS) (s : List Ms) : Prop := (∀ k, 0 ≤ k → s.countP (isD (σ 31 0) k) + (gk σ' k + bk σ' k) ≤ gk σ k + bk σ k) ∧ (∀ k, s.countP (isG (σ 31 0) k) = 0) ∧ ∀ v, s.countP (isA (σ 31 0) v) = 0 ∨ (s.countP (isA (σ 31 0) v) ≤ 1 ∧ v = w ∧ AK w σ')
theorem isD_mk (e to ty a b c d k : Int) (kv : List Pr) : isD e k ((to, [ty, e, a, b, c, d], kv) : Ms) = decide (ty = 3 ∧ b = k) := by
  unfold isD
  exact decide_eq_decide.mpr ⟨fun h => h.2, fun h => ⟨rfl, h⟩⟩
theorem isG_mk (e to ty a b c d k : Int) (kv : List Pr) : isG e k ((to, [ty, e, a, b, c, d], kv) : Ms) = decide (ty = 2 ∧ a = k) := by
  unfold isG
  exact decide_eq_decide.mpr ⟨fun h => h.2, fun h => ⟨rfl, h⟩⟩
theorem isA_mk (e to ty a b c d k : Int) (kv : List Pr) : isA e k ((to, [ty, e, a, b, c, d], kv) : Ms) = decide (ty = 1 ∧ a = k) := by
  unfold isA
  exact decide_eq_decide.mpr ⟨fun h => h.2, fun h => ⟨rfl, h⟩⟩
theorem ACT_c {w : Int} {σ σ' : qS} (hw : 0 ≤ w ∧ w < 6) (h : ACT w σ σ') : ∃ s, acop (ln σ) (ln σ') s ∧ OWC w σ σ' s := by
  obtain ⟨-, ho, hk, c⟩ := h
  have he : σ' 31 = σ 31 := hk _ (by decide)
  have bs : σ' 62 w = σ 62 w → ∀ k, bk σ' k = bk σ k := fun e k => by
    have h1 := bk_o (k := k) hw ho
    have h2 : b1 σ' k w = b1 σ k w := by unfold b1; rw [e]
    omega
  have bf : fgo w σ' → ∀ k, 0 ≤ k → bk σ' k + b1 σ k w = bk σ k := fun f k k0 => by
    have h1 := bk_o (k := k) hw ho
    have h2 : b1 σ' k w = 0 := by unfold b1; rw [f.1, if_neg (by omega)]
    omega
  have none_ : ln σ' = ln σ → (∀ k, 0 ≤ k → bk σ' k ≤ bk σ k) → ∃ s, acop (ln σ) (ln σ') s ∧ OWC w σ σ' s := fun e hb => by
    refine ⟨[], Or.inl ⟨e, rfl⟩, fun k k0 => ?_, fun k => rfl, fun v => Or.inl rfl⟩
    have := hb k k0
    unfold gk
    rw [e, he, List.countP_nil]
    omega
  have dcase : ∀ a, fgo w σ' → TL 6 3 w (σ 62 w) a 0 σ σ' → ∃ s, acop (ln σ) (ln σ') s ∧ OWC w σ σ' s := fun a f t => by
    obtain ⟨kv, t1, t2⟩ := TL_c he t (by decide)
    refine ⟨_, t1, fun k k0 => ?_, fun k => ?_, fun v => Or.inl ?_⟩
    · have h1 := bf f k k0
      have h2 := t2 k
      rw [List.countP_cons, List.countP_nil, isD_mk]
      have h3 : (if decide ((3 : Int) = 3 ∧ σ 62 w = k) = true then 1 else 0) = b1 σ k w := by
        unfold b1
        by_cases e : σ 62 w = k
        · rw [if_pos e, if_pos (decide_eq_true ⟨rfl, e⟩)]
        · rw [if_neg e, if_neg (fun z => e (of_decide_eq_true z).2)]
      rw [h3]
      omega
    · rw [List.countP_cons, List.countP_nil, isG_mk]
      rw [if_neg (fun z => absurd (of_decide_eq_true z).1 (by decide))]
    · rw [List.countP_cons, List.countP_nil, isA_mk]
      rw [if_neg (fun z => absurd (of_decide_eq_true z).1 (by decide))]
  have ocase : ∀ to ty a b c d, ty ≠ 1 → ty ≠ 2 → ty ≠ 3 → (∀ k, 0 ≤ k → bk σ' k ≤ bk σ k) → TL to ty a b c d σ σ' → ∃ s, acop (ln σ) (ln σ') s ∧ OWC w σ σ' s := fun to ty a b c d n1 n2 n3 hb t => by
    obtain ⟨kv, t1, t2⟩ := TL_c he t n2
    refine ⟨_, t1, fun k k0 => ?_, fun k => ?_, fun v => Or.inl ?_⟩
    · have h1 := hb k k0
      have h2 := t2 k
      rw [List.countP_cons, List.countP_nil, isD_mk, if_neg (fun z => n3 (of_decide_eq_true z).1)]
      omega
    · rw [List.countP_cons, List.countP_nil, isG_mk, if_neg (fun z => n2 (of_decide_eq_true z).1)]
    · rw [List.countP_cons, List.countP_nil, isA_mk, if_neg (fun z => n1 (of_decide_eq_true z).1)]
  have bfl : fgo w σ' → ∀ k, 0 ≤ k → bk σ' k ≤ bk σ k := fun f k k0 => by have := bf f k k0; omega
  rcases c with ⟨c1, -, c2, c3, c4⟩ | ⟨c0, c⟩ | ⟨c0, c⟩
  · have hb := bs (by rw [c2, c1])
    rcases c4 with ⟨a0, c4⟩ | ⟨-, c4⟩
    · obtain ⟨kv, t1, t2⟩ := TL_c he c4 (by decide)
      refine ⟨_, t1, fun k k0 => ?_, fun k => ?_, fun v => ?_⟩
      · have h1 := hb k
        have h2 := t2 k
        rw [List.countP_cons, List.countP_nil, isD_mk, if_neg (fun z => absurd (of_decide_eq_true z).1 (by decide))]
        omega
      · rw [List.countP_cons, List.countP_nil, isG_mk, if_neg (fun z => absurd (of_decide_eq_true z).1 (by decide))]
      · rw [List.countP_cons, List.countP_nil, isA_mk]
        by_cases e : w = v
        · refine Or.inr ⟨by split <;> omega, e.symm, c2, ?_⟩
          rw [c3, a0]; rfl
        · exact Or.inl (by rw [if_neg (fun z => e (of_decide_eq_true z).2)])
    · exact none_ c4 (fun k _ => by rw [hb k]; exact Nat.le_refl _)
  · rcases c with ⟨-, -, f, a, c⟩ | ⟨-, f, -, ⟨a, c⟩, -⟩ | ⟨-, -, f, c⟩ | ⟨-, -, c1, -, -, c2⟩
    · exact dcase a f c
    · exact dcase a f c
    · exact ocase _ _ _ _ _ _ (by decide) (by decide) (by decide) (bfl f) c
    · exact none_ c2 (fun k _ => by rw [bs c1 k]; exact Nat.le_refl _)
  · rcases c with ⟨-, -, f, c⟩ | ⟨-, -, -, -, f, c⟩ | ⟨-, -, -, -, -, c, c1, -⟩ | ⟨-, -, -, -, -, c1, -, -, -, c⟩ | ⟨-, -, f, -, c⟩
    · exact dcase 0 f c
    · exact none_ c (bfl f)
    · exact none_ c (fun k _ => by rw [bs c1 k]; exact Nat.le_refl _)
    · rcases c with ⟨-, -, c⟩ | ⟨-, -, kv, kv', c⟩
      · exact ocase _ _ _ _ _ _ (by decide) (by decide) (by decide) (fun k _ => by rw [bs c1 k]; exact Nat.le_refl _) c
      · refine ⟨_, Or.inr (Or.inr ⟨_, _, c, rfl⟩), fun k k0 => ?_, fun k => ?_, fun v => Or.inl ?_⟩
        · have h1 := bs c1 k
          have h2 := cp_tl (isG (σ 31 0) k) (ln σ)
          have h3 := cp_tl (isG (σ 31 0) k) (tl95 (ln σ) ++ [(σ 33 (σ 64 w), [5, σ 31 0, σ 64 w, σ 62 w - 38, ps σ w, w], kv)])
          rw [List.countP_append, List.countP_cons, List.countP_nil, isG_mk, if_neg (fun z => absurd (of_decide_eq_true z).1 (by decide))] at h3
          rw [List.countP_cons, List.countP_cons, List.countP_nil, isD_mk, isD_mk, if_neg (fun z => absurd (of_decide_eq_true z).1 (by decide)), if_neg (fun z => absurd (of_decide_eq_true z).1 (by decide))]
          unfold gk
          rw [c, he, List.countP_append, List.countP_cons, List.countP_nil, isG_mk, if_neg (fun z => absurd (of_decide_eq_true z).1 (by decide))]
          omega
        · rw [List.countP_cons, List.countP_cons, List.countP_nil, isG_mk, isG_mk, if_neg (fun z => absurd (of_decide_eq_true z).1 (by decide)), if_neg (fun z => absurd (of_decide_eq_true z).1 (by decide))]
        · rw [List.countP_cons, List.countP_cons, List.countP_nil, isA_mk, isA_mk, if_neg (fun z => absurd (of_decide_eq_true z).1 (by decide)), if_neg (fun z => absurd (of_decide_eq_true z).1 (by decide))]
    · rcases c with ⟨-, -, c⟩ | ⟨-, c⟩
      · exact dcase 0 f c
      · exact ocase _ _ _ _ _ _ (by decide) (by decide) (by decide) (bfl f) c

