def prA (A : List (Ms × Nat × Nat)) : List Ms := A.map (fun y => y.1)
def tlA (A : List (Ms × Nat × Nat)) : List (Ms × Nat × Nat) := if 95 ≤ A.length then A.eraseIdx 0 else A
theorem pr_len (A : List (Ms × Nat × Nat)) : (prA A).length = A.length := by unfold prA; exact List.length_map _
theorem pr_er : ∀ (A : List (Ms × Nat × Nat)) (i : Nat), prA (A.eraseIdx i) = (prA A).eraseIdx i
  | [], _ => rfl
  | _ :: _, 0 => rfl
  | y :: A, i + 1 => by
    have := pr_er A i
    unfold prA at this ⊢
    simp only [List.eraseIdx_cons_succ, List.map_cons]
    rw [this]
theorem pr_tl (A : List (Ms × Nat × Nat)) : prA (tlA A) = tl95 (prA A) := by
  unfold tlA tl95
  rw [pr_len]
  by_cases c : 95 ≤ A.length
  · rw [if_pos c, if_pos c, pr_er]
  · rw [if_neg c, if_neg c]
theorem pr_ap (A B : List (Ms × Nat × Nat)) : prA (A ++ B) = prA A ++ prA B := by unfold prA; exact List.map_append
theorem pr_get {A : List (Ms × Nat × Nat)} {i : Nat} {x : Ms} (h : (prA A)[i]? = some x) : ∃ y, A[i]? = some y ∧ y.1 = x := by
  unfold prA at h
  rw [List.getElem?_map] at h
  cases e : A[i]? with
  | none => rw [e] at h; cases h
  | some y => rw [e] at h; exact ⟨y, rfl, Option.some.inj h⟩
def RDn (w e : Int) (t : Nat) (A A' : List (Ms × Nat × Nat)) : Prop := ((prA A).findIdx? (fun m => m.1 == w) = none ∧ A' = A) ∨ ∃ (i : Nat) (y : Ms × Nat × Nat), (prA A).findIdx? (fun m => m.1 == w) = some i ∧ A[i]? = some y ∧ (((xw y.1 1 ≠ e ∨ xw y.1 0 ≠ 5) ∧ A' = A.eraseIdx i) ∨ (xw y.1 1 = e ∧ xw y.1 0 = 5 ∧ ∃ z : Ms, z.1 = xw y.1 5 ∧ xw z 0 = 6 ∧ xw z 1 = e ∧ xw z 2 = xw y.1 2 ∧ xw z 3 = xw y.1 4 ∧ xw z 5 = xw y.1 3 ∧ A' = tlA (A.eraseIdx i) ++ [(z, t + 1, y.2.2)]))
theorem RD_an {w : Int} {σ σ' : qS} (h : RD w σ σ') {A : List (Ms × Nat × Nat)} (hA : prA A = ln σ) (t : Nat) : ∃ A', RDn w (σ 31 0) t A A' ∧ prA A' = ln σ' := by
  obtain ⟨-, -, -, c⟩ := h
  rcases c with ⟨c1, c2, -⟩ | ⟨i, x, c1, c2, c⟩
  · exact ⟨A, Or.inl ⟨by rw [hA]; exact c1, rfl⟩, by rw [c2]; exact hA⟩
  · rw [← hA] at c1 c2
    obtain ⟨y, y1, y2⟩ := pr_get c2
    subst y2
    have er : ln σ' = (ln σ).eraseIdx i → prA (A.eraseIdx i) = ln σ' := fun e => by rw [pr_er, hA, e]
    rcases c with ⟨d0, d1, -⟩ | ⟨-, d1, d2, -⟩ | ⟨d0, d1, -, a, kv, d3⟩ | ⟨-, d1, d2, -⟩
    · exact ⟨A.eraseIdx i, Or.inr ⟨i, y, c1, y1, Or.inl ⟨Or.inl d0, rfl⟩⟩, er d1⟩
    · exact ⟨A.eraseIdx i, Or.inr ⟨i, y, c1, y1, Or.inl ⟨Or.inr (by omega), rfl⟩⟩, er d2⟩
    · refine ⟨tlA (A.eraseIdx i) ++ [(((xw y.1 5, [6, σ 31 0, xw y.1 2, xw y.1 4, a, xw y.1 3], kv) : Ms), t + 1, y.2.2)], Or.inr ⟨i, y, c1, y1, Or.inr ⟨d0, d1, ((xw y.1 5, [6, σ 31 0, xw y.1 2, xw y.1 4, a, xw y.1 3], kv) : Ms), rfl, rfl, rfl, rfl, rfl, rfl, rfl⟩⟩, ?_⟩
      rw [pr_ap, pr_tl, pr_er, hA, d3]
      rfl
    · exact ⟨A.eraseIdx i, Or.inr ⟨i, y, c1, y1, Or.inl ⟨Or.inr (by omega), rfl⟩⟩, er d2⟩
def ACn (t : Nat) (A A' : List (Ms × Nat × Nat)) (s : List Ms) : Prop := (A' = A ∧ s = []) ∨ (∃ z : Ms, A' = tlA A ++ [(z, t + 1, t + 1)] ∧ s = [z]) ∨ ∃ z z' : Ms, A' = tlA (tlA A ++ [(z, t + 1, t + 1)]) ++ [(z', t + 1, t + 1)] ∧ s = [z, z']
theorem AC_an {L L' s : List Ms} (h : acop L L' s) {A : List (Ms × Nat × Nat)} (hA : prA A = L) (t : Nat) : ∃ A', ACn t A A' s ∧ prA A' = L' := by
  rcases h with ⟨rfl, e⟩ | ⟨y, rfl, e⟩ | ⟨y, y', rfl, e⟩
  · exact ⟨A, Or.inl ⟨rfl, e⟩, hA⟩
  · exact ⟨_, Or.inr (Or.inl ⟨y, rfl, e⟩), by rw [pr_ap, pr_tl, hA]; rfl⟩
  · exact ⟨_, Or.inr (Or.inr ⟨y, y', rfl, e⟩), by rw [pr_ap, pr_tl, pr_ap, pr_tl, hA]; rfl⟩
def OWN (w : Int) (σ' : qS) (s : List Ms) : Prop := s.countP t5 ≤ fe σ' w ∧ ∀ x ∈ s, (xw x 0 = 5 → xw x 5 = w ∧ xw x 3 = σ' 62 w - 38 ∧ xw x 2 = σ' 64 w ∧ xw x 4 = ps σ' w) ∧ xw x 0 ≠ 6 ∧ xw x 0 ≠ 2 ∧ xw x 1 = σ' 31 0
theorem ACT_own {w : Int} {σ σ' : qS} (h : ACT w σ σ') : ∃ s, acop (ln σ) (ln σ') s ∧ OWN w σ' s := by
  obtain ⟨-, -, hk, c⟩ := h
  have he : σ' 31 0 = σ 31 0 := by rw [hk 31 (by decide)]
  have nl : ln σ' = ln σ → ∃ s, acop (ln σ) (ln σ') s ∧ OWN w σ' s := fun e => ⟨[], Or.inl ⟨e, rfl⟩, by simp, fun x hx => by cases hx⟩
  have tl : ∀ {to ty a b c d : Int}, ty ≠ 5 → ty ≠ 6 → ty ≠ 2 → TL to ty a b c d σ σ' → ∃ s, acop (ln σ) (ln σ') s ∧ OWN w σ' s := fun {to ty a b c d} n5 n6 n2 t => by
    obtain ⟨kv, t⟩ := t
    refine ⟨_, Or.inr (Or.inl ⟨_, t, rfl⟩), ?_, fun x hx => ?_⟩
    · rw [List.countP_cons, List.countP_nil]
      have : t5 ((to, [ty, σ 31 0, a, b, c, d], kv) : Ms) = false := by unfold t5; exact beq_eq_false_iff_ne.mpr n5
      rw [this]; simp
    · rw [List.mem_singleton] at hx
      subst hx
      exact ⟨fun e => absurd e n5, n6, n2, he.symm⟩
  rcases c with ⟨-, -, -, -, c⟩ | ⟨-, c⟩ | ⟨c0, c⟩
  · rcases c with ⟨-, c⟩ | ⟨-, c⟩
    · exact tl (by decide) (by decide) (by decide) c
    · exact nl c
  · rcases c with ⟨-, -, -, a', c⟩ | ⟨-, -, -, ⟨a', c⟩, -⟩ | ⟨-, -, -, c⟩ | ⟨-, -, -, -, -, c⟩
    · exact tl (by decide) (by decide) (by decide) c
    · exact tl (by decide) (by decide) (by decide) c
    · exact tl (by decide) (by decide) (by decide) c
    · exact nl c
  · rcases c with ⟨-, -, -, c⟩ | ⟨-, -, -, -, -, c⟩ | ⟨-, -, -, -, -, c, -⟩ | ⟨-, -, -, -, -, b1, b2, b3, b4, c⟩ | ⟨-, -, -, -, c⟩
    · exact tl (by decide) (by decide) (by decide) c
    · exact nl c
    · exact nl c
    · have f1 : fe σ' w = 1 := by unfold fe; exact if_pos ⟨by rw [b1]; exact c0, b4⟩
      rcases c with ⟨-, -, kv, c⟩ | ⟨-, -, kv, kv', c⟩
      · refine ⟨_, Or.inr (Or.inl ⟨_, c, rfl⟩), by rw [f1]; exact List.countP_le_length, fun x hx => ?_⟩
        rw [List.mem_singleton] at hx
        subst hx
        exact ⟨fun _ => ⟨rfl, by rw [b1]; rfl, by rw [b2]; rfl, by rw [b3]; rfl⟩, (show (5 : Int) ≠ 6 by decide), (show (5 : Int) ≠ 2 by decide), he.symm⟩
      · refine ⟨_, Or.inr (Or.inr ⟨_, _, c, rfl⟩), ?_, fun x hx => ?_⟩
        · rw [f1]; exact Nat.le_refl _
        · rw [List.mem_cons, List.mem_singleton] at hx
          rcases hx with hx | hx
          · subst hx
            exact ⟨fun _ => ⟨rfl, by rw [b1]; rfl, by rw [b2]; rfl, by rw [b3]; rfl⟩, (show (5 : Int) ≠ 6 by decide), (show (5 : Int) ≠ 2 by decide), he.symm⟩
          · subst hx
            exact ⟨fun e => absurd (show (7 : Int) = 5 from e) (by decide), (show (7 : Int) ≠ 6 by decide), (show (7 : Int) ≠ 2 by decide), he.symm⟩
    · rcases c with ⟨-, -, c⟩ | ⟨-, c⟩
      · exact tl (by decide) (by decide) (by decide) c
      · exact tl (by decide) (by decide) (by decide) c
def HRn (t : Nat) (A A' : List (Ms × Nat × Nat)) : Prop := ((prA A).findIdx? (fun m => m.1 == 6) = none ∧ A' = A) ∨ ∃ (i : Nat) (y : Ms × Nat × Nat), (prA A).findIdx? (fun m => m.1 == 6) = some i ∧ A[i]? = some y ∧ (A' = A.eraseIdx i ∨ ∃ z : Ms, xw z 0 = 2 ∧ A' = tlA (A.eraseIdx i) ++ [(z, t + 1, t + 1)])
theorem HR_an {σ σ' : qS} (h : HR σ σ') {A : List (Ms × Nat × Nat)} (hA : prA A = ln σ) (t : Nat) : ∃ A', HRn t A A' ∧ prA A' = ln σ' := by
  obtain ⟨-, -, c⟩ := h
  rcases c with ⟨c1, c2, -⟩ | ⟨i, x, c1, c2, c⟩
  · exact ⟨A, Or.inl ⟨by rw [hA]; exact c1, rfl⟩, by rw [c2]; exact hA⟩
  · rw [← hA] at c1 c2
    obtain ⟨y, y1, y2⟩ := pr_get c2
    have er : ln σ' = (ln σ).eraseIdx i → ∃ A', HRn t A A' ∧ prA A' = ln σ' := fun e => ⟨A.eraseIdx i, Or.inr ⟨i, y, c1, y1, Or.inl rfl⟩, by rw [pr_er, hA, e]⟩
    rcases c with ⟨-, c, -⟩ | ⟨-, -, -, -, fi, en, -, c⟩ | ⟨-, -, c, -⟩ | ⟨-, -, c, -⟩
    · exact er c
    · rcases c with ⟨c, -⟩ | ⟨u, -, -, -, -, -, kv, c⟩
      · exact er c
      · refine ⟨tlA (A.eraseIdx i) ++ [(((xw x 2, [2, σ 31 0, u, 0, 0, 0], kv) : Ms), t + 1, t + 1)], Or.inr ⟨i, y, c1, y1, Or.inr ⟨((xw x 2, [2, σ 31 0, u, 0, 0, 0], kv) : Ms), rfl, rfl⟩⟩, ?_⟩
        rw [pr_ap, pr_tl, pr_er, hA, c]
        rfl
    · exact er c
    · exact er c
def WTn (w : Int) (t : Nat) (σ σ' : qS) (A A' : List (Ms × Nat × Nat)) : Prop := ∃ σ1 σ2 σ3 A1 A2 A3, WD w σ σ1 σ2 σ3 σ' ∧ (prA A = ln σ ∧ prA A1 = ln σ1 ∧ prA A2 = ln σ2 ∧ prA A3 = ln σ3 ∧ prA A' = ln σ') ∧ RDn w (σ 31 0) t A A1 ∧ RDn w (σ1 31 0) t A1 A2 ∧ RDn w (σ2 31 0) t A2 A3 ∧ ∃ s, ACn t A3 A' s ∧ OWN w σ' s
theorem WT_an {w : Int} {σ σ' : qS} (hw : 0 ≤ w ∧ w < 6) (h : WTK w σ σ') {A : List (Ms × Nat × Nat)} (hA : prA A = ln σ) (t : Nat) : ∃ A', WTn w t σ σ' A A' := by
  obtain ⟨σ1, σ2, σ3, r1, r2, r3, a, j, w1, w2, w3, w4⟩ := h
  obtain ⟨A1, b1, c1⟩ := RD_an r1 hA t
  obtain ⟨A2, b2, c2⟩ := RD_an r2 c1 t
  obtain ⟨A3, b3, c3⟩ := RD_an r3 c2 t
  obtain ⟨s, q, q'⟩ := ACT_own a
  obtain ⟨A', b4, c4⟩ := AC_an q c3 t
  exact ⟨A', σ1, σ2, σ3, A1, A2, A3, ⟨r1, r2, r3, a, j, w1, w2, w3, w4⟩, ⟨hA, c1, c2, c3, c4⟩, b1, b2, b3, s, b4, q'⟩
def MTn (t : Nat) (σ σ' : qS) (A A' : List (Ms × Nat × Nat)) : Prop := ∃ σ1 σ2 A1 A2, HR (clk σ) σ1 ∧ HR σ1 σ2 ∧ HR σ2 σ' ∧ (prA A = ln σ ∧ prA A1 = ln σ1 ∧ prA A2 = ln σ2 ∧ prA A' = ln σ') ∧ HRn t A A1 ∧ HRn t A1 A2 ∧ HRn t A2 A'
theorem MT_an {σ σ' : qS} (h : MTK σ σ') {A : List (Ms × Nat × Nat)} (hA : prA A = ln σ) (t : Nat) : ∃ A', MTn t σ σ' A A' := by
  obtain ⟨σ1, σ2, r1, r2, r3, -⟩ := h
  obtain ⟨A1, b1, c1⟩ := HR_an r1 (A := A) (by rw [l_clk]; exact hA) t
  obtain ⟨A2, b2, c2⟩ := HR_an r2 c1 t
  obtain ⟨A3, b3, c3⟩ := HR_an r3 c2 t
  exact ⟨A3, σ1, σ2, A1, A2, r1, r2, r3, ⟨hA, c1, c2, c3⟩, b1, b2, b3⟩
def STn (t : Nat) (σ σ' : qS) (A A' : List (Ms × Nat × Nat)) : Prop := (t % 7 < 6 ∧ WTn ((t % 7 : Nat) : Int) t σ σ' A A') ∨ (t % 7 = 6 ∧ MTn t σ σ' A A')
theorem STn_p {t : Nat} {σ σ' : qS} {A A' : List (Ms × Nat × Nat)} (h : STn t σ σ' A A') : prA A' = ln σ' := by
  rcases h with ⟨-, σ1, σ2, σ3, A1, A2, A3, -, c, -⟩ | ⟨-, σ1, σ2, A1, A2, -, -, -, c, -⟩
  · exact c.2.2.2.2
  · exact c.2.2.2
def ANR (L s0 : Nat) (τ : Nat → qS) (A : Nat → List (Ms × Nat × Nat)) : Prop := A s0 = (ln (τ s0)).map (fun m => (m, s0, s0)) ∧ (∀ t, s0 ≤ t → t ≤ 7 * L → prA (A t) = ln (τ t)) ∧ ∀ t, s0 ≤ t → t < 7 * L → STn t (τ t) (τ (t + 1)) (A t) (A (t + 1))
theorem ANR_ex {L : Nat} {τ : Nat → qS} (h : RNN L τ) {s0 : Nat} (hs : s0 ≤ 7 * L) : ∃ A, ANR L s0 τ A := by
  have key : ∀ n, s0 + n ≤ 7 * L → ∃ A : Nat → List (Ms × Nat × Nat), A s0 = (ln (τ s0)).map (fun m => (m, s0, s0)) ∧ (∀ t, s0 ≤ t → t ≤ s0 + n → prA (A t) = ln (τ t)) ∧ ∀ t, s0 ≤ t → t < s0 + n → STn t (τ t) (τ (t + 1)) (A t) (A (t + 1)) := fun n => by
    induction n with
    | zero =>
      intro _
      refine ⟨fun _ => (ln (τ s0)).map (fun m => (m, s0, s0)), rfl, fun t h1 h2 => ?_, fun t h1 h2 => by omega⟩
      have e : t = s0 := by omega
      subst e
      unfold prA
      rw [List.map_map]
      exact List.map_id _
    | succ n ih =>
      intro hn
      obtain ⟨A, a1, a2, a3⟩ := ih (by omega)
      have p := a2 (s0 + n) (by omega) (by omega)
      obtain ⟨B, hB⟩ : ∃ B, STn (s0 + n) (τ (s0 + n)) (τ (s0 + n + 1)) (A (s0 + n)) B := by
        rcases h.2 (s0 + n) (by omega) with ⟨hw, s⟩ | ⟨e6, s⟩
        · obtain ⟨B, hB⟩ := WT_an hw s p (s0 + n)
          exact ⟨B, Or.inl ⟨by omega, hB⟩⟩
        · obtain ⟨B, hB⟩ := MT_an s p (s0 + n)
          exact ⟨B, Or.inr ⟨by omega, hB⟩⟩
      refine ⟨fun t => if t ≤ s0 + n then A t else B, ?_, fun t h1 h2 => ?_, fun t h1 h2 => ?_⟩
      · show (if s0 ≤ s0 + n then A s0 else B) = _
        rw [if_pos (by omega)]; exact a1
      · show prA (if t ≤ s0 + n then A t else B) = _
        by_cases c : t ≤ s0 + n
        · rw [if_pos c]; exact a2 t h1 c
        · rw [if_neg c, show t = s0 + n + 1 by omega]
          exact STn_p hB
      · show STn t (τ t) (τ (t + 1)) (if t ≤ s0 + n then A t else B) (if t + 1 ≤ s0 + n then A (t + 1) else B)
        by_cases c : t + 1 ≤ s0 + n
        · rw [if_pos c, if_pos (by omega)]; exact a3 t h1 (by omega)
        · rw [if_neg c, if_pos (by omega), show t = s0 + n by omega]
          exact hB
  obtain ⟨A, a1, a2, a3⟩ := key (7 * L - s0) (by omega)
  exact ⟨A, a1, fun t h1 h2 => a2 t h1 (by omega), fun t h1 h2 => a3 t h1 (by omega)⟩

