-- own letters of a stamped tick: at most ow of them, and a FETCH in a FETCH tick
def OW2 (w : Int) (σ' : qS) (s : List Ms) : Prop := s.length ≤ ow σ' w ∧ (fe σ' w = 1 → ∃ z r, s = z :: r ∧ xw z 0 = 5 ∧ z.1 = σ' 33 (σ' 64 w) ∧ xw z 5 = w)
theorem ACT_own2 {w : Int} {σ σ' : qS} (hj : jobok σ) (hr : 38 ≤ σ 62 w → (0 ≤ σ 65 w ∧ σ 65 w ≤ 13) ∧ (0 ≤ σ 66 w ∧ σ 66 w < 12) ∧ (σ 65 w = 0 → σ 66 w = 0)) (h : ACT w σ σ') : ∃ s, acop (ln σ) (ln σ') s ∧ OWN w σ' s ∧ OW2 w σ' s := by
  have hsp := spl_b hj
  obtain ⟨-, -, hk, c⟩ := h
  have he : σ' 31 0 = σ 31 0 := by rw [hk 31 (by decide)]
  have hb : σ' 33 = σ 33 := hk 33 (by decide)
  have n38 : ¬ 38 ≤ σ' 62 w → ow σ' w = 1 := fun e => by
    unfold ow; rw [if_neg (fun z => e z.1), if_neg (fun z => e z.1)]
  have f38 : ¬ 38 ≤ σ' 62 w → fe σ' w ≠ 1 := fun e => by
    unfold fe; rw [if_neg (fun z => e z.1)]; decide
  have fg : fgo w σ' → ¬ 38 ≤ σ' 62 w := fun f => by have := f.1; omega
  have nl : ln σ' = ln σ → fe σ' w ≠ 1 → ∃ s, acop (ln σ) (ln σ') s ∧ OWN w σ' s ∧ OW2 w σ' s := fun e ef => ⟨[], Or.inl ⟨e, rfl⟩, ⟨by simp, fun x hx => by cases hx⟩, Nat.zero_le _, fun q => absurd q ef⟩
  have tl : ∀ {to ty a b c d : Int}, ¬ 38 ≤ σ' 62 w → ty ≠ 5 → ty ≠ 6 → ty ≠ 2 → TL to ty a b c d σ σ' → ∃ s, acop (ln σ) (ln σ') s ∧ OWN w σ' s ∧ OW2 w σ' s := fun {to ty a b c d} ho n5 n6 n2 t => by
    obtain ⟨kv, t⟩ := t
    refine ⟨_, Or.inr (Or.inl ⟨_, t, rfl⟩), ⟨?_, fun x hx => ?_⟩, by rw [List.length_singleton, n38 ho]; exact Nat.le_refl _, fun q => absurd q (f38 ho)⟩
    · rw [List.countP_cons, List.countP_nil]
      have : t5 ((to, [ty, σ 31 0, a, b, c, d], kv) : Ms) = false := by unfold t5; exact beq_eq_false_iff_ne.mpr n5
      rw [this]; simp
    · rw [List.mem_singleton] at hx
      subst hx
      exact ⟨fun e => absurd e n5, n6, n2, he.symm⟩
  rcases c with ⟨-, -, c1, -, c⟩ | ⟨c0, c⟩ | ⟨c0, c⟩
  · have k1 : ¬ 38 ≤ σ' 62 w := by omega
    rcases c with ⟨-, c⟩ | ⟨-, c⟩
    · exact tl k1 (by decide) (by decide) (by decide) c
    · exact nl c (f38 k1)
  · rcases c with ⟨-, -, f, a', c⟩ | ⟨-, f, -, ⟨a', c⟩, -⟩ | ⟨-, -, f, c⟩ | ⟨-, -, c1, -, -, c⟩
    · exact tl (fg f) (by decide) (by decide) (by decide) c
    · exact tl (fg f) (by decide) (by decide) (by decide) c
    · exact tl (fg f) (by decide) (by decide) (by decide) c
    · exact nl c (f38 (by omega))
  · obtain ⟨r1, r2, r3⟩ := hr c0
    rcases c with ⟨-, -, f, c⟩ | ⟨-, -, -, -, f, c⟩ | ⟨-, -, -, ⟨a0, a1⟩, -, c, -, -, -, -, a2⟩ | ⟨-, -, -, -, -, b1, b2, b3, b4, c⟩ | ⟨-, -, f, -, c⟩
    · exact tl (fg f) (by decide) (by decide) (by decide) c
    · exact nl c (f38 (fg f))
    · refine nl c ?_
      unfold fe
      rw [if_neg (fun z => by omega)]
      decide
    · have f1 : fe σ' w = 1 := by unfold fe; exact if_pos ⟨by rw [b1]; exact c0, b4⟩
      rcases c with ⟨-, -, kv, c⟩ | ⟨-, c7, kv, kv', c⟩
      · refine ⟨_, Or.inr (Or.inl ⟨_, c, rfl⟩), ⟨by rw [f1]; exact List.countP_le_length, fun x hx => ?_⟩, ?_, fun _ => ⟨_, _, rfl, rfl, ?_, rfl⟩⟩
        · rw [List.mem_singleton] at hx
          subst hx
          exact ⟨fun _ => ⟨rfl, by rw [b1]; rfl, by rw [b2]; rfl, by rw [b3]; rfl⟩, (show (5 : Int) ≠ 6 by decide), (show (5 : Int) ≠ 2 by decide), he.symm⟩
        · rw [List.length_singleton]
          unfold ow
          rw [if_neg (fun z => by omega)]
          split <;> omega
        · rw [hb, b2]
      · refine ⟨_, Or.inr (Or.inr ⟨_, _, c, rfl⟩), ⟨?_, fun x hx => ?_⟩, ?_, fun _ => ⟨_, _, rfl, rfl, ?_, rfl⟩⟩
        · rw [f1]; exact Nat.le_refl _
        · rw [List.mem_cons, List.mem_singleton] at hx
          rcases hx with hx | hx
          · subst hx
            exact ⟨fun _ => ⟨rfl, by rw [b1]; rfl, by rw [b2]; rfl, by rw [b3]; rfl⟩, (show (5 : Int) ≠ 6 by decide), (show (5 : Int) ≠ 2 by decide), he.symm⟩
          · subst hx
            exact ⟨fun e => absurd (show (7 : Int) = 5 from e) (by decide), (show (7 : Int) ≠ 6 by decide), (show (7 : Int) ≠ 2 by decide), he.symm⟩
        · unfold ow
          rw [if_neg (fun z => by omega), if_pos ⟨by omega, b4, c7⟩]
          exact Nat.le_refl _
        · rw [hb, b2]
    · rcases c with ⟨-, -, c⟩ | ⟨-, c⟩
      · exact tl (fg f) (by decide) (by decide) (by decide) c
      · exact tl (fg f) (by decide) (by decide) (by decide) c
def WTn2 (w : Int) (t : Nat) (σ σ' : qS) (A A' : List (Ms × Nat × Nat)) : Prop := ∃ σ1 σ2 σ3 A1 A2 A3, (WD w σ σ1 σ2 σ3 σ' ∧ (prA A = ln σ ∧ prA A1 = ln σ1 ∧ prA A2 = ln σ2 ∧ prA A3 = ln σ3 ∧ prA A' = ln σ') ∧ RDn w (σ 31 0) t A A1 ∧ RDn w (σ1 31 0) t A1 A2 ∧ RDn w (σ2 31 0) t A2 A3 ∧ ∃ s, ACn t A3 A' s ∧ OWN w σ' s) ∧ ∃ s, ACn t A3 A' s ∧ OW2 w σ' s
theorem WT_an2 {w : Int} {σ σ' : qS} (hw : 0 ≤ w ∧ w < 6) (hat : AT σ w) (h : WTK w σ σ') {A : List (Ms × Nat × Nat)} (hA : prA A = ln σ) (t : Nat) : ∃ A', WTn2 w t σ σ' A A' := by
  obtain ⟨σ1, σ2, σ3, r1, r2, r3, a, j, w1, w2, w3, w4⟩ := h
  obtain ⟨A1, b1, c1⟩ := RD_an r1 hA t
  obtain ⟨A2, b2, c2⟩ := RD_an r2 c1 t
  obtain ⟨A3, b3, c3⟩ := RD_an r3 c2 t
  obtain ⟨s, q, q', q''⟩ := ACT_own2 j.2.2.1.1 (hr_of j.2.2.1 hw w3 (RD_AT r3 (RD_AT r2 (RD_AT r1 hat)))) a
  obtain ⟨A', b4, c4⟩ := AC_an q c3 t
  exact ⟨A', σ1, σ2, σ3, A1, A2, A3, ⟨⟨r1, r2, r3, a, j, w1, w2, w3, w4⟩, ⟨hA, c1, c2, c3, c4⟩, b1, b2, b3, s, b4, q'⟩, s, b4, q''⟩
def STn2 (t : Nat) (σ σ' : qS) (A A' : List (Ms × Nat × Nat)) : Prop := (t % 7 < 6 ∧ WTn2 ((t % 7 : Nat) : Int) t σ σ' A A') ∨ (t % 7 = 6 ∧ MTn t σ σ' A A')
theorem STn2_n {t : Nat} {σ σ' : qS} {A A' : List (Ms × Nat × Nat)} (h : STn2 t σ σ' A A') : STn t σ σ' A A' := by
  rcases h with ⟨e, σ1, σ2, σ3, A1, A2, A3, c, -⟩ | h
  · exact Or.inl ⟨e, σ1, σ2, σ3, A1, A2, A3, c⟩
  · exact Or.inr h
theorem ANR2_ex {L : Nat} {τ : Nat → qS} (h : RNN L τ) {s0 : Nat} (h7 : 7 ≤ s0) (hs : s0 ≤ 7 * L) : ∃ A : Nat → List (Ms × Nat × Nat), ANR L s0 τ A ∧ ∀ t, s0 ≤ t → t < 7 * L → STn2 t (τ t) (τ (t + 1)) (A t) (A (t + 1)) := by
  have key : ∀ n, s0 + n ≤ 7 * L → ∃ A : Nat → List (Ms × Nat × Nat), A s0 = (ln (τ s0)).map (fun m => (m, s0, s0)) ∧ (∀ t, s0 ≤ t → t ≤ s0 + n → prA (A t) = ln (τ t)) ∧ ∀ t, s0 ≤ t → t < s0 + n → STn2 t (τ t) (τ (t + 1)) (A t) (A (t + 1)) := fun n => by
    induction n with
    | zero =>
      intro _
      refine ⟨fun _ => (ln (τ s0)).map (fun m => (m, s0, s0)), rfl, fun t h1 h2 => ?_, fun t h1 h2 => by omega⟩
      have e : t = s0 := by omega
      subst e
      unfold prA
      rw [List.map_map]
      exact List.map_id _
    | succ n ih =>
      intro hn
      obtain ⟨A, a1, a2, a3⟩ := ih (by omega)
      have p := a2 (s0 + n) (by omega) (by omega)
      obtain ⟨B, hB⟩ : ∃ B, STn2 (s0 + n) (τ (s0 + n)) (τ (s0 + n + 1)) (A (s0 + n)) B := by
        rcases h.2 (s0 + n) (by omega) with ⟨hw, s⟩ | ⟨e6, s⟩
        · obtain ⟨B, hB⟩ := WT_an2 hw (run_AT7 h (w := (s0 + n) % 7) (by omega) (t := s0 + n) (by omega) (by omega)) s p (s0 + n)
          exact ⟨B, Or.inl ⟨by omega, hB⟩⟩
        · obtain ⟨B, hB⟩ := MT_an s p (s0 + n)
          exact ⟨B, Or.inr ⟨by omega, hB⟩⟩
      refine ⟨fun t => if t ≤ s0 + n then A t else B, ?_, fun t h1 h2 => ?_, fun t h1 h2 => ?_⟩
      · show (if s0 ≤ s0 + n then A s0 else B) = _
        rw [if_pos (by omega)]; exact a1
      · show prA (if t ≤ s0 + n then A t else B) = _
        by_cases c : t ≤ s0 + n
        · rw [if_pos c]; exact a2 t h1 c
        · rw [if_neg c, show t = s0 + n + 1 by omega]
          exact STn_p (STn2_n hB)
      · show STn2 t (τ t) (τ (t + 1)) (if t ≤ s0 + n then A t else B) (if t + 1 ≤ s0 + n then A (t + 1) else B)
        by_cases c : t + 1 ≤ s0 + n
        · rw [if_pos c, if_pos (by omega)]; exact a3 t h1 (by omega)
        · rw [if_neg c, if_pos (by omega), show t = s0 + n by omega]
          exact hB
  obtain ⟨A, a1, a2, a3⟩ := key (7 * L - s0) (by omega)
  exact ⟨A, ⟨a1, fun t h1 h2 => a2 t h1 (by omega), fun t h1 h2 => STn2_n (a3 t h1 (by omega))⟩, fun t h1 h2 => a3 t h1 (by omega)⟩
def ANC2 (L s0 : Nat) (τ : Nat → qS) (A : Nat → List (Ms × Nat × Nat)) (ρ : Nat → qS × qS × qS) (B : Nat → List (Ms × Nat × Nat) × List (Ms × Nat × Nat) × List (Ms × Nat × Nat)) : Prop := ANC L s0 τ A ρ B ∧ ∀ t, s0 ≤ t → t < 7 * L → t % 7 < 6 → ∃ s, ACn t (B t).2.2 (A (t + 1)) s ∧ OW2 ((t % 7 : Nat) : Int) (τ (t + 1)) s
theorem ANC2_ex {L : Nat} {τ : Nat → qS} (h : RNN L τ) {s0 : Nat} (h7 : 7 ≤ s0) (hs : s0 ≤ 7 * L) : ∃ A ρ B, ANC2 L s0 τ A ρ B := by
  obtain ⟨A, hA, hA2⟩ := ANR2_ex h h7 hs
  have key : ∀ t, ∃ q : (qS × qS × qS) × (List (Ms × Nat × Nat) × List (Ms × Nat × Nat) × List (Ms × Nat × Nat)), s0 ≤ t → t < 7 * L → t % 7 < 6 → WTc ((t % 7 : Nat) : Int) t (τ t) (τ (t + 1)) (A t) (A (t + 1)) q.1 q.2 ∧ ∃ s, ACn t q.2.2.2 (A (t + 1)) s ∧ OW2 ((t % 7 : Nat) : Int) (τ (t + 1)) s := fun t => by
    by_cases c : s0 ≤ t ∧ t < 7 * L ∧ t % 7 < 6
    · rcases hA2 t c.1 c.2.1 with ⟨-, σ1, σ2, σ3, A1, A2, A3, ⟨a, b, r1, r2, r3, d⟩, d2⟩ | ⟨e, -⟩
      · exact ⟨((σ1, σ2, σ3), (A1, A2, A3)), fun _ _ _ => ⟨⟨a, b, r1, r2, r3, d⟩, d2⟩⟩
      · omega
    · exact ⟨((τ 0, τ 0, τ 0), ([], [], [])), fun h1 h2 h3 => absurd ⟨h1, h2, h3⟩ c⟩
  refine ⟨A, fun t => (Classical.choose (key t)).1, fun t => (Classical.choose (key t)).2, ⟨hA, fun t h1 h2 h3 => (Classical.choose_spec (key t) h1 h2 h3).1⟩, fun t h1 h2 h3 => (Classical.choose_spec (key t) h1 h2 h3).2⟩

