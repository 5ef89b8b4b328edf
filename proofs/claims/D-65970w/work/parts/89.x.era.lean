theorem RD_e {w : Int} {σ σ' : qS} (h : RD w σ σ') : ∃ s, rdop w (ln σ) (ln σ') s ∧ ∀ x ∈ s, xw x 1 = σ 31 0 := by
  obtain ⟨-, -, -, c⟩ := h
  have nl : ∀ x ∈ ([] : List Ms), xw x 1 = σ 31 0 := fun x hx => absurd hx (by simp)
  rcases c with ⟨c1, c2, -⟩ | ⟨i, x, c1, -, c⟩
  · exact ⟨[], Or.inl ⟨c1, c2, rfl⟩, nl⟩
  · rcases c with ⟨-, c, -⟩ | ⟨-, -, c, -⟩ | ⟨-, -, -, a, kv, c⟩ | ⟨-, -, c, -⟩
    · exact ⟨[], Or.inr ⟨i, c1, Or.inl ⟨c, rfl⟩⟩, nl⟩
    · exact ⟨[], Or.inr ⟨i, c1, Or.inl ⟨c, rfl⟩⟩, nl⟩
    · exact ⟨_, Or.inr ⟨i, c1, Or.inr ⟨_, c, rfl⟩⟩, fun y hy => by rw [List.mem_singleton.mp hy]; rfl⟩
    · exact ⟨[], Or.inr ⟨i, c1, Or.inl ⟨c, rfl⟩⟩, nl⟩
theorem TL_e {to ty a b c d : Int} {σ σ' : qS} (h : TL to ty a b c d σ σ') : ∃ s, acop (ln σ) (ln σ') s ∧ ∀ x ∈ s, xw x 1 = σ 31 0 := by
  obtain ⟨kv, h⟩ := h
  exact ⟨_, Or.inr (Or.inl ⟨_, h, rfl⟩), fun y hy => by rw [List.mem_singleton.mp hy]; rfl⟩
theorem ACT_e {w : Int} {σ σ' : qS} (h : ACT w σ σ') : ∃ s, acop (ln σ) (ln σ') s ∧ ∀ x ∈ s, xw x 1 = σ 31 0 := by
  obtain ⟨-, -, -, c⟩ := h
  have nl : ln σ' = ln σ → ∃ s, acop (ln σ) (ln σ') s ∧ ∀ x ∈ s, xw x 1 = σ 31 0 := fun e => ⟨[], Or.inl ⟨e, rfl⟩, fun x hx => absurd hx (by simp)⟩
  rcases c with ⟨-, -, -, -, c⟩ | ⟨-, c⟩ | ⟨-, c⟩
  · rcases c with ⟨-, c⟩ | ⟨-, c⟩
    · exact TL_e c
    · exact nl c
  · rcases c with ⟨-, -, -, a, c⟩ | ⟨-, -, -, ⟨a, c⟩, -⟩ | ⟨-, -, -, c⟩ | ⟨-, -, -, -, -, c⟩
    · exact TL_e c
    · exact TL_e c
    · exact TL_e c
    · exact nl c
  · rcases c with ⟨-, -, -, c⟩ | ⟨-, -, -, -, -, c⟩ | ⟨-, -, -, -, -, c, -⟩ | ⟨-, -, -, -, -, -, -, -, -, c⟩ | ⟨-, -, -, -, c⟩
    · exact TL_e c
    · exact nl c
    · exact nl c
    · rcases c with ⟨-, -, c⟩ | ⟨-, -, kv, kv', c⟩
      · exact TL_e c
      · refine ⟨_, Or.inr (Or.inr ⟨_, _, c, rfl⟩), fun y hy => ?_⟩
        rcases List.mem_cons.mp hy with rfl | hy
        · rfl
        · rw [List.mem_singleton.mp hy]; rfl
    · rcases c with ⟨-, -, c⟩ | ⟨-, c⟩
      · exact TL_e c
      · exact TL_e c
theorem HR_e {σ σ' : qS} (h : HR σ σ') : ∃ s, rdop 6 (ln σ) (ln σ') s ∧ ∀ x ∈ s, xw x 1 = σ 31 0 := by
  obtain ⟨-, -, c⟩ := h
  have nl : ∀ x ∈ ([] : List Ms), xw x 1 = σ 31 0 := fun x hx => absurd hx (by simp)
  rcases c with ⟨c1, c2, -⟩ | ⟨i, x, c1, -, c⟩
  · exact ⟨[], Or.inl ⟨c1, c2, rfl⟩, nl⟩
  · rcases c with ⟨-, c, -⟩ | ⟨-, -, -, -, fi, en, -, c⟩ | ⟨-, -, c, -⟩ | ⟨-, -, c, -⟩
    · exact ⟨[], Or.inr ⟨i, c1, Or.inl ⟨c, rfl⟩⟩, nl⟩
    · rcases c with ⟨c, -⟩ | ⟨t, -, -, -, -, -, kv, c⟩
      · exact ⟨[], Or.inr ⟨i, c1, Or.inl ⟨c, rfl⟩⟩, nl⟩
      · exact ⟨_, Or.inr ⟨i, c1, Or.inr ⟨_, c, rfl⟩⟩, fun y hy => by rw [List.mem_singleton.mp hy]; rfl⟩
    · exact ⟨[], Or.inr ⟨i, c1, Or.inl ⟨c, rfl⟩⟩, nl⟩
    · exact ⟨[], Or.inr ⟨i, c1, Or.inl ⟨c, rfl⟩⟩, nl⟩
theorem STP_e {w : Int} {σ σ' : qS} (h : STP w σ σ') : ∃ s, TS w (ln σ) (ln σ') s ∧ ∀ x ∈ s, xw x 1 = σ 31 0 := by
  have j4 : ∀ {s1 s2 s3 s4 : List Ms}, (∀ x ∈ s1, xw x 1 = σ 31 0) → (∀ x ∈ s2, xw x 1 = σ 31 0) → (∀ x ∈ s3, xw x 1 = σ 31 0) → (∀ x ∈ s4, xw x 1 = σ 31 0) → ∀ x ∈ s1 ++ s2 ++ s3 ++ s4, xw x 1 = σ 31 0 := fun h1 h2 h3 h4 x hx => by
    rw [List.mem_append, List.mem_append, List.mem_append] at hx
    rcases hx with ((hx | hx) | hx) | hx
    · exact h1 x hx
    · exact h2 x hx
    · exact h3 x hx
    · exact h4 x hx
  rcases h with ⟨-, σ1, σ2, σ3, r1, r2, r3, a, -⟩ | ⟨rfl, σ1, σ2, r1, r2, r3, -⟩
  · obtain ⟨s1, p1, q1⟩ := RD_e r1
    obtain ⟨s2, p2, q2⟩ := RD_e r2
    obtain ⟨s3, p3, q3⟩ := RD_e r3
    obtain ⟨s4, p4, q4⟩ := ACT_e a
    have e1 : σ1 31 = σ 31 := r1.2.2.1 _ (by decide)
    have e2 : σ2 31 = σ 31 := (r2.2.2.1 _ (by decide)).trans e1
    have e3 : σ3 31 = σ 31 := (r3.2.2.1 _ (by decide)).trans e2
    rw [e1] at q2
    rw [e2] at q3
    rw [e3] at q4
    exact ⟨_, ⟨_, _, _, s1, s2, s3, s4, p1, p2, p3, p4, rfl⟩, j4 q1 q2 q3 q4⟩
  · obtain ⟨s1, p1, q1⟩ := HR_e r1
    obtain ⟨s2, p2, q2⟩ := HR_e r2
    obtain ⟨s3, p3, q3⟩ := HR_e r3
    have e0 : (clk σ) 31 = σ 31 := clk_k (by decide)
    have l0 : ln (clk σ) = ln σ := ln_k (fun k m => clk_k (by revert m; revert k; decide))
    have e1 : σ1 31 = σ 31 := (r1.2.1 _ (by decide)).trans e0
    have e2 : σ2 31 = σ 31 := (r2.2.1 _ (by decide)).trans e1
    rw [l0] at p1
    rw [e0] at q1
    rw [e1] at q2
    rw [e2] at q3
    exact ⟨_, ⟨_, _, _, s1, s2, s3, [], p1, p2, p3, Or.inl ⟨rfl, rfl⟩, rfl⟩, j4 q1 q2 q3 (fun x hx => absurd hx (by simp))⟩
theorem run_ER {L : Nat} {τ : Nat → qS} (h : RNN L τ) {t : Nat} (h1 : 224 ≤ t) (h2 : t ≤ 7 * L) : ER (τ t) := by
  have hex : ∀ t, ∃ s, t < 7 * L → TS ((t % 7 : Nat) : Int) (ln (τ t)) (ln (τ (t + 1))) s ∧ ∀ x ∈ s, xw x 1 = τ t 31 0 := fun t => by
    by_cases c : t < 7 * L
    · obtain ⟨s, hs⟩ := STP_e (h.2 t c)
      exact ⟨s, fun _ => hs⟩
    · exact ⟨[], fun e => absurd e c⟩
  obtain ⟨S, hS⟩ := Classical.skolem.mp hex
  have hd : SND L τ S := fun t ht => (hS t ht).1
  have hs := old_gone h hd (t - 224) 224 (by omega) (by omega)
  rw [show t - 224 + 224 = t by omega] at hs
  have hm : ∀ k, t - 224 + k ≤ 7 * L → ∀ x ∈ sns S (t - 224) k, xw x 1 = τ 0 31 0 := fun k => by
    induction k with
    | zero => exact fun _ x hx => absurd hx (by simp [sns])
    | succ k ih =>
      intro hk x hx
      simp only [sns] at hx
      rcases List.mem_append.mp hx with hx | hx
      · exact ih (by omega) x hx
      · have := (hS (t - 224 + k) (by omega)).2 x hx
        rw [run_era h (by omega)] at this
        exact this
  intro x hx
  rw [run_era h (by omega)]
  exact hm 224 (by omega) x (hs.subset hx)

