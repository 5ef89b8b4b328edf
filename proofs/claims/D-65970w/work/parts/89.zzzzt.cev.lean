-- a GIVE of a part is issued in the master's tick u
def MPt (A : Nat → List (Ms × Nat × Nat)) (u : Nat) : Prop := u % 7 = 6 ∧ ∃ y ∈ A (u + 1), xw y.1 0 = 2 ∧ 38 ≤ xw y.1 2 ∧ y.2.1 = u + 1
-- the first such tick after a kill
def CEv (τ : Nat → qS) (A : Nat → List (Ms × Nat × Nat)) (c : Nat) : Prop := MPt A c ∧ ∃ v κ, v < 6 ∧ KLt τ v κ ∧ κ < c ∧ ∀ u, κ < u → u < c → ¬ MPt A u
theorem RDn_n {w e : Int} {t : Nat} {A A' : List (Ms × Nat × Nat)} (h : RDn w e t A A') {y : Ms × Nat × Nat} (hy : y ∈ A') (y2 : xw y.1 0 = 2) : y ∈ A := by
  rcases h with ⟨-, e⟩ | ⟨j, x, -, c2, c⟩
  · rw [e] at hy; exact hy
  · rcases c with ⟨-, e⟩ | ⟨-, -, z, -, z0, -, -, -, -, e⟩
    · rw [e] at hy; exact (List.eraseIdx_sublist _ j).subset hy
    · rw [e, List.mem_append, List.mem_singleton] at hy
      rcases hy with hy | hy
      · exact (List.eraseIdx_sublist _ j).subset ((tlA_sub _).subset hy)
      · subst hy
        have : xw z 0 = 2 := y2
        omega
theorem ACn_n {t : Nat} {w : Int} {σ' : qS} {A A' : List (Ms × Nat × Nat)} {s : List Ms} (h : ACn t A A' s) (ho : OWN w σ' s) {y : Ms × Nat × Nat} (hy : y ∈ A') (y2 : xw y.1 0 = 2) : y ∈ A := by
  have nz : ∀ z ∈ s, xw z 0 ≠ 2 := fun z hz => (ho.2 z hz).2.2.1
  rcases h with ⟨e, -⟩ | ⟨z, e, es⟩ | ⟨z, z', e, es⟩
  · rw [e] at hy; exact hy
  · rw [e, List.mem_append, List.mem_singleton] at hy
    rcases hy with hy | hy
    · exact (tlA_sub _).subset hy
    · subst hy; exact absurd y2 (nz z (by rw [es]; simp))
  · rw [e, List.mem_append, List.mem_singleton] at hy
    rcases hy with hy | hy
    · have hy := (tlA_sub _).subset hy
      rw [List.mem_append, List.mem_singleton] at hy
      rcases hy with hy | hy
      · exact (tlA_sub _).subset hy
      · subst hy; exact absurd y2 (nz z (by rw [es]; simp))
    · subst hy; exact absurd y2 (nz z' (by rw [es]; simp))
theorem HRn_n {t : Nat} {A A' : List (Ms × Nat × Nat)} (h : HRn t A A') {y : Ms × Nat × Nat} (hy : y ∈ A') : y ∈ A ∨ y.2.1 = t + 1 := by
  rcases h with ⟨-, e⟩ | ⟨i, x, -, -, c⟩
  · rw [e] at hy; exact Or.inl hy
  · rcases c with e | ⟨z, z0, e⟩
    · rw [e] at hy; exact Or.inl ((List.eraseIdx_sublist _ i).subset hy)
    · rw [e, List.mem_append, List.mem_singleton] at hy
      rcases hy with hy | hy
      · exact Or.inl ((List.eraseIdx_sublist _ i).subset ((tlA_sub _).subset hy))
      · subst hy; exact Or.inr rfl
-- a GIVE on the line was there since its stamp
theorem GVs {L s0 : Nat} {τ : Nat → qS} {A : Nat → List (Ms × Nat × Nat)} (h : ANR L s0 τ A) : ∀ k, s0 + k ≤ 7 * L → ∀ y ∈ A (s0 + k), xw y.1 0 = 2 → s0 < y.2.1 → y.2.1 ≤ s0 + k ∧ y.2.1 % 7 = 0 ∧ y ∈ A y.2.1
  | 0, hl, y, hy, y2, hs => by
    have k := (ANR_srt h 0 hl).2 y hy
    omega
  | k + 1, hl, y, hy, y2, hs => by
    have ih := GVs h k (by omega)
    have st := h.2.2 (s0 + k) (by omega) (by omega)
    have cs : y ∈ A (s0 + k) ∨ ((s0 + k) % 7 = 6 ∧ y.2.1 = s0 + k + 1) := by
      rcases st with ⟨h6, σ1, σ2, σ3, A1, A2, A3, -, -, r1, r2, r3, s, a, o⟩ | ⟨e6, σ1, σ2, A1, A2, -, -, -, -, r1, r2, r3⟩
      · exact Or.inl (RDn_n r1 (RDn_n r2 (RDn_n r3 (ACn_n a o hy y2) y2) y2) y2)
      · rcases HRn_n r3 hy with q | q
        · rcases HRn_n r2 q with q | q
          · rcases HRn_n r1 q with q | q
            · exact Or.inl q
            · exact Or.inr ⟨e6, q⟩
          · exact Or.inr ⟨e6, q⟩
        · exact Or.inr ⟨e6, q⟩
    rcases cs with q | ⟨q1, q2⟩
    · have := ih y q y2 hs
      exact ⟨by omega, this.2.1, this.2.2⟩
    · refine ⟨by omega, by omega, ?_⟩
      rw [q2]
      exact hy
theorem st_gv {L s0 : Nat} {τ : Nat → qS} {A : Nat → List (Ms × Nat × Nat)} {ρ : Nat → qS × qS × qS} {B : Nat → List (Ms × Nat × Nat) × List (Ms × Nat × Nat) × List (Ms × Nat × Nat)} (h : ANC L s0 τ A ρ B) {t : Nat} (h1 : s0 ≤ t) (h2 : t < 7 * L) (h6 : t % 7 < 6) : ∀ i, i ≤ 3 → ∀ y ∈ stA A B t i, xw y.1 0 = 2 → y ∈ A t
  | 0, _, y, hy, _ => hy
  | i + 1, hi, y, hy, y2 => st_gv h h1 h2 h6 i (by omega) y (RDn_n (st_rd h h1 h2 h6 (i := i) (by omega)) hy y2) y2
-- a fresh moment lies within 31 rounds after a C-event
theorem FR_c {L s0 : Nat} {τ : Nat → qS} {A : Nat → List (Ms × Nat × Nat)} {ρ : Nat → qS × qS × qS} {B : Nat → List (Ms × Nat × Nat) × List (Ms × Nat × Nat) × List (Ms × Nat × Nat)} (h : ANC L s0 τ A ρ B) {φ : Nat} (hφ : s0 + 225 ≤ φ) (hf : FRt L s0 τ A B φ) : ∃ c, (CEv τ A c ∧ ∃ v κ, v < 6 ∧ 7 ≤ κ ∧ KLt τ v κ ∧ κ < c ∧ ∀ u, κ < u → u < c → ¬ MPt A u) ∧ c < φ ∧ φ < c + 218 := by
  obtain ⟨v, κ, x, i, y, v6, x0, xl, xv, kx, kl, -, hi, hy, y2, yp, ky, yφ, fk⟩ := hf
  have mA := st_gv h x0 xl (by omega) i (by omega) y (hd_mem hy).1 y2
  have q := GVs h.1 (x - s0) (by omega) y (by rw [show s0 + (x - s0) = x by omega]; exact mA) y2 (by omega)
  have mp : MPt A (y.2.1 - 1) := ⟨by omega, y, by rw [show y.2.1 - 1 + 1 = y.2.1 by omega]; exact q.2.2, y2, yp, by omega⟩
  have kne : κ ≠ y.2.1 - 1 := fun e => by
    have := kl.1
    omega
  have ex : ∀ d u, κ < u → u + d = y.2.1 - 1 → MPt A u ∨ True → ∃ c, κ < c ∧ c ≤ y.2.1 - 1 ∧ MPt A c ∧ ∀ u', κ < u' → u' < c → ¬ MPt A u' := fun _ _ _ _ _ => by
    have lst : ∀ m, ∀ c, κ < c → c ≤ κ + m → MPt A c → ∃ c', κ < c' ∧ c' ≤ c ∧ MPt A c' ∧ ∀ u', κ < u' → u' < c' → ¬ MPt A u' := fun m => by
      induction m with
      | zero => intro c q1 q2; omega
      | succ m ih =>
        intro c q1 q2 q3
        by_cases e : ∃ u', κ < u' ∧ u' < c ∧ MPt A u'
        · obtain ⟨u', u1, u2, u3⟩ := e
          obtain ⟨c', c1, c2, c3⟩ := ih u' u1 (by omega) u3
          exact ⟨c', c1, by omega, c3⟩
        · exact ⟨c, q1, Nat.le_refl _, q3, fun u' u1 u2 u3 => e ⟨u', u1, u2, u3⟩⟩
    exact lst (y.2.1 - 1 - κ) (y.2.1 - 1) (by omega) (by omega) mp
  obtain ⟨c, c1, c2, c3, c4⟩ := ex 0 (y.2.1 - 1) (by omega) (by omega) (Or.inr trivial)
  exact ⟨c, ⟨⟨c3, v, κ, v6, kl, c1, c4⟩, v, κ, v6, by omega, kl, c1, c4⟩, by omega, by omega⟩

