theorem RD_q2 {w : Int} {σ σ' : qS} (h : RD w σ σ') : qAG σ' + nk 2 w σ ≤ qAG σ := by
  have m := (RD_q12 h).1
  by_cases c : nk 2 w σ = 1
  · obtain ⟨i', x', n1, n2, n3, n4⟩ := nk_ex c
    obtain ⟨-, -, -, e⟩ := h
    rw [c]
    unfold qAG
    rcases e with ⟨e1, -, -⟩ | ⟨i, x, c1, c2, e⟩
    · rw [n1] at e1; cases e1
    · rw [n1] at c1
      have ei := Option.some.inj c1
      subst ei
      rw [n2] at c2
      have ex := Option.some.inj c2
      subst ex
      have p := cp_er t12 (ln σ) i' x' n2
      rw [if_pos (by unfold t12; rw [n4]; rfl)] at p
      rcases e with ⟨d, -⟩ | ⟨-, -, d2, -⟩ | ⟨-, d1, -⟩ | ⟨-, d1, -⟩
      · exact absurd n3 d
      · rw [d2]; omega
      · omega
      · omega
  · have := nk_b 2 w σ
    omega
-- GIVE letters read in a tick
noncomputable def gvq (τ : Nat → qS) (ρ : Nat → qS × qS × qS) (t : Nat) : Nat := if t % 7 < 6 then nk 2 ((t % 7 : Nat) : Int) (τ t) + nk 2 ((t % 7 : Nat) : Int) (ρ t).1 + nk 2 ((t % 7 : Nat) : Int) (ρ t).2.1 else 0
theorem gv_t {L s0 : Nat} {τ : Nat → qS} (hR : RNN L τ) {A : Nat → List (Ms × Nat × Nat)} {ρ : Nat → qS × qS × qS} {B : Nat → List (Ms × Nat × Nat) × List (Ms × Nat × Nat) × List (Ms × Nat × Nat)} (h : ANC L s0 τ A ρ B) {t : Nat} (h1 : s0 ≤ t) (h2 : t < 7 * L) : qAG (τ (t + 1)) + gvq τ ρ t ≤ qAG (τ t) + @ite Nat (ASKt τ t) (Classical.propDecidable _) 1 0 := by
  by_cases h6 : t % 7 < 6
  · obtain ⟨wd, -⟩ := h.2 t h1 h2 h6
    obtain ⟨r1, r2, r3, a, -⟩ := wd
    have a1 := RD_q2 r1
    have a2 := RD_q2 r2
    have a3 := RD_q2 r3
    unfold gvq
    rw [if_pos h6]
    rcases ACT_q12 a with q | ⟨q, k⟩
    · split <;> omega
    · rw [if_pos (show ASKt τ t from ⟨h6, k⟩)]
      omega
  · have b := q12_t hR h2
    unfold gvq
    rw [if_neg h6]
    omega
theorem GVB {L s0 : Nat} {τ : Nat → qS} (hR : RNN L τ) {A : Nat → List (Ms × Nat × Nat)} {ρ : Nat → qS × qS × qS} {B : Nat → List (Ms × Nat × Nat) × List (Ms × Nat × Nat) × List (Ms × Nat × Nat)} (h : ANC L s0 τ A ρ B) {s : Nat} (h1 : s0 ≤ s) : ∀ k, s + k ≤ 7 * L → qAG (τ (s + k)) + smq (gvq τ ρ) s k ≤ qAG (τ s) + ctq (ASKt τ) s k
  | 0, _ => by simp [smq, ctq]
  | k + 1, hl => by
    have ih := GVB hR h h1 k (by omega)
    have b := gv_t hR h (t := s + k) (by omega) (by omega)
    rw [show s + (k + 1) = s + k + 1 by omega]
    simp only [ctq, smq]
    omega
theorem rd2_n {L s0 : Nat} {τ : Nat → qS} {A : Nat → List (Ms × Nat × Nat)} {ρ : Nat → qS × qS × qS} {B : Nat → List (Ms × Nat × Nat) × List (Ms × Nat × Nat) × List (Ms × Nat × Nat)} (h : ANC L s0 τ A ρ B) {t i b : Nat} (h1 : s0 ≤ t) (h2 : t < 7 * L) (hi : i < 3) (hr : rdk τ A ρ B 2 t i b) : nk 2 ((t % 7 : Nat) : Int) (stQ τ ρ t i) = 1 := by
  obtain ⟨h6, y, -, ⟨j, y1, y2⟩, ye, yk⟩ := hr
  have p := (st_r h h1 h2 rfl h6 hi).2
  have g : (prA (stA A B t i))[j]? = some y.1 := by
    unfold prA
    rw [List.getElem?_map, y2]; rfl
  rw [p] at y1 g
  exact nk_1 y1 g ye yk
-- GIVEs that are read in ticks of a set are at most the ASK ticks
theorem GVC {L s0 : Nat} {τ : Nat → qS} (hR : RNN L τ) {A : Nat → List (Ms × Nat × Nat)} {ρ : Nat → qS × qS × qS} {B : Nat → List (Ms × Nat × Nat) × List (Ms × Nat × Nat) × List (Ms × Nat × Nat)} (h : ANC L s0 τ A ρ B) {s k : Nat} (h7 : 7 ≤ s) (h1 : s0 ≤ s) (hl : s + k ≤ 7 * L) (C : Nat → Prop) : ctq (RK τ A ρ B C (fun _ _ => True) 2 0) s k + ctq (RK τ A ρ B C (fun _ _ => True) 2 1) s k + ctq (RK τ A ρ B C (fun _ _ => True) 2 2) s k ≤ ctq (ASKt τ) s k + 95 := by
  have b := GVB hR h h1 k hl
  have d : qAG (τ s) ≤ 95 := by
    have l := run_95 hR (by omega) h7 (by omega : s ≤ 7 * L)
    have : qAG (τ s) ≤ (ln (τ s)).length := List.countP_le_length
    omega
  have one : ∀ t, s ≤ t → t < s + k → (@ite Nat (RK τ A ρ B C (fun _ _ => True) 2 0 t) (Classical.propDecidable _) 1 0) + (@ite Nat (RK τ A ρ B C (fun _ _ => True) 2 1 t) (Classical.propDecidable _) 1 0) + (@ite Nat (RK τ A ρ B C (fun _ _ => True) 2 2 t) (Classical.propDecidable _) 1 0) ≤ gvq τ ρ t := fun t t1 t2 => by
    have z : ∀ i, i < 3 → RK τ A ρ B C (fun _ _ => True) 2 i t → t % 7 < 6 ∧ nk 2 ((t % 7 : Nat) : Int) (stQ τ ρ t i) = 1 := fun i hi ⟨_, b, hb, _⟩ => ⟨hb.1, rd2_n h (by omega) (by omega) hi hb⟩
    unfold gvq
    by_cases h6 : t % 7 < 6
    · rw [if_pos h6]
      have i0 : (@ite Nat (RK τ A ρ B C (fun _ _ => True) 2 0 t) (Classical.propDecidable _) 1 0) ≤ nk 2 ((t % 7 : Nat) : Int) (τ t) := by
        split
        · rename_i q; have := (z 0 (by omega) q).2; exact Nat.le_of_eq this.symm
        · exact Nat.zero_le _
      have i1 : (@ite Nat (RK τ A ρ B C (fun _ _ => True) 2 1 t) (Classical.propDecidable _) 1 0) ≤ nk 2 ((t % 7 : Nat) : Int) (ρ t).1 := by
        split
        · rename_i q; have := (z 1 (by omega) q).2; exact Nat.le_of_eq this.symm
        · exact Nat.zero_le _
      have i2 : (@ite Nat (RK τ A ρ B C (fun _ _ => True) 2 2 t) (Classical.propDecidable _) 1 0) ≤ nk 2 ((t % 7 : Nat) : Int) (ρ t).2.1 := by
        split
        · rename_i q; have := (z 2 (by omega) q).2; exact Nat.le_of_eq this.symm
        · exact Nat.zero_le _
      omega
    · rw [if_neg h6, if_neg (fun q => h6 (z 0 (by omega) q).1), if_neg (fun q => h6 (z 1 (by omega) q).1), if_neg (fun q => h6 (z 2 (by omega) q).1)]
      omega
  have sm : ∀ k', k' ≤ k → ctq (RK τ A ρ B C (fun _ _ => True) 2 0) s k' + ctq (RK τ A ρ B C (fun _ _ => True) 2 1) s k' + ctq (RK τ A ρ B C (fun _ _ => True) 2 2) s k' ≤ smq (gvq τ ρ) s k' := fun k' => by
    induction k' with
    | zero => intro _; simp [ctq, smq]
    | succ k' ih =>
      intro q
      have a := ih (by omega)
      have o := one (s + k') (by omega) (by omega)
      simp only [ctq, smq]
      omega
  have s' := sm k (Nat.le_refl _)
  omega

