theorem st_cd {L s0 : Nat} {τ : Nat → qS} (hR : RNN L τ) {A : Nat → List (Ms × Nat × Nat)} {ρ : Nat → qS × qS × qS} {B : Nat → List (Ms × Nat × Nat) × List (Ms × Nat × Nat) × List (Ms × Nat × Nat)} (h : ANC L s0 τ A ρ B) {t v : Nat} (h1 : s0 ≤ t) (h2 : t < 7 * L) (hv : v < 6) (ht : t % 7 = v) (hr : 38 ≤ τ t 62 v) {σ : qS} (hs : σ = τ t ∨ σ = (ρ t).1 ∨ σ = (ρ t).2.1) : σ 62 v = τ t 62 v ∧ cd (τ t) v ≤ cd σ v := by
  obtain ⟨wd, -⟩ := h.2 t h1 h2 (by omega)
  rw [ht] at wd
  obtain ⟨r1, r2, -, -, ⟨j1, j2, -, -⟩, a1, a2, -⟩ := wd
  have gs := hR.1 t (by omega)
  have w6 : (0 : Int) ≤ v ∧ (v : Int) < 6 := by omega
  obtain ⟨p1, p2⟩ := RD_cd gs.1 w6 (gs.2.2.1 v (by omega) (by omega)) r1 hr
  obtain ⟨q1, q2⟩ := RD_cd j1 w6 a1 r2 (by rw [p1]; exact hr)
  rcases hs with e | e | e
  · subst e; exact ⟨rfl, Int.le_refl _⟩
  · subst e; exact ⟨p1, p2⟩
  · subst e; exact ⟨q1.trans p1, Int.le_trans p2 q2⟩
theorem OWNP {L s0 : Nat} {τ : Nat → qS} (hR : RNN L τ) {A : Nat → List (Ms × Nat × Nat)} {ρ : Nat → qS × qS × qS} {B : Nat → List (Ms × Nat × Nat) × List (Ms × Nat × Nat) × List (Ms × Nat × Nat)} (h : ANC L s0 τ A ρ B) {b t : Nat} (hb : s0 < b) (h1 : s0 ≤ t) (h2 : t < 7 * L) (ha : ACC τ A ρ B t b) (hs : SEG τ (t % 7) b (t - b)) : b ≤ t ∧ cd (τ t) ((t % 7 : Nat) : Int) = cd (τ b) ((t % 7 : Nat) : Int) := by
  obtain ⟨v, v1, v2, v3, v4, v5, σ, v6, v7, v8⟩ := ACC_tk h hb h1 h2 ha
  rw [v3] at hs ⊢
  have hr : 38 ≤ τ t 62 v := hs t v5 (by omega)
  obtain ⟨c1, c2⟩ := st_cd hR h h1 h2 v1 v3 hr v6
  have c3 := cd_run hR v1 (t0 := b) (n := t - b) (by omega) hs (a := b) (Nat.le_refl _) (t - b) (by omega)
  rw [show b + (t - b) = t by omega] at c3
  have e : cd σ v = cd (τ b) v := by
    unfold plc at v8
    unfold cd
    have e1 := congrArg (fun q : Int × Int × Int => q.2.1) v8
    have e2 := congrArg (fun q : Int × Int × Int => q.2.2) v8
    simp only at e1 e2
    rw [e1, e2]
  exact ⟨v5, by omega⟩

