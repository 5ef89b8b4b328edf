theorem RD_z {w : Int} {σ σ' : qS} (v p s q : Int) (h : RD w σ σ') : ∃ S, rdop w (ln σ) (ln σ') S ∧ (∀ x ∈ S, eF (σ 31 0) v p s q x = false ∧ (eP (σ 31 0) v p s q x = true → ∃ y ∈ ln σ, eF (σ 31 0) v p s q y = true)) ∧ ∀ y ∈ ln σ', eF (σ 31 0) v p s q y = true → y ∈ ln σ := by
  obtain ⟨-, -, hk, c⟩ := h
  rcases c with ⟨c1, c2, -⟩ | ⟨i, x, c1, c2, c⟩
  · exact ⟨[], Or.inl ⟨c1, c2, rfl⟩, fun x hx => (by cases hx), fun y hy _ => by rw [c2] at hy; exact hy⟩
  · have er : ln σ' = (ln σ).eraseIdx i → ∃ S, rdop w (ln σ) (ln σ') S ∧ (∀ x ∈ S, eF (σ 31 0) v p s q x = false ∧ (eP (σ 31 0) v p s q x = true → ∃ y ∈ ln σ, eF (σ 31 0) v p s q y = true)) ∧ ∀ y ∈ ln σ', eF (σ 31 0) v p s q y = true → y ∈ ln σ := fun e => ⟨[], Or.inr ⟨i, c1, Or.inl ⟨e, rfl⟩⟩, fun x hx => (by cases hx), fun y hy _ => by rw [e] at hy; exact (List.eraseIdx_sublist _ _).subset hy⟩
    rcases c with ⟨-, d1, -⟩ | ⟨-, -, d2, -⟩ | ⟨d0, d1, d2, a, kv', d3⟩ | ⟨-, -, d1, -⟩
    · exact er d1
    · exact er d2
    · have n5 : eF (σ 31 0) v p s q ((xw x 5, [6, σ 31 0, xw x 2, xw x 4, a, xw x 3], kv') : Ms) = false := eF_f (by decide : ¬ (6 : Int) = 5)
      refine ⟨_, Or.inr ⟨i, c1, Or.inr ⟨_, d3, rfl⟩⟩, fun y hy => ?_, fun y hy hf => ?_⟩
      · rw [List.mem_singleton.mp hy]
        refine ⟨n5, fun z => ⟨x, List.mem_of_getElem? c2, ?_⟩⟩
        have z' := of_decide_eq_true z
        unfold eF
        exact decide_eq_true ⟨d0, d1, z'.2.2.1, z'.2.2.2.1, z'.2.2.2.2.1, z'.2.2.2.2.2⟩
      · rw [d3] at hy
        rcases List.mem_append.mp hy with hy | hy
        · unfold tl95 at hy
          split at hy
          · exact (List.eraseIdx_sublist _ _).subset ((List.eraseIdx_sublist _ _).subset hy)
          · exact (List.eraseIdx_sublist _ _).subset hy
        · rw [List.mem_singleton.mp hy, n5] at hf
          cases hf
    · exact er d1
theorem ACT_z {w : Int} {σ σ' : qS} (v p s q : Int) (h : ACT w σ σ') : ∃ S, acop (ln σ) (ln σ') S ∧ ∀ x ∈ S, (eF (σ 31 0) v p s q x = true → v = w ∧ Pz w p s q σ') ∧ eP (σ 31 0) v p s q x = false := by
  obtain ⟨-, -, hk, c⟩ := h
  have nl : ln σ' = ln σ → ∃ S, acop (ln σ) (ln σ') S ∧ ∀ x ∈ S, (eF (σ 31 0) v p s q x = true → v = w ∧ Pz w p s q σ') ∧ eP (σ 31 0) v p s q x = false := fun e => ⟨[], Or.inl ⟨e, rfl⟩, fun x hx => by cases hx⟩
  have tl : ∀ {to ty a b c d}, ty ≠ 5 → ty ≠ 6 → TL to ty a b c d σ σ' → ∃ S, acop (ln σ) (ln σ') S ∧ ∀ x ∈ S, (eF (σ 31 0) v p s q x = true → v = w ∧ Pz w p s q σ') ∧ eP (σ 31 0) v p s q x = false := fun {to ty a b c d} n5 n6 t => by
    obtain ⟨r, t⟩ := t
    refine ⟨_, Or.inr (Or.inl ⟨_, t, rfl⟩), fun x hx => ?_⟩
    rw [List.mem_singleton.mp hx]
    have z1 : eF (σ 31 0) v p s q ((to, [ty, σ 31 0, a, b, c, d], r) : Ms) = false := eF_f n5
    have z2 : eP (σ 31 0) v p s q ((to, [ty, σ 31 0, a, b, c, d], r) : Ms) = false := eP_f n6
    exact ⟨fun z => (by rw [z1] at z; cases z), z2⟩
  rcases c with ⟨-, -, -, -, c⟩ | ⟨-, c⟩ | ⟨c0, c⟩
  · rcases c with ⟨-, c⟩ | ⟨-, c⟩
    · exact tl (by decide) (by decide) c
    · exact nl c
  · rcases c with ⟨-, -, -, a, c⟩ | ⟨-, -, -, ⟨a, c⟩, -⟩ | ⟨-, -, -, c⟩ | ⟨-, -, -, -, -, c⟩
    · exact tl (by decide) (by decide) c
    · exact tl (by decide) (by decide) c
    · exact tl (by decide) (by decide) c
    · exact nl c
  · rcases c with ⟨-, -, -, c⟩ | ⟨-, -, -, -, -, c⟩ | ⟨-, -, -, -, -, c, -⟩ | ⟨-, -, -, c6, -, c1, g1, g2, g3, c⟩ | ⟨-, -, -, -, c⟩
    · exact tl (by decide) (by decide) c
    · exact nl c
    · exact nl c
    · have key : ∀ r : List Pr, (eF (σ 31 0) v p s q ((σ 33 (σ 64 w), [5, σ 31 0, σ 64 w, σ 62 w - 38, ps σ w, w], r) : Ms) = true → v = w ∧ Pz w p s q σ') ∧ eP (σ 31 0) v p s q ((σ 33 (σ 64 w), [5, σ 31 0, σ 64 w, σ 62 w - 38, ps σ w, w], r) : Ms) = false := fun r => by
        refine ⟨fun z => ?_, eP_f (by decide : ¬ (5 : Int) = 6)⟩
        have z' := of_decide_eq_true z
        have y1 : σ 62 w - 38 = p := z'.2.2.2.1
        have y2 : σ 64 w = s := z'.2.2.2.2.1
        have y3 : ps σ w = q := z'.2.2.2.2.2
        exact ⟨z'.2.2.1.symm, by omega, g1.trans y2, g2.trans y3, g3⟩
      rcases c with ⟨-, -, r, c⟩ | ⟨-, -, r, r', c⟩
      · refine ⟨_, Or.inr (Or.inl ⟨_, c, rfl⟩), fun x hx => ?_⟩
        rw [List.mem_singleton.mp hx]
        exact key r
      · refine ⟨_, Or.inr (Or.inr ⟨_, _, c, rfl⟩), fun x hx => ?_⟩
        rcases List.mem_cons.mp hx with hx | hx
        · rw [hx]; exact key r
        · rw [List.mem_singleton.mp hx]
          have z1 : eF (σ 31 0) v p s q ((6, [7, σ 31 0, σ 64 w, σ 33 (σ 64 w), 0, 0], r') : Ms) = false := eF_f (by decide : ¬ (7 : Int) = 5)
          have z2 : eP (σ 31 0) v p s q ((6, [7, σ 31 0, σ 64 w, σ 33 (σ 64 w), 0, 0], r') : Ms) = false := eP_f (by decide : ¬ (7 : Int) = 6)
          exact ⟨fun z => (by rw [z1] at z; cases z), z2⟩
    · rcases c with ⟨-, -, c⟩ | ⟨-, c⟩
      · exact tl (by decide) (by decide) c
      · exact tl (by decide) (by decide) c
theorem STP_z {w : Int} {σ σ' : qS} (v p s q : Int) (h : STP w σ σ') : ∃ S, TS w (ln σ) (ln σ') S ∧ ∀ x ∈ S, (eF (σ 31 0) v p s q x = true → v = w ∧ w < 6 ∧ Pz w p s q σ') ∧ (eP (σ 31 0) v p s q x = true → ∃ y ∈ ln σ, eF (σ 31 0) v p s q y = true) := by
  rcases h with ⟨hw, σ1, σ2, σ3, r1, r2, r3, a, -⟩ | ⟨rfl, σ1, σ2, r1, r2, r3, -⟩
  · have e1 : σ1 31 = σ 31 := r1.2.2.1 _ (by decide)
    have e2 : σ2 31 = σ 31 := (r2.2.2.1 _ (by decide)).trans e1
    have e3 : σ3 31 = σ 31 := (r3.2.2.1 _ (by decide)).trans e2
    obtain ⟨s1, p1, q1, m1⟩ := RD_z v p s q r1
    obtain ⟨s2, p2, q2, m2⟩ := RD_z v p s q r2
    obtain ⟨s3, p3, q3, m3⟩ := RD_z v p s q r3
    obtain ⟨s4, p4, q4⟩ := ACT_z v p s q a
    rw [e1] at q2 m2
    rw [e2] at q3 m3
    rw [e3] at q4
    refine ⟨_, ⟨_, _, _, s1, s2, s3, s4, p1, p2, p3, p4, rfl⟩, mem4 (fun x hx => ?_) (fun x hx => ?_) (fun x hx => ?_) (fun x hx => ?_)⟩
    · have := q1 x hx
      exact ⟨fun z => (by rw [this.1] at z; cases z), this.2⟩
    · have := q2 x hx
      refine ⟨fun z => (by rw [this.1] at z; cases z), fun z => ?_⟩
      obtain ⟨y, y1, y2⟩ := this.2 z
      exact ⟨y, m1 y y1 y2, y2⟩
    · have := q3 x hx
      refine ⟨fun z => (by rw [this.1] at z; cases z), fun z => ?_⟩
      obtain ⟨y, y1, y2⟩ := this.2 z
      exact ⟨y, m1 y (m2 y y1 y2) y2, y2⟩
    · have := q4 x hx
      exact ⟨fun z => ⟨(this.1 z).1, hw.2, (this.1 z).2⟩, fun z => by rw [this.2] at z; cases z⟩
  · obtain ⟨s1, p1, q1⟩ := HR_y r1
    obtain ⟨s2, p2, q2⟩ := HR_y r2
    obtain ⟨s3, p3, q3⟩ := HR_y r3
    rw [l_clk] at p1
    have hA : ∀ x ∈ s1 ++ s2 ++ s3 ++ [], xw x 0 = 2 := mem4 q1 q2 q3 (fun x hx => absurd hx (by simp))
    refine ⟨_, ⟨_, _, _, s1, s2, s3, [], p1, p2, p3, Or.inl ⟨rfl, rfl⟩, rfl⟩, fun x hx => ?_⟩
    have := hA x hx
    exact ⟨fun z => (by rw [eF_f (by omega)] at z; cases z), fun z => by rw [eP_f (by omega)] at z; cases z⟩
theorem life {L : Nat} {τ : Nat → qS} (h : RNN L τ) (v p s q : Int) {t : Nat} (h1 : 448 ≤ t) (h2 : t ≤ 7 * L) (hp : ∀ u, t ≤ u + 448 → u < t → u % 7 < 6 → v = ((u % 7 : Nat) : Int) → ¬ Pz v p s q (τ (u + 1))) : ke (τ t) v p s q = 0 := by
  have hex : ∀ t, ∃ S, t < 7 * L → TS ((t % 7 : Nat) : Int) (ln (τ t)) (ln (τ (t + 1))) S ∧ ∀ x ∈ S, (eF (τ t 31 0) v p s q x = true → v = ((t % 7 : Nat) : Int) ∧ ((t % 7 : Nat) : Int) < 6 ∧ Pz ((t % 7 : Nat) : Int) p s q (τ (t + 1))) ∧ (eP (τ t 31 0) v p s q x = true → ∃ y ∈ ln (τ t), eF (τ t 31 0) v p s q y = true) := fun t => by
    by_cases c : t < 7 * L
    · obtain ⟨S, hS⟩ := STP_z v p s q (h.2 t c)
      exact ⟨S, fun _ => hS⟩
    · exact ⟨[], fun e => absurd e c⟩
  obtain ⟨S, hS⟩ := Classical.skolem.mp hex
  have hd : SND L τ S := fun t ht => (hS t ht).1
  have nF : ∀ u, t ≤ u + 224 → u ≤ t → ∀ y ∈ ln (τ u), eF (τ 0 31 0) v p s q y = false := fun u u1 u2 y hy => by
    have hs := old_gone h hd (u - 224) 224 (by omega) (by omega)
    rw [show u - 224 + 224 = u by omega] at hs
    refine sns_m (S := S) (t0 := u - 224) (P := fun y => eF (τ 0 31 0) v p s q y = false) 224 (fun r r1 r2 x hx => ?_) y (hs.subset hy)
    have g := ((hS r (by omega)).2 x hx).1
    rw [run_era h (by omega)] at g
    apply Classical.byContradiction
    intro hn
    obtain ⟨g1, g2, g3⟩ := g (by simpa using hn)
    refine hp r (by omega) (by omega) (by omega) g1 ?_
    rw [g1]; exact g3
  have nP : ∀ y ∈ ln (τ t), eP (τ 0 31 0) v p s q y = false := fun y hy => by
    have hs := old_gone h hd (t - 224) 224 (by omega) (by omega)
    rw [show t - 224 + 224 = t by omega] at hs
    refine sns_m (S := S) (t0 := t - 224) (P := fun y => eP (τ 0 31 0) v p s q y = false) 224 (fun r r1 r2 x hx => ?_) y (hs.subset hy)
    have g := ((hS r (by omega)).2 x hx).2
    rw [run_era h (by omega)] at g
    apply Classical.byContradiction
    intro hn
    obtain ⟨z, z1, z2⟩ := g (by simpa using hn)
    rw [nF r (by omega) (by omega) z z1] at z2
    cases z2
  unfold ke eL
  rw [run_era h h2]
  have a1 : (ln (τ t)).countP (eF (τ 0 31 0) v p s q) = 0 := List.countP_eq_zero.mpr (fun y hy => by rw [nF t (by omega) (Nat.le_refl _) y hy]; decide)
  have a2 : (ln (τ t)).countP (eP (τ 0 31 0) v p s q) = 0 := List.countP_eq_zero.mpr (fun y hy => by rw [nP y hy]; decide)
  omega

