theorem tk_nn {σ : qS} (h : GS σ) {w : Int} (hw : 0 ≤ w ∧ w < 6) : σ 62 w = -1 ∨ 0 ≤ σ 62 w := by
  have ha := h.2.2.1 w hw.1 hw.2
  have hW := h.1.2.2.2.2.2.2.2.2.1 w hw.1 hw.2 (by omega) ha.1
  rcases hW with ⟨e, -⟩ | ⟨e, -, g⟩
  · exact Or.inl e
  · rcases g (ha.2.2 e) with g | g
    · exact Or.inr g.1.1
    · have := g.1; exact Or.inr (by omega)
def QK (τ : Nat → qS) (t : Nat) : Prop := t % 7 < 6 → ¬ LKs (τ (t + 1)) ((t % 7 : Nat) : Int) ∧ ¬ ((∃ k, 0 ≤ k ∧ k < spl (τ (t + 1)) ∧ τ (t + 1) 33 k = -1) ∧ ∃ x ∈ ln (τ t), xw x 0 = 2 ∧ 38 ≤ xw x 2)
theorem vp_wk {L : Nat} {τ : Nat → qS} (h : RNN L τ) {r v : Nat} (hv : v < 6) (h1 : 1 ≤ r) (hl : r < L) (hk : QK τ (7 * r + v)) : Vp (τ (7 * r + v + 1)) ≤ Vp (τ (7 * r + v)) + 1 ∧ (Vp (τ (7 * r + v + 1)) = Vp (τ (7 * r + v)) + 1 → PT (v : Int) (τ (7 * r + v)) (τ (7 * r + v + 1))) := by
  have gs := h.1 (7 * r + v) (by omega)
  have hk' := (hk (by omega)).1
  rw [show (7 * r + v) % 7 = v by omega] at hk'
  exact Vp_wk gs.1 (by omega) (run_95 h (by omega) (by omega) (by omega)) (gs.2.2.1 v (by omega) (by omega)) (stp_wtk h hv hl) hk' (tk_nn gs (by omega))
theorem vp_ms {L : Nat} {τ : Nat → qS} (h : RNN L τ) {r : Nat} (h1 : 1 ≤ r) (hl : r < L) (hc : 3 ≤ cn 6 (ln (τ (7 * r + 6)))) (hM : ∀ j, j < 3 → ∀ x, (mq (ln (τ (7 * r + 6))))[j]? = some x → isK x = true) : Vp (τ (7 * r + 7)) + 6 = Vp (τ (7 * r + 6)) := by
  obtain ⟨m1, m2⟩ := MT_q (run_95 h (by omega) (by omega) (by omega)) (stp_mtk h (r := r) hl)
  rw [← mq_len] at hc
  unfold Vp
  rw [m2]
  have : ka (τ (7 * r + 6)) = ka (τ (7 * r + 7)) + 3 := by
    unfold ka
    rw [m1]
    generalize mq (ln (τ (7 * r + 6))) = Q at hc hM
    match Q, hc, hM with
    | [], hc, _ => simp at hc
    | [_], hc, _ => simp at hc
    | [_, _], hc, _ => simp at hc
    | x :: y :: z :: Q, _, hM =>
      have e1 := hM 0 (by omega) x rfl
      have e2 := hM 1 (by omega) y rfl
      have e3 := hM 2 (by omega) z rfl
      rw [show (x :: y :: z :: Q).drop 3 = Q from rfl, List.countP_cons, List.countP_cons, List.countP_cons, if_pos e1, if_pos e2, if_pos e3]
  omega
theorem vp_rd {L : Nat} {τ : Nat → qS} (h : RNN L τ) {r : Nat} (h1 : 1 ≤ r) (hl : r < L) (hk : ∀ t, 7 * r ≤ t → t < 7 * r + 7 → QK τ t) (hc : 3 ≤ cn 6 (ln (τ (7 * r + 6)))) (hM : ∀ j, j < 3 → ∀ x, (mq (ln (τ (7 * r + 6))))[j]? = some x → isK x = true) : Vp (τ (7 * (r + 1))) ≤ Vp (τ (7 * r)) ∧ (Vp (τ (7 * (r + 1))) = Vp (τ (7 * r)) → ∀ v : Nat, v < 6 → PT (v : Int) (τ (7 * r + v)) (τ (7 * r + v + 1))) := by
  obtain ⟨a0, b0⟩ := vp_wk h (v := 0) (by omega) h1 hl (hk _ (by omega) (by omega))
  obtain ⟨a1, b1⟩ := vp_wk h (v := 1) (by omega) h1 hl (hk _ (by omega) (by omega))
  obtain ⟨a2, b2⟩ := vp_wk h (v := 2) (by omega) h1 hl (hk _ (by omega) (by omega))
  obtain ⟨a3, b3⟩ := vp_wk h (v := 3) (by omega) h1 hl (hk _ (by omega) (by omega))
  obtain ⟨a4, b4⟩ := vp_wk h (v := 4) (by omega) h1 hl (hk _ (by omega) (by omega))
  obtain ⟨a5, b5⟩ := vp_wk h (v := 5) (by omega) h1 hl (hk _ (by omega) (by omega))
  have a6 := vp_ms h h1 hl hc hM
  rw [show 7 * (r + 1) = 7 * r + 7 by omega]
  simp only [Nat.add_zero, Nat.add_assoc, Nat.reduceAdd] at a0 a1 a2 a3 a4 a5 a6 b0 b1 b2 b3 b4 b5 ⊢
  refine ⟨by omega, fun e v hv => ?_⟩
  have hc : v = 0 ∨ v = 1 ∨ v = 2 ∨ v = 3 ∨ v = 4 ∨ v = 5 := by omega
  rcases hc with rfl | rfl | rfl | rfl | rfl | rfl
  · exact b0 (by omega)
  · exact b1 (by omega)
  · exact b2 (by omega)
  · exact b3 (by omega)
  · exact b4 (by omega)
  · exact b5 (by omega)
theorem dec_le {f : Nat → Nat} {a b : Nat} : ∀ k, (∀ i, a ≤ i → i < a + k → f (i + 1) ≤ f i) → f (a + k) ≤ f a
  | 0, _ => Nat.le_refl _
  | k + 1, h => by
    have ih := dec_le (b := b) k (fun i h1 h2 => h i h1 (by omega))
    have := h (a + k) (by omega) (by omega)
    rw [show a + (k + 1) = a + k + 1 by omega]; omega
theorem dec_pig {f : Nat → Nat} {V : Nat} : ∀ (B a : Nat), (∀ i, a ≤ i → i < a + (B + 1) * V → f (i + 1) ≤ f i) → f a ≤ B → ∃ c, a ≤ c ∧ c + V ≤ a + (B + 1) * V ∧ f (c + V) = f c
  | 0, a, h, hb => by
    refine ⟨a, Nat.le_refl _, by omega, ?_⟩
    have := dec_le (f := f) (a := a) (b := 0) V (fun i h1 h2 => h i h1 (by omega))
    omega
  | B + 1, a, h, hb => by
    have e : (B + 1 + 1) * V = (B + 1) * V + V := Nat.succ_mul (B + 1) V
    by_cases c : f (a + V) = f a
    · exact ⟨a, Nat.le_refl _, by omega, c⟩
    · have h1 := dec_le (f := f) (a := a) (b := 0) V (fun i h1 h2 => h i h1 (by omega))
      obtain ⟨c, c1, c2, c3⟩ := dec_pig (f := f) (V := V) B (a + V) (fun i h1 h2 => h i (by omega) (by omega)) (by omega)
      exact ⟨c, by omega, by omega, c3⟩
theorem QC {L : Nat} {τ : Nat → qS} (h : RNN L τ) {a : Nat} (h1 : 32 ≤ a) (hl : a + 39400 ≤ L) (hk : ∀ t, 7 * a ≤ t → t < 7 * (a + 39400) → QK τ t) (hM : ∀ r, a ≤ r → r < a + 39400 → 3 ≤ cn 6 (ln (τ (7 * r + 6))) ∧ ∀ j, j < 3 → ∀ x, (mq (ln (τ (7 * r + 6))))[j]? = some x → isK x = true) : False := by
  have st : ∀ r, a ≤ r → r < a + 39400 → _ := fun r h2 h3 => vp_rd h (r := r) (by omega) (by omega) (fun t t1 t2 => hk t (by omega) (by omega)) (hM r h2 h3).1 (hM r h2 h3).2
  obtain ⟨c, c1, c2, c3⟩ := dec_pig (f := fun r => Vp (τ (7 * r))) (V := 200) 196 a (fun i h2 h3 => (st i h2 (by omega)).1) (Vp_b (run_95 h (by omega) (by omega) (by omega)))
  have le : ∀ i, c ≤ i → i < c + 200 → Vp (τ (7 * (i + 1))) = Vp (τ (7 * i)) := fun i i1 i2 => by
    have g1 := dec_le (f := fun r => Vp (τ (7 * r))) (a := c) (b := 0) (i - c) (fun j h2 h3 => (st j (by omega) (by omega)).1)
    have g2 := dec_le (f := fun r => Vp (τ (7 * r))) (a := i + 1) (b := 0) (c + 200 - (i + 1)) (fun j h2 h3 => (st j (by omega) (by omega)).1)
    have g3 := (st i (by omega) (by omega)).1
    simp only [show c + (i - c) = i by omega, show i + 1 + (c + 200 - (i + 1)) = c + 200 by omega] at g1 g2 c3
    omega
  have hp : PFS τ c (c + 200) := fun t t1 t2 t3 => by
    have hP := (st (t / 7) (by omega) (by omega)).2 (le (t / 7) (by omega) (by omega)) (t % 7) t3
    rw [show 7 * (t / 7) + t % 7 = t by omega] at hP
    exact ⟨hP, (hk t (by omega) (by omega) t3).2⟩
  exact Q1 h hp (by omega) (by omega) (fun r r1 r2 => ⟨(hM r (by omega) (by omega)).1, fun x hx => (hM r (by omega) (by omega)).2 0 (by omega) x hx⟩)

