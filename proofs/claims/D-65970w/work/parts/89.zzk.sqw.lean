theorem ACT_8 {w : Int} {σ σ' : qS} (hj : jobok σ) (hs : 38 ≤ σ 62 w → 0 ≤ σ 64 w) (h : ACT w σ σ') : ∃ s, acop (ln σ) (ln σ') s ∧ ∀ x ∈ s, xw x 0 = 7 → (0 ≤ xw x 2 ∧ xw x 2 < 38) ∧ σ 33 (xw x 2) = xw x 3 ∧ xw x 3 ≠ -1 := by
  obtain ⟨-, -, -, c⟩ := h
  have hsp := spl_b hj
  have nl : ln σ' = ln σ → ∃ s, acop (ln σ) (ln σ') s ∧ ∀ x ∈ s, xw x 0 = 7 → (0 ≤ xw x 2 ∧ xw x 2 < 38) ∧ σ 33 (xw x 2) = xw x 3 ∧ xw x 3 ≠ -1 := fun e => ⟨[], Or.inl ⟨e, rfl⟩, fun x hx => absurd hx (by simp)⟩
  have tl : ∀ {to ty a b c d}, ty ≠ 7 → TL to ty a b c d σ σ' → ∃ s, acop (ln σ) (ln σ') s ∧ ∀ x ∈ s, xw x 0 = 7 → (0 ≤ xw x 2 ∧ xw x 2 < 38) ∧ σ 33 (xw x 2) = xw x 3 ∧ xw x 3 ≠ -1 := fun {to ty a b c d} ht h => by
    obtain ⟨kv, h⟩ := h
    refine ⟨_, Or.inr (Or.inl ⟨_, h, rfl⟩), fun x hx e => ?_⟩
    rw [List.mem_singleton.mp hx] at e
    exact absurd e ht
  rcases c with ⟨-, -, -, -, c⟩ | ⟨-, c⟩ | ⟨c0, c⟩
  · rcases c with ⟨-, c⟩ | ⟨-, c⟩
    · exact tl (by decide) c
    · exact nl c
  · rcases c with ⟨-, -, -, a, c⟩ | ⟨-, -, -, ⟨a, c⟩, -⟩ | ⟨-, -, -, c⟩ | ⟨-, -, -, -, -, c⟩
    · exact tl (by decide) c
    · exact tl (by decide) c
    · exact tl (by decide) c
    · exact nl c
  · rcases c with ⟨-, -, -, c⟩ | ⟨-, -, -, -, -, c⟩ | ⟨-, -, -, -, -, c, -⟩ | ⟨-, u1, u2, -, -, -, -, -, -, c⟩ | ⟨-, -, -, -, c⟩
    · exact tl (by decide) c
    · exact nl c
    · exact nl c
    · rcases c with ⟨-, -, c⟩ | ⟨-, -, kv, kv', c⟩
      · exact tl (by decide) c
      · refine ⟨_, Or.inr (Or.inr ⟨_, _, c, rfl⟩), fun x hx e => ?_⟩
        rcases List.mem_cons.mp hx with hx | hx
        · rw [hx] at e
          exact absurd e (by decide : ¬ (5 : Int) = 7)
        · rw [List.mem_singleton.mp hx]
          have := hs c0
          exact ⟨⟨this, by show σ 64 w < 38; omega⟩, rfl, u2⟩
    · rcases c with ⟨-, -, c⟩ | ⟨-, c⟩
      · exact tl (by decide) c
      · exact tl (by decide) c
theorem LK_ln {w : Int} {σ σ' : qS} (hJ : JI False (-1) σ) (hw : 0 ≤ w ∧ w < 6) (hl : (ln σ).length ≤ 95) (h : WTK w σ σ') (hk : LKs σ' w) : ∃ (L : List Ms) (x y : Ms), mq L = mq (ln σ) ∧ L.length ≤ (ln σ).length ∧ x.1 ≠ 6 ∧ y.1 = 6 ∧ xw y 0 = 7 ∧ ln σ' = tl95 (tl95 L ++ [x]) ++ [y] := by
  obtain ⟨σ1, σ2, σ3, r1, r2, r3, a, ⟨j1, j2, j3, j4⟩, -, -, a3, -⟩ := h
  have q1 := RD_q hJ hw hl r1
  have q2 := RD_q j1 hw (by have := q1.2.1; omega) r2
  have q3 := RD_q j2 hw (by have := q1.2.1; have := q2.2.1; omega) r3
  obtain ⟨m1, m2, -, -⟩ := (q1.tr q2).tr q3
  have hsp := spl_b j3.1
  obtain ⟨k1, k2, k3⟩ := hk
  obtain ⟨-, ho, hk, c⟩ := a
  have nf : fgo w σ' → False := fun f => by have := f.1; omega
  rcases c with ⟨-, -, c, -⟩ | ⟨c0, c⟩ | ⟨c0, c⟩
  · omega
  · rcases c with ⟨-, -, f, -⟩ | ⟨-, f, -⟩ | ⟨-, -, f, -⟩ | ⟨-, -, c1, -⟩
    · exact (nf f).elim
    · exact (nf f).elim
    · exact (nf f).elim
    · omega
  · have hr := (rd_P2 j3 hw a3 c0).1
    have hst := (WR_b j3.1 hr).1
    rcases c with ⟨-, -, f, -⟩ | ⟨-, -, -, -, f, -⟩ | ⟨-, -, -, e, -, -, -, -, -, -, e2⟩ | ⟨-, u1, u2, -, -, -, -, -, -, c⟩ | ⟨-, -, f, -⟩
    · exact (nf f).elim
    · exact (nf f).elim
    · omega
    · rcases c with ⟨-, e, -⟩ | ⟨-, -, kv, kv', c⟩
      · have := hr.2.2.2.1
        omega
      · have hb : σ3 33 (σ3 64 w) ≠ 6 := by
          have := (j3.2.2.2.2.1 (σ3 64 w) hst.1 (by omega) u2).1
          omega
        exact ⟨ln σ3, _, _, m1, m2, hb, rfl, rfl, c⟩
    · exact (nf f).elim
theorem mq_lk {L : List Ms} {x y : Ms} {M : List Ms} (h : M = tl95 (tl95 L ++ [x]) ++ [y]) (hx : x.1 ≠ 6) (hy : y.1 = 6) : (mq (tl95 L ++ [x])).length ≤ (mq L).length ∧ (mq M).countP isK ≤ (mq L).countP isK + (if isK y = true then 1 else 0) := by
  have e1 : mq (tl95 L ++ [x]) = mq (tl95 L) := by rw [mq_app, mq_0 hx, List.append_nil]
  refine ⟨by rw [e1]; exact tl_l L, ?_⟩
  have k1 := ka_tl (tl95 L ++ [x])
  have k2 := ka_tl L
  rw [e1] at k1
  rw [h, mq_app, mq_1 hy, List.countP_append, List.countP_cons, List.countP_nil]
  omega
theorem Vp_lk {w : Int} {σ σ' : qS} (hJ : JI False (-1) σ) (hw : 0 ≤ w ∧ w < 6) (hl : (ln σ).length ≤ 95) (h : WTK w σ σ') (hk : LKs σ' w) : Vp σ' ≤ Vp σ := by
  have ho := frs_o hw (WTK_o h).1
  obtain ⟨L, x, y, m1, m2, x1, y1, y2, e⟩ := LK_ln hJ hw hl h hk
  have k := (mq_lk e x1 y1).2
  rw [isK_f (by omega), m1] at k
  have f0 : fr σ' w = 0 := fr_z (fun e => by have := e.1; have := hk.1; omega)
  rw [f0] at ho
  unfold Vp ka
  simp only [Bool.false_eq_true, if_false] at k
  omega
theorem vp_w2 {L : Nat} {τ : Nat → qS} (h : RNN L τ) {r v : Nat} (hv : v < 6) (h1 : 1 ≤ r) (hl : r < L) : Vp (τ (7 * r + v + 1)) ≤ Vp (τ (7 * r + v)) + 1 ∧ (Vp (τ (7 * r + v + 1)) = Vp (τ (7 * r + v)) + 1 → PT (v : Int) (τ (7 * r + v)) (τ (7 * r + v + 1))) := by
  have gs := h.1 (7 * r + v) (by omega)
  by_cases c : LKs (τ (7 * r + v + 1)) v
  · have := Vp_lk gs.1 (by omega) (run_95 h (by omega) (by omega) (by omega)) (stp_wtk h hv hl) c
    exact ⟨by omega, fun e => by omega⟩
  · exact Vp_wk gs.1 (by omega) (run_95 h (by omega) (by omega) (by omega)) (gs.2.2.1 v (by omega) (by omega)) (stp_wtk h hv hl) c (tk_nn gs (by omega))
theorem vp_r2 {L : Nat} {τ : Nat → qS} (h : RNN L τ) {r : Nat} (h1 : 1 ≤ r) (hl : r < L) (hc : 3 ≤ cn 6 (ln (τ (7 * r + 6)))) (hM : ∀ j, j < 3 → ∀ x, (mq (ln (τ (7 * r + 6))))[j]? = some x → isK x = true) : Vp (τ (7 * (r + 1))) ≤ Vp (τ (7 * r)) ∧ (Vp (τ (7 * (r + 1))) = Vp (τ (7 * r)) → ∀ v : Nat, v < 6 → PT (v : Int) (τ (7 * r + v)) (τ (7 * r + v + 1))) := by
  obtain ⟨a0, b0⟩ := vp_w2 h (v := 0) (by omega) h1 hl
  obtain ⟨a1, b1⟩ := vp_w2 h (v := 1) (by omega) h1 hl
  obtain ⟨a2, b2⟩ := vp_w2 h (v := 2) (by omega) h1 hl
  obtain ⟨a3, b3⟩ := vp_w2 h (v := 3) (by omega) h1 hl
  obtain ⟨a4, b4⟩ := vp_w2 h (v := 4) (by omega) h1 hl
  obtain ⟨a5, b5⟩ := vp_w2 h (v := 5) (by omega) h1 hl
  have a6 := vp_ms h h1 hl hc hM
  rw [show 7 * (r + 1) = 7 * r + 7 by omega]
  simp only [Nat.add_zero, Nat.add_assoc, Nat.reduceAdd] at a0 a1 a2 a3 a4 a5 a6 b0 b1 b2 b3 b4 b5 ⊢
  refine ⟨by omega, fun e v hv => ?_⟩
  have hc : v = 0 ∨ v = 1 ∨ v = 2 ∨ v = 3 ∨ v = 4 ∨ v = 5 := by omega
  rcases hc with rfl | rfl | rfl | rfl | rfl | rfl
  · exact b0 (by omega)
  · exact b1 (by omega)
  · exact b2 (by omega)
  · exact b3 (by omega)
  · exact b4 (by omega)
  · exact b5 (by omega)
def QG (τ : Nat → qS) (t : Nat) : Prop := t % 7 < 6 → ¬ ((∃ k, 0 ≤ k ∧ k < spl (τ (t + 1)) ∧ τ (t + 1) 33 k = -1) ∧ ∃ x ∈ ln (τ t), xw x 0 = 2 ∧ 38 ≤ xw x 2)
theorem QC2 {L : Nat} {τ : Nat → qS} (h : RNN L τ) {a : Nat} (h1 : 32 ≤ a) (hl : a + 39400 ≤ L) (hk : ∀ t, 7 * a ≤ t → t < 7 * (a + 39400) → QG τ t) (hM : ∀ r, a ≤ r → r < a + 39400 → 3 ≤ cn 6 (ln (τ (7 * r + 6))) ∧ ∀ j, j < 3 → ∀ x, (mq (ln (τ (7 * r + 6))))[j]? = some x → isK x = true) : False := by
  have st : ∀ r, a ≤ r → r < a + 39400 → _ := fun r h2 h3 => vp_r2 h (r := r) (by omega) (by omega) (hM r h2 h3).1 (hM r h2 h3).2
  obtain ⟨c, c1, c2, c3⟩ := dec_pig (f := fun r => Vp (τ (7 * r))) (V := 200) 196 a (fun i h2 h3 => (st i h2 (by omega)).1) (Vp_b (run_95 h (by omega) (by omega) (by omega)))
  have le : ∀ i, c ≤ i → i < c + 200 → Vp (τ (7 * (i + 1))) = Vp (τ (7 * i)) := fun i i1 i2 => by
    have g1 := dec_le (f := fun r => Vp (τ (7 * r))) (a := c) (b := 0) (i - c) (fun j h2 h3 => (st j (by omega) (by omega)).1)
    have g2 := dec_le (f := fun r => Vp (τ (7 * r))) (a := i + 1) (b := 0) (c + 200 - (i + 1)) (fun j h2 h3 => (st j (by omega) (by omega)).1)
    have g3 := (st i (by omega) (by omega)).1
    simp only [show c + (i - c) = i by omega, show i + 1 + (c + 200 - (i + 1)) = c + 200 by omega] at g1 g2 c3
    omega
  have hp : PFS τ c (c + 200) := fun t t1 t2 t3 => by
    have hP := (st (t / 7) (by omega) (by omega)).2 (le (t / 7) (by omega) (by omega)) (t % 7) t3
    rw [show 7 * (t / 7) + t % 7 = t by omega] at hP
    exact ⟨hP, hk t (by omega) (by omega) t3⟩
  exact Q1 h hp (by omega) (by omega) (fun r r1 r2 => ⟨(hM r (by omega) (by omega)).1, fun x hx => (hM r (by omega) (by omega)).2 0 (by omega) x hx⟩)
theorem SH2 {L : Nat} {τ : Nat → qS} (h : RNN L τ) {r v : Nat} (hv : v < 6) (h1 : 1 ≤ r) (hl : r + 3 ≤ L) {x : Ms} {M : List Ms} (hx : x.1 = 6) (h6 : (mq M).length ≤ 6) (he : ln (τ (7 * r + v + 1)) = tl95 M ++ [x]) : ∃ r', r ≤ r' ∧ r' < r + 3 ∧ HD3 x (ln (τ (7 * r' + 6))) := by
  apply Classical.byContradiction
  intro hn
  have no : ∀ r', r ≤ r' → r' < r + 3 → ¬ HD3 x (ln (τ (7 * r' + 6))) := fun r' a b c => hn ⟨r', a, b, c⟩
  have d0 : DX x (ln (τ (7 * r + (v + 1)))) 6 0 := by
    refine ⟨tl95 M, [], he, ?_, by simp⟩
    have := tl_l M
    omega
  have d1 := wk_x h hx (r := r) (i := v + 1) (by omega) (5 - v) (by omega) (by omega) d0
  rw [show 7 * r + (v + 1) + (5 - v) = 7 * r + 6 by omega] at d1
  have d2 := ms_x (c := 3) (DX_mo d1 (m' := 25) (by omega)) hx (stp_mtk h (by omega)) (no r (by omega) (by omega)) (run_95 h (by omega) (by omega) (by omega)) (by omega)
  rw [show 7 * r + 7 = 7 * (r + 1) + 0 by omega] at d2
  have d3 := wk_x h hx (r := r + 1) (i := 0) (by omega) 6 (by omega) (by omega) d2
  have d4 := ms_x (c := 0) d3 hx (stp_mtk h (r := r + 1) (by omega)) (no (r + 1) (by omega) (by omega)) (run_95 h (by omega) (by omega) (by omega)) (by omega)
  rw [show 7 * (r + 1) + 7 = 7 * (r + 2) + 0 by omega] at d4
  have d5 := wk_x h hx (r := r + 2) (i := 0) (by omega) 6 (by omega) (by omega) d4
  obtain ⟨j, j1, j2⟩ := DX_h d5 hx
  exact no (r + 2) (by omega) (by omega) ⟨j, by omega, j2⟩

