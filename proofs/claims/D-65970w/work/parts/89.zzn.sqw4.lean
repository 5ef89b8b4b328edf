theorem STP_8 {w : Int} {σ σ' : qS} (h : STP w σ σ') : ∃ s, TS w (ln σ) (ln σ') s ∧ ∀ x ∈ s, xw x 0 = 7 → LKe σ x := by
  rcases h with ⟨hw, σ1, σ2, σ3, r1, r2, r3, a, ⟨j1, j2, j3, j4⟩, -, -, a3, -⟩ | ⟨rfl, σ1, σ2, r1, r2, r3, -⟩
  · obtain ⟨s1, p1, q1, -⟩ := RD_y r1
    obtain ⟨s2, p2, q2, -⟩ := RD_y r2
    obtain ⟨s3, p3, q3, -⟩ := RD_y r3
    obtain ⟨s4, p4, q4⟩ := ACT_8 j3.1 (fun c0 => (WR_b j3.1 (rd_P2 j3 hw a3 c0).1).1.1) a
    have e : σ3 33 = σ 33 := (r3.2.2.1 _ (by decide)).trans ((r2.2.2.1 _ (by decide)).trans (r1.2.2.1 _ (by decide)))
    refine ⟨_, ⟨_, _, _, s1, s2, s3, s4, p1, p2, p3, p4, rfl⟩, mem4 (fun x hx => ?_) (fun x hx => ?_) (fun x hx => ?_) (fun x hx e7 => ?_)⟩
    · have := q1 x hx; exact fun e => by omega
    · have := q2 x hx; exact fun e => by omega
    · have := q3 x hx; exact fun e => by omega
    · have := q4 x hx e7
      rw [e] at this
      exact this
  · obtain ⟨s1, p1, q1⟩ := HR_y r1
    obtain ⟨s2, p2, q2⟩ := HR_y r2
    obtain ⟨s3, p3, q3⟩ := HR_y r3
    rw [l_clk] at p1
    have hA : ∀ x ∈ s1 ++ s2 ++ s3 ++ [], xw x 0 = 2 := mem4 q1 q2 q3 (fun x hx => absurd hx (by simp))
    exact ⟨_, ⟨_, _, _, s1, s2, s3, [], p1, p2, p3, Or.inl ⟨rfl, rfl⟩, rfl⟩, fun x hx e => by have := hA x hx; omega⟩
theorem lk_run {L : Nat} {τ : Nat → qS} (h : RNN L τ) {u0 t : Nat} (hu : ∀ u, u0 ≤ u → u ≤ t → (τ u) 33 = (τ t) 33) (h1 : u0 + 224 ≤ t) (h2 : t ≤ 7 * L) : ∀ x ∈ ln (τ t), xw x 0 = 7 → LKe (τ t) x := by
  have hex : ∀ t, ∃ s, t < 7 * L → TS ((t % 7 : Nat) : Int) (ln (τ t)) (ln (τ (t + 1))) s ∧ ∀ x ∈ s, xw x 0 = 7 → LKe (τ t) x := fun t => by
    by_cases c : t < 7 * L
    · obtain ⟨s, hs⟩ := STP_8 (h.2 t c)
      exact ⟨s, fun _ => hs⟩
    · exact ⟨[], fun e => absurd e c⟩
  obtain ⟨S, hS⟩ := Classical.skolem.mp hex
  have hd : SND L τ S := fun t ht => (hS t ht).1
  have hs := old_gone h hd (t - 224) 224 (by omega) (by omega)
  rw [show t - 224 + 224 = t by omega] at hs
  intro x hx
  refine sns_m (P := fun x => xw x 0 = 7 → LKe (τ t) x) 224 (fun u u1 u2 x hx e => ?_) x (hs.subset hx)
  have := (hS u (by omega)).2 x hx e
  unfold LKe at this ⊢
  rw [hu u (by omega) (by omega)] at this
  exact this
theorem SQW {L V : Nat} {τ s1 s2 : Nat → qS} (h : RNN L τ) (hs : ∀ t, t ≤ 7 * L → psame (τ 0) (τ t)) (hc : CHN L τ s1 s2) (hn : NE L τ s1 s2) (hV : V = 4400000100) (hL : 32 + 39 * (4445 * V) ≤ L) : False := by
  obtain ⟨a, a1, a2, a3⟩ := win1b h hs hn (V := 4445 * V) hL
  obtain ⟨c, c1, c2, c3⟩ := win2b h hc hn a1 (V := V) a2 a3
  have mc := UD_z h (by omega) a3
  have mem : ∀ {t : Nat} {x : Ms}, HD3 x (ln (τ t)) → x ∈ ln (τ t) := fun {t x} hx => by
    obtain ⟨j, -, hj⟩ := hx
    have := List.mem_of_getElem? hj
    unfold mq at this
    exact (List.mem_filter.mp this).1
  have nd : ∀ t, 7 * c + 224 ≤ t → t < 7 * (c + V) → t % 7 = 6 → ∀ x, HD3 x (ln (τ t)) → xw x 0 ≠ 3 := fun t t1 t2 t6 x hx x3 => by
    have hx' := mem hx
    rcases (MT_r h hc hn (t := t) (by omega) (by omega) t6).2.1 x hx with e | ⟨-, e2⟩ | ⟨e, -⟩
    · rw [isK_f (by omega)] at e; cases e
    · have z := c3 t (by omega) (by omega) x hx' x3
      have gs := h.1 t (by omega)
      have hE := run_ER h (t := t) (by omega) (by omega) x hx'
      have hL' := (gs.1.2.2.2.2.2.2.2.1 x hx').2 hE
      have hr : 0 ≤ xw x 3 ∧ xw x 3 < 44 := by
        have hp := gs.1.1.2.2.2.2.2.1
        rcases hL' with ⟨-, e⟩ | ⟨e0, e⟩
        · rcases e with ⟨e, -⟩ | ⟨-, e⟩ | ⟨e, -⟩ | ⟨e, -⟩
          · omega
          · rcases e.2 with e | e <;> omega
          · omega
          · omega
        · rcases e with ⟨e, -⟩ | ⟨e, -⟩ | ⟨e, -⟩ <;> omega
      exact e2 ((a3 (t + 1) (by omega) (by omega) _ hr.1 hr.2).mpr z)
    · omega
  have sc : ∀ k, 7 * (c + 32) + k ≤ 7 * (c + V) → (τ (7 * (c + 32) + k)) 33 = (τ (7 * (c + 32))) 33 := fun k => by
    induction k with
    | zero => intro _; rfl
    | succ k ih =>
      intro hk
      rw [← ih (by omega), show 7 * (c + 32) + (k + 1) = 7 * (c + 32) + k + 1 by omega]
      by_cases c6 : (7 * (c + 32) + k) % 7 = 6
      · exact ((MT_r h hc hn (t := 7 * (c + 32) + k) (by omega) (by omega) c6).2.2.2 (nd _ (by omega) (by omega) c6)).2.2
      · rcases h.2 (7 * (c + 32) + k) (by omega) with ⟨-, hs⟩ | ⟨e, -⟩
        · exact WTK_j hs _ (by decide)
        · omega
  have sc' : ∀ u, 7 * (c + 32) ≤ u → u ≤ 7 * (c + V) → (τ u) 33 = (τ (7 * (c + 32))) 33 := fun u u1 u2 => by
    have := sc (u - 7 * (c + 32)) (by omega)
    rw [show 7 * (c + 32) + (u - 7 * (c + 32)) = u by omega] at this
    exact this
  refine QWa2 h (a := c + 64) (b := c + V) (by omega) (by omega) (by omega) ⟨fun r r1 r2 x hx => ?_, fun t t1 t2 t3 hf => ?_⟩ (fun t t' b1 b2 b3 b4 => mc t t' (by omega) (by omega) (by omega) (by omega))
  · have m6 : (7 * r + 6) % 7 = 6 := by omega
    have M := MT_r h hc hn (t := 7 * r + 6) (by omega) (by omega) m6
    have n3 := nd (7 * r + 6) (by omega) (by omega) m6
    rcases M.2.1 x hx with e | ⟨e, -⟩ | ⟨e, e2⟩
    · exact e
    · exact absurd e (n3 x hx)
    · exfalso
      have l := lk_run h (u0 := 7 * (c + 32)) (t := 7 * r + 6) (fun u u1 u2 => (sc' u u1 (by omega)).trans (sc' (7 * r + 6) (by omega) (by omega)).symm) (by omega) (by omega) x (mem hx) e
      obtain ⟨f1, f2, -⟩ := M.2.2.2 n3
      have f0 : (clk (τ (7 * r + 6))) 33 = (τ (7 * r + 6)) 33 := clk_k (by decide)
      unfold LKe at l e2
      rw [f0, f1, f2] at e2
      rcases e2 with e2 | e2 | e2 <;> exact e2 l
  · exact gp_run2 h hc hn (t := t) (by omega) (by omega) (fun u u1 u2 => mc (t + 1) u (by omega) (by omega) (by omega) (by omega) hf.1) hf.2

