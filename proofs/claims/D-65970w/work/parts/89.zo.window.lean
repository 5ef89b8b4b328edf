theorem ACT_7 {w : Int} {σ σ' : qS} (h : ACT w σ σ') : ∃ s, acop (ln σ) (ln σ') s ∧ ∀ x ∈ s, (xw x 0 = 7 → LKs σ' w) ∧ xw x 0 ≠ 2 := by
  obtain ⟨-, -, -, c⟩ := h
  have nl : ln σ' = ln σ → ∃ s, acop (ln σ) (ln σ') s ∧ ∀ x ∈ s, (xw x 0 = 7 → LKs σ' w) ∧ xw x 0 ≠ 2 := fun e => ⟨[], Or.inl ⟨e, rfl⟩, fun x hx => absurd hx (by simp)⟩
  have tl : ∀ {to ty a b c d}, (ty ≠ 7 ∧ ty ≠ 2) → TL to ty a b c d σ σ' → ∃ s, acop (ln σ) (ln σ') s ∧ ∀ x ∈ s, (xw x 0 = 7 → LKs σ' w) ∧ xw x 0 ≠ 2 := fun {to ty a b c d} ht h => by
    obtain ⟨kv, h⟩ := h
    refine ⟨_, Or.inr (Or.inl ⟨_, h, rfl⟩), fun x hx => ?_⟩
    rw [List.mem_singleton.mp hx]
    exact ⟨fun e => absurd e ht.1, ht.2⟩
  rcases c with ⟨-, -, -, -, c⟩ | ⟨-, c⟩ | ⟨c0, c⟩
  · rcases c with ⟨-, c⟩ | ⟨-, c⟩
    · exact tl (by decide) c
    · exact nl c
  · rcases c with ⟨-, -, -, a, c⟩ | ⟨-, -, -, ⟨a, c⟩, -⟩ | ⟨-, -, -, c⟩ | ⟨-, -, -, -, -, c⟩
    · exact tl (by decide) c
    · exact tl (by decide) c
    · exact tl (by decide) c
    · exact nl c
  · rcases c with ⟨-, -, -, c⟩ | ⟨-, -, -, -, -, c⟩ | ⟨-, -, -, -, -, c, -⟩ | ⟨-, -, -, -, -, c1, -, -, c2, c⟩ | ⟨-, -, -, -, c⟩
    · exact tl (by decide) c
    · exact nl c
    · exact nl c
    · rcases c with ⟨-, -, c⟩ | ⟨-, c3, kv, kv', c⟩
      · exact tl (by decide) c
      · refine ⟨_, Or.inr (Or.inr ⟨_, _, c, rfl⟩), fun y hy => ⟨fun _ => ⟨by rw [c1]; exact c0, c2, c3⟩, ?_⟩⟩
        rcases List.mem_cons.mp hy with rfl | hy
        · exact (by decide : ¬ (5 : Int) = 2)
        · rw [List.mem_singleton.mp hy]; exact (by decide : ¬ (7 : Int) = 2)
    · rcases c with ⟨-, -, c⟩ | ⟨-, c⟩
      · exact tl (by decide) c
      · exact tl (by decide) c
theorem STP_7 {w : Int} {σ σ' : qS} (h : STP w σ σ') : ∃ s, TS w (ln σ) (ln σ') s ∧ ∀ x ∈ s, (xw x 0 = 7 → w < 6 ∧ LKs σ' w) ∧ (xw x 0 = 2 → w = 6) := by
  rcases h with ⟨hw, σ1, σ2, σ3, r1, r2, r3, a, -⟩ | ⟨rfl, σ1, σ2, r1, r2, r3, -⟩
  · obtain ⟨s1, p1, q1, -⟩ := RD_y r1
    obtain ⟨s2, p2, q2, -⟩ := RD_y r2
    obtain ⟨s3, p3, q3, -⟩ := RD_y r3
    obtain ⟨s4, p4, q4⟩ := ACT_7 a
    refine ⟨_, ⟨_, _, _, s1, s2, s3, s4, p1, p2, p3, p4, rfl⟩, mem4 (fun x hx => ?_) (fun x hx => ?_) (fun x hx => ?_) (fun x hx => ⟨fun e => ⟨hw.2, (q4 x hx).1 e⟩, fun e => absurd e (q4 x hx).2⟩)⟩
    · have := q1 x hx; exact ⟨fun e => by omega, fun e => by omega⟩
    · have := q2 x hx; exact ⟨fun e => by omega, fun e => by omega⟩
    · have := q3 x hx; exact ⟨fun e => by omega, fun e => by omega⟩
  · obtain ⟨s1, p1, q1⟩ := HR_y r1
    obtain ⟨s2, p2, q2⟩ := HR_y r2
    obtain ⟨s3, p3, q3⟩ := HR_y r3
    rw [l_clk] at p1
    have hA : ∀ x ∈ s1 ++ s2 ++ s3 ++ [], xw x 0 = 2 := mem4 q1 q2 q3 (fun x hx => absurd hx (by simp))
    exact ⟨_, ⟨_, _, _, s1, s2, s3, [], p1, p2, p3, Or.inl ⟨rfl, rfl⟩, rfl⟩, fun x hx => ⟨fun e => by have := hA x hx; omega, fun _ => rfl⟩⟩
theorem N7_run {L : Nat} {τ : Nat → qS} (h : RNN L τ) (hk : ∀ t, t < 7 * L → t % 7 < 6 → ¬ LKs (τ (t + 1)) ((t % 7 : Nat) : Int)) {t : Nat} (h1 : 224 ≤ t) (h2 : t ≤ 7 * L) : N7 (ln (τ t)) := by
  have hex : ∀ t, ∃ s, t < 7 * L → TS ((t % 7 : Nat) : Int) (ln (τ t)) (ln (τ (t + 1))) s ∧ ∀ x ∈ s, (xw x 0 = 7 → ((t % 7 : Nat) : Int) < 6 ∧ LKs (τ (t + 1)) ((t % 7 : Nat) : Int)) ∧ (xw x 0 = 2 → ((t % 7 : Nat) : Int) = 6) := fun t => by
    by_cases c : t < 7 * L
    · obtain ⟨s, hs⟩ := STP_7 (h.2 t c)
      exact ⟨s, fun _ => hs⟩
    · exact ⟨[], fun e => absurd e c⟩
  obtain ⟨S, hS⟩ := Classical.skolem.mp hex
  have hd : SND L τ S := fun t ht => (hS t ht).1
  have hs := old_gone h hd (t - 224) 224 (by omega) (by omega)
  rw [show t - 224 + 224 = t by omega] at hs
  intro x hx
  refine sns_m (P := fun x => xw x 0 ≠ 7) 224 (fun u u1 u2 x hx e => ?_) x (hs.subset hx)
  obtain ⟨e1, e2⟩ := ((hS u (by omega)).2 x hx).1 e
  exact hk u (by omega) (by omega) e2
def uu (σ : qS) (i : Nat) : Bool := decide (σ 33 (i : Int) = -1)
theorem run_nd {L : Nat} {τ : Nat → qS} (h : RNN L τ) (hk : ∀ t, t < 7 * L → t % 7 < 6 → ¬ LKs (τ (t + 1)) ((t % 7 : Nat) : Int)) {t : Nat} (h1 : 224 ≤ t) (h2 : t < 7 * L) (b : Int) (hb : isdn (τ t) b ≠ 0) : isdn (τ (t + 1)) b ≠ 0 := by
  rcases h.2 t h2 with ⟨-, hs⟩ | ⟨-, hs⟩
  · have k := WTK_j hs
    rw [isdn_k (k 33 (by decide)) (k 35 (by decide))]
    exact hb
  · exact (MT_m (run_ER h h1 (by omega)) (run_95 h (by omega) (by omega) (by omega)) (N7_run h hk h1 (by omega)) hs).1 b hb
theorem run_nk {L : Nat} {τ : Nat → qS} (h : RNN L τ) (hk : ∀ t, t < 7 * L → t % 7 < 6 → ¬ LKs (τ (t + 1)) ((t % 7 : Nat) : Int)) {t : Nat} (h1 : 224 ≤ t) (b : Int) (hb : isdn (τ t) b ≠ 0) : ∀ k, t + k ≤ 7 * L → isdn (τ (t + k)) b ≠ 0
  | 0, _ => hb
  | k + 1, h2 => run_nd h hk (t := t + k) (by omega) (by omega) b (run_nk h hk h1 b hb k (by omega))
theorem uu_d {σ : qS} {i : Nat} (hi : i < 38) : uu σ i = true ↔ isdn σ i = 0 := by
  unfold uu isdn
  rw [if_pos (by omega)]
  by_cases c : σ 33 (i : Int) = -1
  · rw [if_pos c]; exact ⟨fun _ => rfl, fun _ => decide_eq_true c⟩
  · rw [if_neg c]; exact ⟨fun e => absurd (of_decide_eq_true e) c, fun e => absurd e (by decide)⟩
theorem cP_lt {p q : Nat → Bool} {n : Nat} (h : ∀ x, x < n → p x = true → q x = true) : (List.range n).countP p ≤ (List.range n).countP q := cP_le _ (fun x hx => h x (List.mem_range.mp hx))
def ZC (τ : Nat → qS) (a b : Nat) : Prop := ∀ t, 7 * a ≤ t → t ≤ 7 * b → ∀ k : Int, 0 ≤ k → k < 44 → (isdn (τ t) k = 0 ↔ isdn (τ (7 * a)) k = 0)
theorem win1 {L V : Nat} {τ : Nat → qS} (h : RNN L τ) (hs : ∀ t, t ≤ 7 * L → psame (τ 0) (τ t)) (hk : ∀ t, t < 7 * L → t % 7 < 6 → ¬ LKs (τ (t + 1)) ((t % 7 : Nat) : Int)) (hL : 32 + 39 * V ≤ L) : ∃ a, 32 ≤ a ∧ a + V ≤ L ∧ ZC τ a (a + V) := by
  have mono : ∀ a b, 32 ≤ a → a ≤ b → b ≤ L → ∀ i, i < 38 → uu (τ (7 * b)) i = true → uu (τ (7 * a)) i = true := fun a b h1 h2 h3 i hi e => by
    rw [uu_d hi] at e ⊢
    apply Classical.byContradiction
    intro hn
    have := run_nk h hk (t := 7 * a) (by omega) i hn (7 * b - 7 * a) (by omega)
    rw [show 7 * a + (7 * b - 7 * a) = 7 * b by omega] at this
    exact this e
  obtain ⟨c, c1, c2, c3⟩ := dec_pig (f := fun r => (List.range 38).countP (uu (τ (7 * r)))) (V := V) 38 32 (fun i h1 h2 => cP_lt (mono i (i + 1) (by omega) (by omega) (by omega))) (by
    have := List.countP_le_length (p := uu (τ (7 * 32))) (l := List.range 38)
    rw [List.length_range] at this
    exact this)
  refine ⟨c, c1, by omega, fun t t1 t2 k k0 k1 => ?_⟩
  have up : ∀ k : Int, isdn (τ (7 * c)) k ≠ 0 → isdn (τ t) k ≠ 0 := fun k e => by
    have := run_nk h hk (t := 7 * c) (by omega) k e (t - 7 * c) (by omega)
    rw [show 7 * c + (t - 7 * c) = t by omega] at this
    exact this
  refine ⟨fun e => Classical.byContradiction (fun n => up k n e), fun e => Classical.byContradiction (fun n => ?_)⟩
  by_cases c38 : k < 38
  · have n2 := run_nk h hk (t := t) (by omega) k n (7 * (c + V) - t) (by omega)
    rw [show t + (7 * (c + V) - t) = 7 * (c + V) by omega] at n2
    have he := cP_eq (p := uu (τ (7 * (c + V)))) (q := uu (τ (7 * c))) (List.range 38) (fun x hx => mono c (c + V) (by omega) (by omega) (by omega) x (List.mem_range.mp hx)) c3 k.toNat (List.mem_range.mpr (by omega))
    have e1 : uu (τ (7 * c)) k.toNat = true := (uu_d (by omega)).mpr (by rw [show ((k.toNat : Nat) : Int) = k by omega]; exact e)
    rw [← he] at e1
    have := (uu_d (by omega)).mp e1
    rw [show ((k.toNat : Nat) : Int) = k by omega] at this
    exact n2 this
  · have d1 := (hs (7 * c) (by omega)).2.2.1 (k - 38).toNat (by omega)
    have d2 := (hs t (by omega)).2.2.1 (k - 38).toNat (by omega)
    rw [← d1] at d2
    unfold db at d2
    unfold isdn at e n
    rw [if_neg c38] at e n
    rw [show (((k - 38).toNat : Nat) : Int) = k - 38 by omega, e] at d2
    have d3 : decide (τ t 35 (k - 38) ≠ 0) = true := decide_eq_true n
    rw [d3] at d2
    exact absurd d2 (by decide)

