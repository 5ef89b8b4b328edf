theorem st_er {L s0 : Nat} {τ : Nat → qS} (hR : RNN L τ) {A : Nat → List (Ms × Nat × Nat)} {ρ : Nat → qS × qS × qS} {B : Nat → List (Ms × Nat × Nat) × List (Ms × Nat × Nat) × List (Ms × Nat × Nat)} (h : ANC L s0 τ A ρ B) {t : Nat} (h0 : 224 ≤ t) (h1 : s0 ≤ t) (h2 : t < 7 * L) (h6 : t % 7 < 6) : (∀ i, i < 3 → stQ τ ρ t i 31 0 = τ t 31 0) ∧ ∀ i, i ≤ 2 → ∀ y ∈ stA A B t i, xw y.1 1 = τ t 31 0 := by
  have e0 := h.1.2.1 t h1 (by omega)
  have er := run_ER hR h0 (by omega)
  obtain ⟨wd, -⟩ := h.2 t h1 h2 h6
  obtain ⟨r1, r2, r3, -⟩ := wd
  have q1 : (ρ t).1 31 = τ t 31 := r1.2.2.1 _ (by decide)
  have q2 : (ρ t).2.1 31 = τ t 31 := (r2.2.2.1 _ (by decide)).trans q1
  have qe : ∀ i, i < 3 → stQ τ ρ t i 31 0 = τ t 31 0 := fun i hi => by
    rcases (by omega : i = 0 ∨ i = 1 ∨ i = 2) with e | e | e
    · subst e; rfl
    · subst e; show (ρ t).1 31 0 = _; rw [q1]
    · subst e; show (ρ t).2.1 31 0 = _; rw [q2]
  refine ⟨qe, fun i => ?_⟩
  induction i with
  | zero => intro _ y hy; exact er y.1 (by rw [← e0]; exact List.mem_map_of_mem hy)
  | succ i ih =>
    intro hi y hy
    have r := st_rd h h1 h2 h6 (i := i) (by omega)
    rcases r with ⟨-, e⟩ | ⟨j, x, -, c2, c⟩
    · rw [e] at hy; exact ih (by omega) y hy
    · rcases c with ⟨-, e⟩ | ⟨-, -, z, -, -, z1, -, -, -, e⟩
      · rw [e] at hy; exact ih (by omega) y ((List.eraseIdx_sublist _ j).subset hy)
      · rw [e, List.mem_append, List.mem_singleton] at hy
        rcases hy with hy | hy
        · exact ih (by omega) y ((List.eraseIdx_sublist _ j).subset ((tlA_sub _).subset hy))
        · rw [hy]
          show xw z 1 = _
          rw [z1, qe i (by omega)]
theorem NRD {L s0 : Nat} {τ : Nat → qS} (hR : RNN L τ) {A : Nat → List (Ms × Nat × Nat)} {ρ : Nat → qS × qS × qS} {B : Nat → List (Ms × Nat × Nat) × List (Ms × Nat × Nat) × List (Ms × Nat × Nat)} (h : ANC L s0 τ A ρ B) (h7 : 224 ≤ s0) {w : Nat} (hw : w < 6) {t : Nat} (ht : t % 7 = w) (h1 : 7 * 145 ≤ t) (h2 : t + 1 ≤ 7 * L) (hl : LKs (τ (t + 1)) w) {j : Nat} (j1 : 1 ≤ j) (j2 : j ≤ 143) (js : s0 < t + 1 - 7 * j) {T : Nat} (T1 : t + 1 - 7 * j ≤ T) (T2 : T ≤ t) (T6 : T % 7 < 6) {i : Nat} (hi : i < 3) {y : Ms × Nat × Nat} (hy : hdA ((T % 7 : Nat) : Int) (stA A B T i) y) (y6 : xw y.1 0 = 6) (yb : y.2.2 = t + 1 - 7 * j) : False := by
  have m := hd_mem hy
  have zk : tokb y = true := (tokb_i y).mpr (Or.inr y6)
  have t0 := ANR_tk h.1 (T - s0) (by omega)
  rw [show s0 + (T - s0) = T by omega] at t0
  have tka : ∀ i, i ≤ 3 → TKa s0 τ T (stA A B T i) := fun i => by
    induction i with
    | zero => intro _; exact t0
    | succ i ih => intro q; exact RDn_tk (st_rd h (by omega : s0 ≤ T) (by omega) T6 (i := i) (by omega)) (ih (by omega))
  obtain ⟨-, -, -, u, u1, u2, u3, u4, -⟩ := tka i (by omega) y m.1 zk (by omega)
  have ea : asr y.1 = y.1.1 := by unfold asr; exact if_neg (by omega)
  rw [yb] at u2
  have uw : u = w := by omega
  subst uw
  have Tw : T % 7 = u := by rw [ea, m.2] at u3; omega
  obtain ⟨k, ek⟩ : ∃ k, T + 7 * k = t := ⟨(t - T) / 7, by omega⟩
  obtain ⟨nf, w1, w2, w3, w4, -⟩ := lk_wait hR hw ht h1 h2 hl k (by omega)
  obtain ⟨-, v1, v2, v3, v4, -⟩ := lk_wait hR hw ht h1 h2 hl (j - 1) (by omega)
  rw [show j - 1 + 1 = j by omega] at v1 v2 v3 v4
  rw [show t - 7 * k = T by omega] at nf
  have eT : t + 1 - 7 * (k + 1) = T - 7 + 1 := by omega
  rw [eT] at w1 w2 w3 w4
  have rw1 := run_w hR hw (t := T - 7) (by omega) 6 (by omega) (by omega)
  have rp := run_ps hR hw (t := T - 7) (by omega) w1 6 (by omega) (by omega)
  rw [show T - 7 + 1 + 6 = T by omega] at rw1 rp
  have pl : plc (τ T) (u : Int) = plc (τ (t + 1 - 7 * j)) (u : Int) := by
    unfold plc
    rw [rw1 62 (by decide), rw1 64 (by decide), rp, w2, w3, w4, v2, v3, v4]
  have tp : tpl y.1 = (xw y.1 5, xw y.1 2, xw y.1 3) := by unfold tpl; exact if_neg (by omega)
  rw [yb, ← pl, tp] at u4
  have t38 : 38 ≤ τ T 62 (u : Int) := by rw [rw1 62 (by decide)]; exact w1
  obtain ⟨wd, ⟨p0, p1, p2, -, -⟩, -⟩ := h.2 T (by omega) (by omega) T6
  rw [Tw] at wd
  obtain ⟨s1, s2, s3, n1, n2, n3⟩ := nf _ _ _ wd
  obtain ⟨qe, ye⟩ := st_er hR h (by omega : 224 ≤ T) (by omega) (by omega) T6
  have yr := ye i (by omega) y m.1
  have ft : ∀ σ : qS, σ 62 (u : Int) = τ T 62 (u : Int) → σ 64 (u : Int) = τ T 64 (u : Int) → ps σ (u : Int) = ps (τ T) (u : Int) → fits (u : Int) σ y.1 := fun σ a b c => by
    unfold plc at u4
    have e1 := congrArg (fun q : Int × Int × Int => q.1) u4
    have e2 := congrArg (fun q : Int × Int × Int => q.2.1) u4
    have e3 := congrArg (fun q : Int × Int × Int => q.2.2) u4
    simp only at e1 e2 e3
    exact ⟨by omega, by rw [a]; exact e1, by rw [b]; exact e2, by rw [c]; exact e3⟩
  rw [Tw] at hy
  rcases (by omega : i = 0 ∨ i = 1 ∨ i = 2) with e | e | e
  · subst e
    exact n1 y.1 (hd_rdX p0 hy) yr y6 (ft _ rfl rfl rfl)
  · subst e
    have q := qe 1 (by omega)
    have q' : (ρ T).1 31 0 = τ T 31 0 := q
    exact n2 y.1 (hd_rdX p1 hy) (by rw [q']; exact yr) y6 (ft _ s1.1 s1.2.1 s1.2.2.2.2)
  · subst e
    have q := qe 2 (by omega)
    have q' : (ρ T).2.1 31 0 = τ T 31 0 := q
    have s12 := s1.tr s2
    exact n3 y.1 (hd_rdX p2 hy) (by rw [q']; exact yr) y6 (ft _ s12.1 s12.2.1 s12.2.2.2.2)
theorem DROP {L s0 : Nat} {τ : Nat → qS} (hR : RNN L τ) {A : Nat → List (Ms × Nat × Nat)} {ρ : Nat → qS × qS × qS} {B : Nat → List (Ms × Nat × Nat) × List (Ms × Nat × Nat) × List (Ms × Nat × Nat)} (h : ANC L s0 τ A ρ B) (h7 : 224 ≤ s0) {w : Nat} (hw : w < 6) {t : Nat} (ht : t % 7 = w) (h1 : 7 * 145 ≤ t) (h2 : t + 1 ≤ 7 * L) (hl : LKs (τ (t + 1)) w) {k : Nat} (k1 : 5 ≤ k) (k2 : k ≤ 11) (js : s0 + 7 ≤ t - 91 * k) : ∃ T, t - 91 * k ≤ T ∧ T ≤ t - 91 * k + 449 ∧ 94 ≤ (ln (τ T)).length := by
  apply Classical.byContradiction
  intro n
  have sm : ∀ T, t - 91 * k ≤ T → T ≤ t - 91 * k + 449 → (ln (τ T)).length ≤ 93 := fun T a b => by
    apply Classical.byContradiction
    intro q
    exact n ⟨T, a, b, by omega⟩
  obtain ⟨-, v1, v2, v3, v4, v5, v6, v7, v8⟩ := lk_wait hR hw ht h1 h2 hl (13 * k - 1) (by omega)
  rw [show 13 * k - 1 + 1 = 13 * k by omega, show t + 1 - 7 * (13 * k) = t - 91 * k + 1 by omega] at v1 v5 v6 v7 v8
  unfold wtg at v5
  have ag : τ (t - 91 * k + 1) 65 (w : Int) = 1 := by omega
  have fe1 : fe (τ (t - 91 * k + 1)) (w : Int) = 1 := by unfold fe; exact if_pos ⟨v1, ag⟩
  have b0 := BIRTH hR h h7 hw (u := t - 91 * k) (by omega) (by omega) (by omega) fe1 (sm _ (Nat.le_refl _) (by omega))
  have key : ∀ d, d ≤ 448 → 1 ≤ tbc (t - 91 * k + 1) (A (t - 91 * k + 1 + d)) := fun d => by
    induction d with
    | zero => intro _; exact b0
    | succ d ih =>
      intro q
      have i1 := ih (by omega)
      rcases NDT hR h h7 (t := t - 91 * k + 1 + d) (b := t - 91 * k + 1) (by omega) (by omega) (sm _ (by omega) (by omega)) with c | ⟨c6, i, hi, y, y1, y2, y3⟩
      · rw [show t - 91 * k + 1 + (d + 1) = t - 91 * k + 1 + d + 1 by omega]
        omega
      · exfalso
        exact NRD hR h h7 hw ht h1 h2 hl (j := 13 * k) (by omega) (by omega) (by omega) (T := t - 91 * k + 1 + d) (by omega) (by omega) c6 hi y1 y2 (by rw [y3]; omega)
  have z := key 448 (Nat.le_refl _)
  unfold tbc at z
  obtain ⟨x, x1, x2⟩ := List.countP_pos_iff.mp (by omega : 0 < (A (t - 91 * k + 1 + 448)).countP (fun y => tokb y && decide (y.2.2 = t - 91 * k + 1)))
  rw [Bool.and_eq_true] at x2
  have xb := of_decide_eq_true x2.2
  by_cases c : s0 + 448 ≤ t - 91 * k + 1 + 448
  · have := LIFE64 hR h.1 h7 c (by omega) x1 x2.1
    omega
  · omega

