-- a token whose FETCH lies unread from d0 to d1: every tick of its owner in between reads three older letters
theorem UTK {L s0 : Nat} {τ : Nat → qS} (hR : RNN L τ) {A : Nat → List (Ms × Nat × Nat)} {ρ : Nat → qS × qS × qS} {B : Nat → List (Ms × Nat × Nat) × List (Ms × Nat × Nat) × List (Ms × Nat × Nat)} (h : ANC2 L s0 τ A ρ B) (h7 : 224 ≤ s0) {b0 d0 d1 : Nat} (hb : s0 < b0) (bd : b0 ≤ d0) (hl : d1 ≤ 7 * L) {y : Ms × Nat × Nat} (hy : y ∈ A d1) (y5 : xw y.1 0 = 5) (yb : y.2.2 = b0) : ∀ t, d0 ≤ t → t < d1 → y.1.1 = ((t % 7 : Nat) : Int) → XK A B b0 b0 t := by
  intro t t1 t2 yc
  have mem : ∀ u, d0 ≤ u → u ≤ d1 → y ∈ A u := fun u u1 u2 => by
    have f := ANR_f5 h.1.1 (t := u) (by omega) (d1 - u) (by omega) y (by rw [show u + (d1 - u) = d1 by omega]; exact hy) y5 (by omega)
    exact f
  have m0 := mem t t1 (by omega)
  have m1 := mem (t + 1) (by omega) (by omega)
  have e0 := h.1.1.2.1 t (by omega) (by omega)
  have ym : y.1 ∈ ln (τ t) := by rw [← e0]; exact List.mem_map_of_mem m0
  have l6 : t % 7 < 6 := by
    have := to_w hR (t := t) (by omega) (by omega) ym (Or.inl y5)
    omega
  have fs := ANR_fs h.1.1 (t - s0) (by omega)
  rw [show s0 + (t - s0) = t by omega] at fs
  have ys := fs y m0 y5
  refine ⟨l6, y, m0, yc, fun i hi c => ?_, by rw [ys, yb], yb⟩
  -- y is still there after the tick
  have s3 : y ∈ stA A B t 3 := by
    obtain ⟨q, q1, -⟩ := h.2 t (by omega) (by omega) l6
    have ap : ∀ {D : List (Ms × Nat × Nat)} {z : Ms}, y ∈ tlA D ++ [(z, t + 1, t + 1)] → y ∈ D := fun {D z} hh => by
      rw [List.mem_append, List.mem_singleton] at hh
      rcases hh with hh | hh
      · exact (tlA_sub D).subset hh
      · exfalso
        have : y.2.2 = t + 1 := by rw [hh]
        omega
    rcases q1 with ⟨e, -⟩ | ⟨z, e, -⟩ | ⟨z, z', e, -⟩
    · rw [e] at m1; exact m1
    · rw [e] at m1; exact ap m1
    · rw [e] at m1; exact ap (ap m1)
  have back : ∀ d, d ≤ 3 → y ∈ stA A B t (3 - d) := fun d => by
    induction d with
    | zero => intro _; exact s3
    | succ d ih =>
      intro q
      have m := ih (by omega)
      have r := st_rd h.1 (by omega : s0 ≤ t) (by omega) l6 (i := 3 - (d + 1)) (by omega)
      rw [show 3 - (d + 1) + 1 = 3 - d by omega] at r
      exact RDn_f5 r m y5
  have mi : y ∈ stA A B t (i + 1) := by
    have := back (3 - (i + 1)) (by omega)
    rw [show 3 - (3 - (i + 1)) = i + 1 by omega] at this
    exact this
  have tb := st_tb1 hR h (T := t) (s := b0) (by omega) (by omega) l6 hb i (by omega)
  have r := st_rd h.1 (by omega : s0 ≤ t) (by omega) l6 (i := i) hi
  obtain ⟨i0, a, b⟩ := c
  rcases r with ⟨d, -⟩ | ⟨j0, y', d1', d2, d⟩
  · rw [a] at d; cases d
  · have ey : y = y' := hdA_u ⟨i0, a, b⟩ ⟨j0, d1', d2⟩
    subst ey
    have inE : y ∈ (stA A B t i).eraseIdx j0 := by
      rcases d with ⟨-, e⟩ | ⟨-, -, z, -, z6, -, -, -, -, e⟩
      · rw [e] at mi; exact mi
      · rw [e, List.mem_append, List.mem_singleton] at mi
        rcases mi with mi | mi
        · exact (tlA_sub _).subset mi
        · exfalso
          rw [mi] at y5
          have y5' : xw z 0 = 5 := y5
          omega
    have p := cpA_er (fun x => tokb x && decide (x.2.2 = b0)) (stA A B t i) j0 y d2
    have py : (tokb y && decide (y.2.2 = b0)) = true := by rw [(tokb_i y).mpr (Or.inl y5), decide_eq_true yb]; rfl
    rw [if_pos py] at p
    have pos := List.countP_pos_iff (p := fun x : Ms × Nat × Nat => tokb x && decide (x.2.2 = b0)) |>.mpr ⟨y, inE, py⟩
    unfold tbc at tb
    omega
-- what its owner reads in this time
theorem XKF {L s0 : Nat} {τ : Nat → qS} (hR : RNN L τ) {A : Nat → List (Ms × Nat × Nat)} {ρ : Nat → qS × qS × qS} {B : Nat → List (Ms × Nat × Nat) × List (Ms × Nat × Nat) × List (Ms × Nat × Nat)} (h : ANC2 L s0 τ A ρ B) (h7 : 224 ≤ s0) {b0 d0 n c : Nat} (h1 : s0 + 900 ≤ d0) (bd : b0 ≤ d0) (bb : s0 + 500 < b0) (hl : d0 + n ≤ 7 * L) {y : Ms × Nat × Nat} (hy : y ∈ A (d0 + n)) (y5 : xw y.1 0 = 5) (yb : y.2.2 = b0) (yc : y.1.1 = (c : Int)) : 3 * ctq (fun t => t % 7 = c) d0 n ≤ ctq (FDz τ A ρ B d0 (d0 + n)) (d0 - 223) 224 + (ctq (RK τ A ρ B (fun t => t % 7 = c) (fun _ _ => True) 2 0) d0 n + ctq (RK τ A ρ B (fun t => t % 7 = c) (fun _ _ => True) 2 1) d0 n + ctq (RK τ A ρ B (fun t => t % 7 = c) (fun _ _ => True) 2 2) d0 n) + (ctq (RK τ A ρ B (fun t => t % 7 = c) (fun _ _ => True) 6 0) d0 n + ctq (RK τ A ρ B (fun t => t % 7 = c) (fun _ _ => True) 6 1) d0 n + ctq (RK τ A ρ B (fun t => t % 7 = c) (fun _ _ => True) 6 2) d0 n) := by
  have xk : ∀ t, d0 ≤ t → t < d0 + n → t % 7 = c → XK A B b0 b0 t := fun t t1 t2 e => UTK hR h h7 (by omega) bd hl hy y5 yb t t1 t2 (by rw [yc, e])
  have per : ∀ i, i < 3 → ctq (fun t => t % 7 = c) d0 n ≤ ctq (RK τ A ρ B (fun t => t % 7 = c) (fun _ _ => True) 2 i) d0 n + (ctq (RK τ A ρ B (fun t => t % 7 = c) (fun _ _ => True) 5 i) d0 n + ctq (RK τ A ρ B (fun t => t % 7 = c) (fun _ _ => True) 6 i) d0 n) := fun i hi => by
    have c1 := ctq_or (P := fun t => t % 7 = c) (Q := RK τ A ρ B (fun t => t % 7 = c) (fun _ _ => True) 2 i) (R := fun t => RK τ A ρ B (fun t => t % 7 = c) (fun _ _ => True) 5 i t ∨ RK τ A ρ B (fun t => t % 7 = c) (fun _ _ => True) 6 i t) (s := d0) n (fun t t1 t2 e => by
      have x := xk t t1 t2 e
      have f := T0_cn h.1 (by omega) (by omega) (XK_0 hR h.1 (by omega) (by omega) (by omega) x)
      obtain ⟨b, q | q | q⟩ := FULL3 hR h.1 (t := t) (by omega) (by omega) (by omega) f.1 f.2 hi
      · exact Or.inl ⟨e, b, q, trivial⟩
      · exact Or.inr (Or.inl ⟨e, b, q, trivial⟩)
      · exact Or.inr (Or.inr ⟨e, b, q, trivial⟩))
    have c2 := ctq_or (P := fun t => RK τ A ρ B (fun t => t % 7 = c) (fun _ _ => True) 5 i t ∨ RK τ A ρ B (fun t => t % 7 = c) (fun _ _ => True) 6 i t) (Q := RK τ A ρ B (fun t => t % 7 = c) (fun _ _ => True) 5 i) (R := RK τ A ρ B (fun t => t % 7 = c) (fun _ _ => True) 6 i) (s := d0) n (fun t _ _ q => q)
    omega
  have k5 := RKn h.1 (d := fun t => t % 7 = c) (P := fun _ _ => True) (Q := FDz τ A ρ B d0 (d0 + n)) (k := 5) (Or.inl rfl) (s := d0) (n := n) (a := d0 - 223) (m := 224) (by omega) hl (fun t i b t1 t2 hi e r _ => by
    have x := xk t t1 t2 e
    have xb := XK_b hR h.1 (by omega) (by omega) (by omega) x hi r
    have rb := rd5_b hR h.1 h7 (by omega) (by omega) hi r
    obtain ⟨f6, z, zb, zh, ze, z5⟩ := r
    have zA := st_f5 h.1 (by omega) (by omega) f6 i (by omega) z (hd_mem zh).1 z5
    have zd := ANR_f5 h.1.1 (t := d0) (by omega) (t - d0) (by omega) z (by rw [show d0 + (t - d0) = t by omega]; exact zA) z5 (by omega)
    have fd : F5b A d0 b := ⟨z, zd, z5, zb⟩
    have br := (F5n hR h.1.1 h7 (t := d0) (by omega) (by omega)).1 b fd
    exact ⟨by omega, by omega, by omega, fd, t, i, t1, t2, hi, f6, z, zb, zh, ze, z5⟩)
  have p0 := per 0 (by omega)
  have p1 := per 1 (by omega)
  have p2 := per 2 (by omega)
  omega

