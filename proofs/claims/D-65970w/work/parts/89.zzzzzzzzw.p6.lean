-- the names of the PAIRS letters on the line, and the ticks in which they are accepted
theorem ctq_in {P : Nat → Prop} {x m x' m' : Nat} (h1 : x' ≤ x) (h2 : x + m ≤ x' + m') : ctq P x m ≤ ctq P x' m' := by
  have a := ctq_ext (P := P) (s := x) (n := m) (x - x') (by omega)
  rw [show x - (x - x') = x' by omega] at a
  have b := ctq_sub (P := P) (s := x') (k := m + (x - x')) (k' := m') (by omega)
  omega
def P6b (A : Nat → List (Ms × Nat × Nat)) (t b : Nat) : Prop := ∃ y ∈ A t, xw y.1 0 = 6 ∧ y.2.2 = b
theorem P6n {L s0 : Nat} {τ : Nat → qS} (hR : RNN L τ) {A : Nat → List (Ms × Nat × Nat)} (h : ANR L s0 τ A) (h7 : 224 ≤ s0) {t : Nat} (ht : s0 + 449 ≤ t) (hl : t ≤ 7 * L) : (∀ b, P6b A t b → t - 447 ≤ b ∧ b ≤ t) ∧ zP (τ t) ≤ ctq (P6b A t) (t - 447) 448 := by
  have tk := ANR_tk h (t - s0) (by omega)
  rw [show s0 + (t - s0) = t by omega] at tk
  have e0 := h.2.1 t (by omega) hl
  have born : ∀ y ∈ A t, t6 y.1 = true → t - 447 ≤ y.2.2 ∧ y.2.2 < t - 447 + 448 := fun y hy hp => by
    have hp' := (t6_i y.1).mp hp
    have hk : tokb y = true := (tokb_i y).mpr (Or.inr hp')
    have l := LIFE64 hR h h7 (t := t) (by omega) hl hy hk
    have q := tk y hy hk (by omega)
    have := q.1
    omega
  refine ⟨fun b ⟨y, y1, y2, y3⟩ => ?_, ?_⟩
  · have := born y y1 ((t6_i y.1).mpr y2)
    omega
  · have z : zP (τ t) = (A t).countP (fun y => t6 y.1) := by
      unfold zP
      rw [← e0]
      unfold prA
      rw [List.countP_map]
      rfl
    rw [z]
    have a := cp_rng (fun y => t6 y.1) (s := t - 447) (k := 448) (A t) born
    have b := ctq_sm (P := P6b A t) (f := fun b => (A t).countP (fun y => t6 y.1 && decide (y.2.2 = b))) (s := t - 447) 448 (fun b b1 b2 => by
      refine ⟨?_, fun e => ?_⟩
      · have t1 := ANR_tb h (b := b) (by omega) (t - s0) (by omega)
        rw [show s0 + (t - s0) = t by omega] at t1
        have le : (A t).countP (fun y => t6 y.1 && decide (y.2.2 = b)) ≤ tbc b (A t) := by
          unfold tbc
          refine List.countP_mono_left (fun y _ hh => ?_)
          rw [Bool.and_eq_true] at hh ⊢
          exact ⟨(tokb_i y).mpr (Or.inr ((t6_i y.1).mp hh.1)), hh.2⟩
        have : tbc b (A t) ≤ 1 := by
          split at t1 <;> omega
        show (A t).countP (fun y => t6 y.1 && decide (y.2.2 = b)) ≤ 1
        omega
      · have e' : (A t).countP (fun y => t6 y.1 && decide (y.2.2 = b)) = 1 := e
        obtain ⟨y, y1, y2⟩ := List.countP_pos_iff.mp (by omega : 0 < (A t).countP (fun y => t6 y.1 && decide (y.2.2 = b)))
        rw [Bool.and_eq_true] at y2
        exact ⟨y, y1, (t6_i y.1).mp y2.1, of_decide_eq_true y2.2⟩)
    omega
theorem P6_f0 {L s0 : Nat} {τ : Nat → qS} {A : Nat → List (Ms × Nat × Nat)} (h : ANR L s0 τ A) {t b : Nat} (hb : s0 < b) (ht : s0 ≤ t) (hl : t ≤ 7 * L) (hp : P6b A t b) : fbc b (A t) = 0 := by
  obtain ⟨y, y1, y2, y3⟩ := hp
  have t1 := ANR_tb h (b := b) hb (t - s0) (by omega)
  rw [show s0 + (t - s0) = t by omega] at t1
  have t1' : tbc b (A t) ≤ 1 := by split at t1 <;> omega
  apply Classical.byContradiction
  intro n
  unfold fbc at n
  obtain ⟨x, hx, px⟩ := List.countP_pos_iff.mp (by omega : 0 < (A t).countP (fun x => decide (xw x.1 0 = 5) && decide (x.2.2 = b)))
  rw [Bool.and_eq_true] at px
  have x5 := of_decide_eq_true px.1
  have xb := of_decide_eq_true px.2
  have e := UQ_t t1' y1 hx ((tokb_i y).mpr (Or.inr y2)) ((tokb_i x).mpr (Or.inl x5)) y3 xb
  rw [e, y2] at x5
  omega
-- the same name is no PAIRS letter of two lines that are 32 rounds apart
theorem P6_ds {L s0 : Nat} {τ : Nat → qS} (hR : RNN L τ) {A : Nat → List (Ms × Nat × Nat)} (h : ANR L s0 τ A) (h7 : 224 ≤ s0) {t t' b : Nat} (ht : s0 + 449 ≤ t) (tt : t + 224 ≤ t') (hl : t' ≤ 7 * L) (hp : P6b A t b) (hp' : P6b A t' b) : False := by
  have r := (P6n hR h h7 ht (by omega)).1 b hp
  have f := P6_f0 h (by omega : s0 < b) (by omega) (by omega) hp
  have np := ANR_np h (b := b) (g := t) (by omega) (by omega) f (t' - t) (by omega)
  rw [show t + (t' - t) = t' by omega] at np
  obtain ⟨y, y1, y2, y3⟩ := hp'
  have hk : tokb y = true := (tokb_i y).mpr (Or.inr y2)
  have a := np.2 y y1 hk y3
  have g := AGE32 hR h h7 (t := t') (by omega) hl y1 hk
  omega
-- a PAIRS letter of the line at y is accepted within the time in which its worker reads its inbox
theorem P6_ac {L s0 : Nat} {τ : Nat → qS} (hR : RNN L τ) {A : Nat → List (Ms × Nat × Nat)} {ρ : Nat → qS × qS × qS} {B : Nat → List (Ms × Nat × Nat) × List (Ms × Nat × Nat) × List (Ms × Nat × Nat)} (h : ANC L s0 τ A ρ B) (h7 : 224 ≤ s0) {y b u q : Nat} (hy : s0 + 449 ≤ y) (hl : y ≤ 7 * L) (hp : P6b A y b) (u1 : s0 ≤ u) (u2 : u < 7 * L) (ha : ACC τ A ρ B u b) (hq : cn ((u % 7 : Nat) : Int) (ln (τ y)) ≤ 3 * q) : y ≤ u ∧ u < y + 7 * q := by
  have r := (P6n hR h.1 h7 hy hl).1 b hp
  have yu : y ≤ u := by
    apply Classical.byContradiction
    intro n
    have o := (ANC_once h (by omega : s0 < b) u1 u2 ha).2.2 y (by omega) hl
    obtain ⟨z, z1, z2, z3⟩ := hp
    have : 0 < tbc b (A y) := by
      unfold tbc
      refine List.countP_pos_iff.mpr ⟨z, z1, ?_⟩
      rw [(tokb_i z).mpr (Or.inr z2), decide_eq_true z3]
      rfl
    omega
  refine ⟨yu, ?_⟩
  apply Classical.byContradiction
  intro n
  obtain ⟨h6, i, hi, z, z1, zb, z6⟩ := ACC_st ha
  have m := hd_mem z1
  have zk : tokb z = true := (tokb_i z).mpr (Or.inr z6)
  have f := P6_f0 h.1 (by omega : s0 < b) (by omega) (by omega) hp
  have np := ANR_np h.1 (b := b) (g := y) (by omega) (by omega) f (u - y) (by omega)
  rw [show y + (u - y) = u by omega] at np
  have zs := (st_np h u1 u2 h6 i (by omega) np).2 z m.1 zk zb
  have ag := AGE hR h.1 (t0 := y) (by omega) (by omega) (v := u % 7) h6 (r := q) hq (by omega)
  have lb : lbv (y + 1) ((u % 7 : Nat) : Int) (A (y + 7 * q)) := fun x hx e => ag x hx e
  have l1 := ANR_lb h.1 (t := y + 7 * q) (s := y + 1) (by omega) (by omega) lb (u - (y + 7 * q)) (by omega)
  rw [show y + 7 * q + (u - (y + 7 * q)) = u by omega] at l1
  have l2 := st_lb h u1 u2 h6 (s := y + 1) (by omega) i 0 (by omega) l1
  rw [Nat.zero_add] at l2
  have := l2 z m.1 m.2
  omega
theorem P6_v {L s0 : Nat} {τ : Nat → qS} (hR : RNN L τ) {A : Nat → List (Ms × Nat × Nat)} {ρ : Nat → qS × qS × qS} {B : Nat → List (Ms × Nat × Nat) × List (Ms × Nat × Nat) × List (Ms × Nat × Nat)} (h : ANC L s0 τ A ρ B) (h7 : 224 ≤ s0) {y q v : Nat} (hv : v < 6) (hy : s0 + 449 ≤ y) (hl : y ≤ 7 * L) (hq : cn (v : Int) (ln (τ y)) ≤ 3 * q) {s K : Nat} (h1 : s0 ≤ s) (h2 : s + K ≤ 7 * L) : ctq (fun u => (∃ b, P6b A y b ∧ ACC τ A ρ B u b) ∧ u % 7 = v) s K ≤ q := by
  have i := ctq_inj (P := fun u => (∃ b, P6b A y b ∧ ACC τ A ρ B u b) ∧ u % 7 = v) (f := fun u => u) (s := s) (a := y) (m := 7 * q) K (fun u => u % 7 = v) (fun u u1 u2 ⟨⟨b, b1, b2⟩, e⟩ => by
    have a := P6_ac hR h h7 hy hl b1 (by omega) (by omega) b2 (q := q) (by rw [e]; exact hq)
    exact ⟨a.1, a.2, e⟩) (fun t t' _ _ _ _ _ _ e => e)
  have j := ctq_m7 (v := v) (s := y) (by omega) q
  omega
-- the inboxes of the six workers and the master's queue
theorem cn_s7 : ∀ l : List Ms, cn 0 l + cn 1 l + cn 2 l + cn 3 l + cn 4 l + cn 5 l + cn 6 l ≤ l.length
  | [] => by simp [cn]
  | m :: l => by
    have ih := cn_s7 l
    have c : ∀ w : Int, cn w (m :: l) = cn w l + (if m.1 = w then 1 else 0) := fun w => by
      unfold cn
      rw [List.countP_cons]
      congr 1
      unfold toW
      by_cases e : m.1 = w
      · rw [if_pos e, if_pos (by rw [e]; exact beq_self_eq_true w)]
      · rw [if_neg e, if_neg (by rw [beq_iff_eq]; exact e)]
    rw [c 0, c 1, c 2, c 3, c 4, c 5, c 6, List.length_cons]
    by_cases e0 : m.1 = 0
    · rw [if_pos e0, if_neg (by omega), if_neg (by omega), if_neg (by omega), if_neg (by omega), if_neg (by omega), if_neg (by omega)]; omega
    · by_cases e1 : m.1 = 1
      · rw [if_neg e0, if_pos e1, if_neg (by omega), if_neg (by omega), if_neg (by omega), if_neg (by omega), if_neg (by omega)]; omega
      · by_cases e2 : m.1 = 2
        · rw [if_neg e0, if_neg e1, if_pos e2, if_neg (by omega), if_neg (by omega), if_neg (by omega), if_neg (by omega)]; omega
        · by_cases e3 : m.1 = 3
          · rw [if_neg e0, if_neg e1, if_neg e2, if_pos e3, if_neg (by omega), if_neg (by omega), if_neg (by omega)]; omega
          · by_cases e4 : m.1 = 4
            · rw [if_neg e0, if_neg e1, if_neg e2, if_neg e3, if_pos e4, if_neg (by omega), if_neg (by omega)]; omega
            · by_cases e5 : m.1 = 5
              · rw [if_neg e0, if_neg e1, if_neg e2, if_neg e3, if_neg e4, if_pos e5, if_neg (by omega)]; omega
              · rw [if_neg e0, if_neg e1, if_neg e2, if_neg e3, if_neg e4, if_neg e5]
                by_cases e6 : m.1 = 6
                · rw [if_pos e6]; omega
                · rw [if_neg e6]; omega
-- AccT of the PAIRS letters of a line: a third of the letters for workers
theorem P6_t {L s0 : Nat} {τ : Nat → qS} (hR : RNN L τ) {A : Nat → List (Ms × Nat × Nat)} {ρ : Nat → qS × qS × qS} {B : Nat → List (Ms × Nat × Nat) × List (Ms × Nat × Nat) × List (Ms × Nat × Nat)} (h : ANC L s0 τ A ρ B) (h7 : 224 ≤ s0) {y : Nat} (hy : s0 + 449 ≤ y) (hl : y ≤ 7 * L) {s K : Nat} (h1 : s0 ≤ s) (h2 : s + K ≤ 7 * L) : 3 * ctq (fun u => ∃ b, P6b A y b ∧ ACC τ A ρ B u b) s K + cn 6 (ln (τ y)) ≤ (ln (τ y)).length + 12 := by
  have x := ctq_six (P := fun u => ∃ b, P6b A y b ∧ ACC τ A ρ B u b) (s := s) (k := K) (fun t ⟨b, _, q⟩ => q.1)
  have f : ∀ v : Nat, v < 6 → ctq (fun u => (∃ b, P6b A y b ∧ ACC τ A ρ B u b) ∧ u % 7 = v) s K ≤ (cn (v : Int) (ln (τ y)) + 2) / 3 := fun v hv => P6_v hR h h7 hv hy hl (by omega) h1 h2
  have f0 := f 0 (by omega)
  have f1 := f 1 (by omega)
  have f2 := f 2 (by omega)
  have f3 := f 3 (by omega)
  have f4 := f 4 (by omega)
  have f5 := f 5 (by omega)
  have c := cn_s7 (ln (τ y))
  have g0 : cn ((0 : Nat) : Int) (ln (τ y)) = cn 0 (ln (τ y)) := rfl
  have g1 : cn ((1 : Nat) : Int) (ln (τ y)) = cn 1 (ln (τ y)) := rfl
  have g2 : cn ((2 : Nat) : Int) (ln (τ y)) = cn 2 (ln (τ y)) := rfl
  have g3 : cn ((3 : Nat) : Int) (ln (τ y)) = cn 3 (ln (τ y)) := rfl
  have g4 : cn ((4 : Nat) : Int) (ln (τ y)) = cn 4 (ln (τ y)) := rfl
  have g5 : cn ((5 : Nat) : Int) (ln (τ y)) = cn 5 (ln (τ y)) := rfl
  omega

