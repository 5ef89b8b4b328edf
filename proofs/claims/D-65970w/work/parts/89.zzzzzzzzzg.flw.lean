-- after its FETCH was read a token has no FETCH, and its PAIRS has a stamp of that time at most
theorem RD_npb {L s0 : Nat} {τ : Nat → qS} (hR : RNN L τ) {A : Nat → List (Ms × Nat × Nat)} {ρ : Nat → qS × qS × qS} {B : Nat → List (Ms × Nat × Nat) × List (Ms × Nat × Nat) × List (Ms × Nat × Nat)} (h : ANC2 L s0 τ A ρ B) (h7 : 224 ≤ s0) {φ i b : Nat} (hb : s0 < b) (h1 : s0 + 224 ≤ φ) (h2 : φ < 7 * L) (hi : i < 3) (r : rdk τ A ρ B 5 φ i b) : NPb b (φ + 1) (A (φ + 1)) := by
  have l6 := r.1
  have rb := rd5_b hR h.1 h7 h1 h2 hi r
  have tb := st_tb1 hR h (T := φ) (s := b) (by omega) h2 l6 hb i (by omega)
  have d := (rd_dec h.1 (by omega : s0 ≤ φ) h2 (b := b) hi).1 r
  have f : fbc b (stA A B φ i) ≤ tbc b (stA A B φ i) := by
    unfold fbc tbc
    refine List.countP_mono_left (fun y _ hh => ?_)
    rw [Bool.and_eq_true] at hh ⊢
    exact ⟨(tokb_i y).mpr (Or.inl (of_decide_eq_true hh.1)), hh.2⟩
  have key : ∀ d, i + 1 + d ≤ 3 → NPb b (φ + 1) (stA A B φ (i + 1 + d)) := fun d => by
    induction d with
    | zero =>
      intro _
      exact ⟨by show fbc b (stA A B φ (i + 1)) = 0; omega, fun y hy _ _ => (st_srt h.1 (by omega) h2 l6 (i + 1) (by omega)).2 y hy⟩
    | succ d ih =>
      intro q
      exact RDn_np (st_rd h.1 (by omega : s0 ≤ φ) h2 l6 (i := i + 1 + d) (by omega)) (ih (by omega))
  have k3 := key (2 - i) (by omega)
  rw [show i + 1 + (2 - i) = 3 by omega] at k3
  obtain ⟨q, q1, -⟩ := h.2 φ (by omega) h2 l6
  exact ACn_np (by omega) q1 k3
-- every accepted token has a tick in which its FETCH is read
theorem RDE {L s0 : Nat} {τ : Nat → qS} (hR : RNN L τ) {A : Nat → List (Ms × Nat × Nat)} {ρ : Nat → qS × qS × qS} {B : Nat → List (Ms × Nat × Nat) × List (Ms × Nat × Nat) × List (Ms × Nat × Nat)} (h : ANC2 L s0 τ A ρ B) (h7 : 224 ≤ s0) {b t : Nat} (hb : s0 < b) (h1 : s0 ≤ t) (h2 : t < 7 * L) (ha : ACC τ A ρ B t b) : ∃ φ i, b ≤ φ ∧ φ ≤ t ∧ i < 3 ∧ rdk τ A ρ B 5 φ i b := by
  obtain ⟨v, v6, v2, v3, v4, v5, -⟩ := ACC_tk h.1 hb h1 h2 ha
  have bt := (ANC_once h.1 hb h1 h2 ha).2.1
  obtain ⟨y, y1, y5, -, -, -, yb⟩ := BIRTH3 h (u := b - 1) (by omega) (by omega) (by omega) (by rw [show b - 1 + 1 = b by omega, v2]; exact v4)
  rw [show b - 1 + 1 = b by omega] at y1 yb
  have tb := ANR_tb h.1.1 (b := b) hb (b - s0) (by omega)
  rw [show s0 + (b - s0) = b by omega] at tb
  have af := AF_1 (b := b) (A := A b) (by split at tb <;> omega) (KQ_mem y1) y5 yb
  exact F5R hR h.1 h7 (t := b) (b := b) (T := t) (by omega) hb (Nat.le_refl _) af bt h2 ha
-- how the stay of a left-behind token ended
theorem FLW1 {L s0 : Nat} {τ : Nat → qS} (hR : RNN L τ) (hs : ∀ t, t ≤ 7 * L → psame (τ 0) (τ t)) {A : Nat → List (Ms × Nat × Nat)} {ρ : Nat → qS × qS × qS} {B : Nat → List (Ms × Nat × Nat) × List (Ms × Nat × Nat) × List (Ms × Nat × Nat)} (h : ANC2 L s0 τ A ρ B) (h7 : 224 ≤ s0) {v κ κ' g q b : Nat} (hv : v < 6) (k1 : s0 + 1500 ≤ κ) (kg : κ' < g) (gl : g + 224 ≤ 7 * L) (hk : KLt τ v κ) (hk' : KLt τ v κ') (no : ∀ u, κ < u → u < κ' → ¬ KLt τ v u) (hq : ∀ x, κ ≤ x + 224 → x ≤ κ + 218 → cn (v : Int) (ln (τ x)) ≤ 3 * q) (ab : ATk τ v b) (b1 : κ < b) (b2 : b ≤ κ') (al : 1 ≤ tbc b (A g)) : ∃ t, b ≤ t ∧ t ≤ κ' ∧ t % 7 = v ∧ STY τ v b t ∧ (t = κ' ∨ (∃ b', ACC τ A ρ B t b' ∧ TOb τ v b') ∨ (∃ b', ACC τ A ρ B t b' ∧ PNk L s0 τ A ρ B b') ∨ t < κ + 219 + 7 * q) := by
  have fb := fe_r ab.2.2.1
  rcases LVT hR hv fb.1 (g - b) (by omega) with st | ⟨t, t1, t2, t3, t4, t5⟩
  · exfalso
    have := (st (κ' + 1) (by omega) (by omega)).1
    have := hk'.2.2
    omega
  · have tk : t ≤ κ' := by
      apply Classical.byContradiction
      intro n
      have := (t4 (κ' + 1) (by omega) (by omega)).1
      have := hk'.2.2
      omega
    have rt := (t4 t t1 (Nat.le_refl _)).1
    refine ⟨t, t1, tk, t3, t4, ?_⟩
    rcases LEAVE h.1 (by omega : s0 ≤ t) (by omega) hv t3 rt with c | ⟨c1, c2⟩ | ⟨b', ha, hp⟩
    · left
      apply Classical.byContradiction
      intro n
      exact no t (by omega) (by omega) ⟨t3, rt, c⟩
    · exfalso
      rcases t5 with e | e | e
      · omega
      · exact e c1
      · exact e c2
    · have b64 := (ACC_64 hR h.1 h7 (t := t) (by omega) (by omega) ha).1
      have sb : s0 < b' := by omega
      have on := ANC_once h.1 sb (by omega : s0 ≤ t) (by omega) ha
      have ne : b' ≠ b := fun e => by
        rw [e] at on
        have := on.2.2 g (by omega) (by omega)
        omega
      obtain ⟨v', v6, v2, v3, v4, -⟩ := ACC_tk h.1 sb (by omega : s0 ≤ t) (by omega) ha
      have ev : v' = v := by omega
      subst ev
      by_cases c : b < b'
      · right; left
        refine ⟨b', ha, v2, v4, fun cg => ?_⟩
        exact sty_1 (a := b) (a' := b') ⟨v2, by omega, v4, cg⟩ t4 c on.2.1
      · have pe := hp sb
        have sm := t4 t t1 (Nat.le_refl _)
        have pq := plc_of hR hv (u := t) (w := b) (by omega) (by omega) rt fb.1 sm.2.1 sm.2.2
        have ed : EDG τ A ρ B v' b' b := ⟨by omega, ab, t, t3, t1, t4, ha, by rw [pe, pq]⟩
        have sp := EDG_s hR h.1 hv sb (by omega) ed
        obtain ⟨x, x1, x2, x3⟩ : ∃ x, b' ≤ x ∧ x < b ∧ SPk τ v' x := by
          apply Classical.byContradiction
          intro m
          have z := ctq_off (P := SPk τ v') (s := b') (b - b') (fun x q1 q2 q3 => m ⟨x, q1, by omega, q3⟩)
          omega
        obtain ⟨φ, i, f1, f2, hi, hr⟩ := RDE hR h h7 sb (by omega : s0 ≤ t) (by omega) ha
        right; right
        rcases DKm hR hs h.1 h7 (t := φ) (by omega) (by omega) hi hr (by omega : s0 ≤ t) (by omega) ha with g1 | g1 | ⟨κ0, c1, g4, g5, g6, g7⟩
        · exfalso
          obtain ⟨t0, a1, a2, a3, a4⟩ := g1
          have et := acc_1 h.1 sb a1 a2 (by omega : s0 ≤ t) (by omega) a3 ha
          subst et
          have := a4 x x1 (by omega)
          rw [v3] at this
          have := x3.1
          omega
        · left
          exact ⟨b', ha, g1⟩
        · right
          obtain ⟨x', i', y0, ⟨w6, w1, w2, w3, w4, w5, w7, w8, w9, w10, w11, w12, w13, w14⟩, mp, nn⟩ := c1
          have e0 : κ0 = κ := by
            rcases Nat.lt_trichotomy κ0 κ with c0 | c0 | c0
            · exact absurd (by rw [v3]; exact hk) (g7 κ c0 (by omega))
            · exact c0
            · exact absurd (by rw [v3] at w5; exact w5) (no κ0 c0 (by omega))
          subst e0
          obtain ⟨h6, i6, hi6, z, z1, zb, z6⟩ := ACC_st ha
          have m := hd_mem z1
          have zk : tokb z = true := (tokb_i z).mpr (Or.inr z6)
          have np := RD_npb hR h h7 sb (by omega) (by omega) hi hr
          have zs : z.2.1 ≤ φ + 1 := by
            by_cases c3 : φ = t
            · have := (st_srt h.1 (by omega : s0 ≤ t) (by omega) h6 i6 (by omega)).2 z m.1
              omega
            · have n2 := ANR_np h.1.1 (b := b') (g := φ + 1) (by omega) (by omega) np.1 (t - (φ + 1)) (by omega)
              rw [show φ + 1 + (t - (φ + 1)) = t by omega] at n2
              exact (st_np h.1 (by omega : s0 ≤ t) (by omega) h6 i6 (by omega) n2).2 z m.1 zk zb
          have zt : b' ≤ z.2.1 := by
            have t0 := ANR_tk h.1.1 (t - s0) (by omega)
            rw [show s0 + (t - s0) = t by omega] at t0
            have key : ∀ i, i ≤ 3 → TKa s0 τ t (stA A B t i) := fun i => by
              induction i with
              | zero => intro _; exact t0
              | succ i ih => intro q; exact RDn_tk (st_rd h.1 (by omega : s0 ≤ t) (by omega) h6 (i := i) (by omega)) (ih (by omega))
            have := (key i6 (by omega) z m.1 zk (by omega)).2.1
            omega
          have li := LIFE_P hR h.1 (by omega) hv (by omega : s0 ≤ t) (by omega) h6 (by omega : i6 ≤ 3) m.1 (by rw [m.2, v3]) (by omega) (hq z.2.1 (by omega) (by omega))
          omega
-- F-LAW: tokens of v born since the kill kappa that are unread FETCHes at g (after the next kill)
theorem FLW {L s0 : Nat} {τ : Nat → qS} (hR : RNN L τ) (hs : ∀ t, t ≤ 7 * L → psame (τ 0) (τ t)) {A : Nat → List (Ms × Nat × Nat)} {ρ : Nat → qS × qS × qS} {B : Nat → List (Ms × Nat × Nat) × List (Ms × Nat × Nat) × List (Ms × Nat × Nat)} (h : ANC2 L s0 τ A ρ B) (h7 : 224 ≤ s0) {v κ κ' g q : Nat} (hv : v < 6) (k1 : s0 + 1500 ≤ κ) (kk : κ + 223 < g) (kg : κ' < g) (gl : g + 224 ≤ 7 * L) (hk : KLt τ v κ) (hk' : KLt τ v κ') (no : ∀ u, κ < u → u < κ' → ¬ KLt τ v u) (hq : ∀ x, κ ≤ x + 224 → x ≤ κ + 218 → cn (v : Int) (ln (τ x)) ≤ 3 * q) : ctq (fun b => ATk τ v b ∧ F5b A g b ∧ b ≤ κ') (g - 223) 224 ≤ 1 + ctq (fun u => u % 7 = v ∧ ∃ b, ACC τ A ρ B u b ∧ TOb τ v b) (g - 223) 224 + ctq (fun u => u % 7 = v ∧ ∃ b, ACC τ A ρ B u b ∧ PNk L s0 τ A ρ B b) (g - 223) 224 + ctq (fun u => u % 7 = v ∧ u < κ + 219 + 7 * q) (g - 223) 224 := by
  obtain ⟨br, -⟩ := F5n hR h.1.1 h7 (t := g) (by omega) (by omega)
  have pick : ∀ b, ∃ t, (ATk τ v b ∧ F5b A g b ∧ b ≤ κ') → (b ≤ t ∧ t ≤ κ' ∧ t % 7 = v ∧ STY τ v b t ∧ (t = κ' ∨ (∃ b', ACC τ A ρ B t b' ∧ TOb τ v b') ∨ (∃ b', ACC τ A ρ B t b' ∧ PNk L s0 τ A ρ B b') ∨ t < κ + 219 + 7 * q)) := fun b => by
    by_cases c : ATk τ v b ∧ F5b A g b ∧ b ≤ κ'
    · obtain ⟨y, y1, y5, yb⟩ := c.2.1
      have rg := br b c.2.1
      have al : 1 ≤ tbc b (A g) := by
        unfold tbc
        exact List.countP_pos_iff.mpr ⟨y, y1, by rw [(tokb_i y).mpr (Or.inl y5), decide_eq_true yb]; rfl⟩
      obtain ⟨t, ht⟩ := FLW1 hR hs h h7 hv k1 kg gl hk hk' no hq c.1 (by omega) c.2.2 al
      exact ⟨t, fun _ => ht⟩
    · exact ⟨0, fun q => absurd q c⟩
  have inj := ctq_inj (P := fun b => ATk τ v b ∧ F5b A g b ∧ b ≤ κ') (f := fun b => Classical.choose (pick b)) (s := g - 223) (a := g - 223) (m := 224) 224 (fun t => t = κ' ∨ ((t % 7 = v ∧ ∃ b, ACC τ A ρ B t b ∧ TOb τ v b) ∨ ((t % 7 = v ∧ ∃ b, ACC τ A ρ B t b ∧ PNk L s0 τ A ρ B b) ∨ (t % 7 = v ∧ t < κ + 219 + 7 * q)))) (fun b b1 b2 p => by
    obtain ⟨q1, q2, q3, q4, q5⟩ := Classical.choose_spec (pick b) p
    refine ⟨by omega, by omega, ?_⟩
    rcases q5 with q5 | q5 | q5 | q5
    · exact Or.inl q5
    · exact Or.inr (Or.inl ⟨q3, q5⟩)
    · exact Or.inr (Or.inr (Or.inl ⟨q3, q5⟩))
    · exact Or.inr (Or.inr (Or.inr ⟨q3, q5⟩))) (fun b b' b1 b2 b1' b2' p p' e => by
    obtain ⟨q1, q2, q3, q4, -⟩ := Classical.choose_spec (pick b) p
    obtain ⟨r1, r2, r3, r4, -⟩ := Classical.choose_spec (pick b') p'
    have e : Classical.choose (pick b) = Classical.choose (pick b') := e
    rw [← e] at r1 r4
    exact sty_2 p.1 p'.1 q4 r4 q1 r1)
  have o1 := ctq_or (P := fun t => t = κ' ∨ ((t % 7 = v ∧ ∃ b, ACC τ A ρ B t b ∧ TOb τ v b) ∨ ((t % 7 = v ∧ ∃ b, ACC τ A ρ B t b ∧ PNk L s0 τ A ρ B b) ∨ (t % 7 = v ∧ t < κ + 219 + 7 * q)))) (Q := fun t => t = κ') (R := fun t => (t % 7 = v ∧ ∃ b, ACC τ A ρ B t b ∧ TOb τ v b) ∨ ((t % 7 = v ∧ ∃ b, ACC τ A ρ B t b ∧ PNk L s0 τ A ρ B b) ∨ (t % 7 = v ∧ t < κ + 219 + 7 * q))) (s := g - 223) 224 (fun t _ _ q => q)
  have o2 := ctq_or (P := fun t => (t % 7 = v ∧ ∃ b, ACC τ A ρ B t b ∧ TOb τ v b) ∨ ((t % 7 = v ∧ ∃ b, ACC τ A ρ B t b ∧ PNk L s0 τ A ρ B b) ∨ (t % 7 = v ∧ t < κ + 219 + 7 * q))) (Q := fun t => t % 7 = v ∧ ∃ b, ACC τ A ρ B t b ∧ TOb τ v b) (R := fun t => (t % 7 = v ∧ ∃ b, ACC τ A ρ B t b ∧ PNk L s0 τ A ρ B b) ∨ (t % 7 = v ∧ t < κ + 219 + 7 * q)) (s := g - 223) 224 (fun t _ _ q => q)
  have o3 := ctq_or (P := fun t => (t % 7 = v ∧ ∃ b, ACC τ A ρ B t b ∧ PNk L s0 τ A ρ B b) ∨ (t % 7 = v ∧ t < κ + 219 + 7 * q)) (Q := fun t => t % 7 = v ∧ ∃ b, ACC τ A ρ B t b ∧ PNk L s0 τ A ρ B b) (R := fun t => t % 7 = v ∧ t < κ + 219 + 7 * q) (s := g - 223) 224 (fun t _ _ q => q)
  have u1 := ctq_one (P := fun t => t = κ') (s := g - 223) 224 (fun t t' _ _ _ _ e e' => by omega)
  omega

