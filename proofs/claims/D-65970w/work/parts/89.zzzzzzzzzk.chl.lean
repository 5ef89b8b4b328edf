-- how the stay of a token ended, with the foreign token
theorem CHL1 {L s0 : Nat} {τ : Nat → qS} (hR : RNN L τ) (hs : ∀ t, t ≤ 7 * L → psame (τ 0) (τ t)) {A : Nat → List (Ms × Nat × Nat)} {ρ : Nat → qS × qS × qS} {B : Nat → List (Ms × Nat × Nat) × List (Ms × Nat × Nat) × List (Ms × Nat × Nat)} (h : ANC2 L s0 τ A ρ B) (h7 : 224 ≤ s0) {v κ κ' g q n b : Nat} (hv : v < 6) (k1 : s0 + 1500 ≤ κ) (kg : κ' < g) (gl : g + 224 ≤ 7 * L) (hk : KLt τ v κ) (hk' : KLt τ v κ') (no : ∀ u, κ < u → u < κ' → ¬ KLt τ v u) (hn : ∀ b φ i, i < 3 → rdk τ A ρ B 5 φ i b → (b - 1) % 7 = v → κ < b + 224 → b ≤ κ → φ < b + 7 * n) (hq : ∀ x, κ ≤ x + 224 → x ≤ κ + 218 → cn (v : Int) (ln (τ x)) ≤ 3 * q) (ab : ATk τ v b) (b1 : κ < b) (b2 : b ≤ κ') (al : 1 ≤ tbc b (A g)) : ∃ t, b ≤ t ∧ t ≤ κ' ∧ t % 7 = v ∧ STY τ v b t ∧ (t = κ' ∨ (∃ b', ACC τ A ρ B t b' ∧ TOb τ v b') ∨ (∃ b', ACC τ A ρ B t b' ∧ PNk L s0 τ A ρ B b') ∨ ∃ b', ACC τ A ρ B t b' ∧ b' ≤ κ ∧ t ≤ b' + 7 * n + 7 * q) := by
  have fb := fe_r ab.2.2.1
  rcases LVT hR hv fb.1 (g - b) (by omega) with st | ⟨t, t1, t2, t3, t4, t5⟩
  · exfalso
    have := (st (κ' + 1) (by omega) (by omega)).1
    have := hk'.2.2
    omega
  · have tk : t ≤ κ' := by
      apply Classical.byContradiction
      intro n
      have := (t4 (κ' + 1) (by omega) (by omega)).1
      have := hk'.2.2
      omega
    have rt := (t4 t t1 (Nat.le_refl _)).1
    refine ⟨t, t1, tk, t3, t4, ?_⟩
    rcases LEAVE h.1 (by omega : s0 ≤ t) (by omega) hv t3 rt with c | ⟨c1, c2⟩ | ⟨b', ha, hp⟩
    · left
      apply Classical.byContradiction
      intro n
      exact no t (by omega) (by omega) ⟨t3, rt, c⟩
    · exfalso
      rcases t5 with e | e | e
      · omega
      · exact e c1
      · exact e c2
    · have b64 := (ACC_64 hR h.1 h7 (t := t) (by omega) (by omega) ha).1
      have sb : s0 < b' := by omega
      have on := ANC_once h.1 sb (by omega : s0 ≤ t) (by omega) ha
      have ne : b' ≠ b := fun e => by
        rw [e] at on
        have := on.2.2 g (by omega) (by omega)
        omega
      obtain ⟨v', v6, v2, v3, v4, -⟩ := ACC_tk h.1 sb (by omega : s0 ≤ t) (by omega) ha
      have ev : v' = v := by omega
      subst ev
      by_cases c : b < b'
      · right; left
        refine ⟨b', ha, v2, v4, fun cg => ?_⟩
        exact sty_1 (a := b) (a' := b') ⟨v2, by omega, v4, cg⟩ t4 c on.2.1
      · have pe := hp sb
        have sm := t4 t t1 (Nat.le_refl _)
        have pq := plc_of hR hv (u := t) (w := b) (by omega) (by omega) rt fb.1 sm.2.1 sm.2.2
        have ed : EDG τ A ρ B v' b' b := ⟨by omega, ab, t, t3, t1, t4, ha, by rw [pe, pq]⟩
        have sp := EDG_s hR h.1 hv sb (by omega) ed
        obtain ⟨x, x1, x2, x3⟩ : ∃ x, b' ≤ x ∧ x < b ∧ SPk τ v' x := by
          apply Classical.byContradiction
          intro m
          have z := ctq_off (P := SPk τ v') (s := b') (b - b') (fun x q1 q2 q3 => m ⟨x, q1, by omega, q3⟩)
          omega
        obtain ⟨φ, i, f1, f2, hi, hr⟩ := RDE hR h h7 sb (by omega : s0 ≤ t) (by omega) ha
        right; right
        rcases DKm hR hs h.1 h7 (t := φ) (by omega) (by omega) hi hr (by omega : s0 ≤ t) (by omega) ha with g1 | g1 | ⟨κ0, c1, g4, g5, g6, g7⟩
        · exfalso
          obtain ⟨t0, a1, a2, a3, a4⟩ := g1
          have et := acc_1 h.1 sb a1 a2 (by omega : s0 ≤ t) (by omega) a3 ha
          subst et
          have := a4 x x1 (by omega)
          rw [v3] at this
          have := x3.1
          omega
        · left
          exact ⟨b', ha, g1⟩
        · right
          obtain ⟨x', i', y0, ⟨w6, w1, w2, w3, w4, w5, w7, w8, w9, w10, w11, w12, w13, w14⟩, mp, nn⟩ := c1
          have e0 : κ0 = κ := by
            rcases Nat.lt_trichotomy κ0 κ with c0 | c0 | c0
            · exact absurd (by rw [v3]; exact hk) (g7 κ c0 (by omega))
            · exact c0
            · exact absurd (by rw [v3] at w5; exact w5) (no κ0 c0 (by omega))
          subst e0
          obtain ⟨h6, i6, hi6, z, z1, zb, z6⟩ := ACC_st ha
          have m := hd_mem z1
          have zk : tokb z = true := (tokb_i z).mpr (Or.inr z6)
          have np := RD_npb hR h h7 sb (by omega) (by omega) hi hr
          have zs : z.2.1 ≤ φ + 1 := by
            by_cases c3 : φ = t
            · have := (st_srt h.1 (by omega : s0 ≤ t) (by omega) h6 i6 (by omega)).2 z m.1
              omega
            · have n2 := ANR_np h.1.1 (b := b') (g := φ + 1) (by omega) (by omega) np.1 (t - (φ + 1)) (by omega)
              rw [show φ + 1 + (t - (φ + 1)) = t by omega] at n2
              exact (st_np h.1 (by omega : s0 ≤ t) (by omega) h6 i6 (by omega) n2).2 z m.1 zk zb
          have zt : b' ≤ z.2.1 := by
            have t0 := ANR_tk h.1.1 (t - s0) (by omega)
            rw [show s0 + (t - s0) = t by omega] at t0
            have key : ∀ i, i ≤ 3 → TKa s0 τ t (stA A B t i) := fun i => by
              induction i with
              | zero => intro _; exact t0
              | succ i ih => intro q; exact RDn_tk (st_rd h.1 (by omega : s0 ≤ t) (by omega) h6 (i := i) (by omega)) (ih (by omega))
            have := (key i6 (by omega) z m.1 zk (by omega)).2.1
            omega
          have hn' := hn b' φ i hi hr v2 (by omega) g4
          have li := LIFE_P hR h.1 (by omega) hv (by omega : s0 ≤ t) (by omega) h6 (by omega : i6 ≤ 3) m.1 (by rw [m.2, v3]) (by omega) (hq z.2.1 (by omega) (by omega))
          exact ⟨b', ha, g4, by omega⟩
-- names of v born in (x, kappa] that are accepted in (kappa, kappa']
def AFx (τ : Nat → qS) (A : Nat → List (Ms × Nat × Nat)) (ρ : Nat → qS × qS × qS) (B : Nat → List (Ms × Nat × Nat) × List (Ms × Nat × Nat) × List (Ms × Nat × Nat)) (v κ κ' x b : Nat) : Prop := (b - 1) % 7 = v ∧ x < b ∧ b ≤ κ ∧ ∃ u, κ < u ∧ u ≤ κ' ∧ ACC τ A ρ B u b
def TAx (τ : Nat → qS) (A : Nat → List (Ms × Nat × Nat)) (ρ : Nat → qS × qS × qS) (B : Nat → List (Ms × Nat × Nat) × List (Ms × Nat × Nat) × List (Ms × Nat × Nat)) (v u : Nat) : Prop := u % 7 = v ∧ ∃ b, ACC τ A ρ B u b ∧ TOb τ v b
def TOy (τ : Nat → qS) (A : Nat → List (Ms × Nat × Nat)) (ρ : Nat → qS × qS × qS) (B : Nat → List (Ms × Nat × Nat) × List (Ms × Nat × Nat) × List (Ms × Nat × Nat)) (v κ κ' b : Nat) : Prop := TOb τ v b ∧ ∃ u, κ < u ∧ u ≤ κ' ∧ ACC τ A ρ B u b
def PNx (L s0 : Nat) (τ : Nat → qS) (A : Nat → List (Ms × Nat × Nat)) (ρ : Nat → qS × qS × qS) (B : Nat → List (Ms × Nat × Nat) × List (Ms × Nat × Nat) × List (Ms × Nat × Nat)) (v u : Nat) : Prop := u % 7 = v ∧ ∃ b, ACC τ A ρ B u b ∧ PNk L s0 τ A ρ B b
-- CHL: k0 < k1 < k2 consecutive kills of v
theorem CHL {L s0 : Nat} {τ : Nat → qS} (hR : RNN L τ) (hs : ∀ t, t ≤ 7 * L → psame (τ 0) (τ t)) {A : Nat → List (Ms × Nat × Nat)} {ρ : Nat → qS × qS × qS} {B : Nat → List (Ms × Nat × Nat) × List (Ms × Nat × Nat) × List (Ms × Nat × Nat)} (h : ANC2 L s0 τ A ρ B) (h7 : 224 ≤ s0) {v κ κ' κ2 q n x D a m : Nat} (hv : v < 6) (k1 : s0 + 1500 ≤ κ) (k2 : κ < κ') (k3 : κ' < κ2) (kl : κ2 + 225 ≤ 7 * L) (hk : KLt τ v κ) (hk' : KLt τ v κ') (no : ∀ u, κ < u → u < κ' → ¬ KLt τ v u) (kx : κ ≤ x) (xk : x ≤ κ') (eD : D = 7 * n + 7 * q) (xD : s0 + D ≤ x) (am : a + D ≤ x) (am' : κ2 < a + m) (ha : s0 ≤ a) (hn : ∀ b φ i, i < 3 → rdk τ A ρ B 5 φ i b → (b - 1) % 7 = v → κ < b + 224 → b ≤ κ → φ < b + 7 * n) (hq : ∀ x, κ ≤ x + 224 → x ≤ κ + 218 → cn (v : Int) (ln (τ x)) ≤ 3 * q) : ctq (AFx τ A ρ B v κ' κ2 x) (a + 1) m ≤ ctq (TOy τ A ρ B v κ' κ2) (a + 1) m + 1 + ctq (TAx τ A ρ B v) (x + 1) (κ' - x) + ctq (PNx L s0 τ A ρ B v) (x + 1) (κ' - x) + ctq (AFx τ A ρ B v κ κ' (x - D)) (a + 1) m := by
  -- time-out names among them
  have o0 := ctq_or (P := AFx τ A ρ B v κ' κ2 x) (Q := fun b => AFx τ A ρ B v κ' κ2 x b ∧ TOb τ v b) (R := fun b => AFx τ A ρ B v κ' κ2 x b ∧ ATk τ v b) (s := a + 1) m (fun b b1 b2 p => by
    obtain ⟨p1, p2, p3, u, u1, u2, u3⟩ := p
    obtain ⟨v', v6, w2, w3, w4, -⟩ := ACC_tk h.1 (by omega : s0 < b) (by omega : s0 ≤ u) (by omega) u3
    have ev : v' = v := by omega
    subst ev
    by_cases c : CHG τ v' (b - 1)
    · exact Or.inr ⟨⟨p1, p2, p3, u, u1, u2, u3⟩, w2, by omega, w4, c⟩
    · exact Or.inl ⟨⟨p1, p2, p3, u, u1, u2, u3⟩, w2, w4, c⟩)
  have n1 := ctq_mo (P := fun b => AFx τ A ρ B v κ' κ2 x b ∧ TOb τ v b) (Q := TOy τ A ρ B v κ' κ2) (s := a + 1) m (fun b _ _ p => ⟨p.2, p.1.2.2.2⟩)
  -- arrival names: the end of their stay
  have pick : ∀ b, ∃ t, (AFx τ A ρ B v κ' κ2 x b ∧ ATk τ v b) → (b ≤ t ∧ t ≤ κ' ∧ t % 7 = v ∧ STY τ v b t ∧ (t = κ' ∨ (∃ b', ACC τ A ρ B t b' ∧ TOb τ v b') ∨ (∃ b', ACC τ A ρ B t b' ∧ PNk L s0 τ A ρ B b') ∨ ∃ b', ACC τ A ρ B t b' ∧ b' ≤ κ ∧ t ≤ b' + 7 * n + 7 * q)) := fun b => by
    by_cases c : AFx τ A ρ B v κ' κ2 x b ∧ ATk τ v b
    · obtain ⟨⟨p1, p2, p3, u, u1, u2, u3⟩, at'⟩ := c
      have on := ANC_once h.1 (by omega : s0 < b) (by omega : s0 ≤ u) (by omega) u3
      have al : 1 ≤ tbc b (A (κ' + 1)) := by
        apply Classical.byContradiction
        intro z
        have key : ∀ d, κ' + 1 + d ≤ 7 * L → tbc b (A (κ' + 1 + d)) = 0 := fun d => by
          induction d with
          | zero => intro _; show tbc b (A (κ' + 1)) = 0; omega
          | succ d ih => intro q; exact tb_dn hR h (T := κ' + 1 + d) (by omega) (by omega) (by omega) (ih (by omega))
        have := key (u - (κ' + 1)) (by omega)
        rw [show κ' + 1 + (u - (κ' + 1)) = u by omega] at this
        omega
      obtain ⟨t, ht⟩ := CHL1 hR hs h h7 (g := κ' + 1) hv k1 (by omega) (by omega) hk hk' no hn hq at' (by omega) p3 al
      exact ⟨t, fun _ => ht⟩
    · exact ⟨0, fun q => absurd q c⟩
  have inj := ctq_inj (P := fun b => AFx τ A ρ B v κ' κ2 x b ∧ ATk τ v b) (f := fun b => Classical.choose (pick b)) (s := a + 1) (a := x + 1) (m := κ' - x) m (fun t => t = κ' ∨ (TAx τ A ρ B v t ∨ (PNx L s0 τ A ρ B v t ∨ (t % 7 = v ∧ x < t ∧ t ≤ κ' ∧ ∃ b', ACC τ A ρ B t b' ∧ b' ≤ κ ∧ t ≤ b' + 7 * n + 7 * q)))) (fun b b1 b2 p => by
    obtain ⟨q1, q2, q3, q4, q5⟩ := Classical.choose_spec (pick b) p
    have xb := p.1.2.1
    refine ⟨by omega, by omega, ?_⟩
    rcases q5 with q5 | q5 | q5 | q5
    · exact Or.inl q5
    · exact Or.inr (Or.inl ⟨q3, q5⟩)
    · exact Or.inr (Or.inr (Or.inl ⟨q3, q5⟩))
    · exact Or.inr (Or.inr (Or.inr ⟨q3, by omega, q2, q5⟩))) (fun b b' b1 b2 b1' b2' p p' e => by
    obtain ⟨q1, q2, q3, q4, -⟩ := Classical.choose_spec (pick b) p
    obtain ⟨r1, r2, r3, r4, -⟩ := Classical.choose_spec (pick b') p'
    have e : Classical.choose (pick b) = Classical.choose (pick b') := e
    rw [← e] at r1 r4
    exact sty_2 p.2 p'.2 q4 r4 q1 r1)
  have o1 := ctq_or (P := fun t => t = κ' ∨ (TAx τ A ρ B v t ∨ (PNx L s0 τ A ρ B v t ∨ (t % 7 = v ∧ x < t ∧ t ≤ κ' ∧ ∃ b', ACC τ A ρ B t b' ∧ b' ≤ κ ∧ t ≤ b' + 7 * n + 7 * q)))) (Q := fun t => t = κ') (R := fun t => TAx τ A ρ B v t ∨ (PNx L s0 τ A ρ B v t ∨ (t % 7 = v ∧ x < t ∧ t ≤ κ' ∧ ∃ b', ACC τ A ρ B t b' ∧ b' ≤ κ ∧ t ≤ b' + 7 * n + 7 * q))) (s := x + 1) (κ' - x) (fun t _ _ q => q)
  have o2 := ctq_or (P := fun t => TAx τ A ρ B v t ∨ (PNx L s0 τ A ρ B v t ∨ (t % 7 = v ∧ x < t ∧ t ≤ κ' ∧ ∃ b', ACC τ A ρ B t b' ∧ b' ≤ κ ∧ t ≤ b' + 7 * n + 7 * q))) (Q := TAx τ A ρ B v) (R := fun t => PNx L s0 τ A ρ B v t ∨ (t % 7 = v ∧ x < t ∧ t ≤ κ' ∧ ∃ b', ACC τ A ρ B t b' ∧ b' ≤ κ ∧ t ≤ b' + 7 * n + 7 * q)) (s := x + 1) (κ' - x) (fun t _ _ q => q)
  have o3 := ctq_or (P := fun t => PNx L s0 τ A ρ B v t ∨ (t % 7 = v ∧ x < t ∧ t ≤ κ' ∧ ∃ b', ACC τ A ρ B t b' ∧ b' ≤ κ ∧ t ≤ b' + 7 * n + 7 * q)) (Q := PNx L s0 τ A ρ B v) (R := fun t => t % 7 = v ∧ x < t ∧ t ≤ κ' ∧ ∃ b', ACC τ A ρ B t b' ∧ b' ≤ κ ∧ t ≤ b' + 7 * n + 7 * q) (s := x + 1) (κ' - x) (fun t _ _ q => q)
  have u1 := ctq_one (P := fun t => t = κ') (s := x + 1) (κ' - x) (fun t t' _ _ _ _ e e' => by omega)
  have pick2 : ∀ t, ∃ b', (t % 7 = v ∧ x < t ∧ t ≤ κ' ∧ ∃ b', ACC τ A ρ B t b' ∧ b' ≤ κ ∧ t ≤ b' + 7 * n + 7 * q) → (ACC τ A ρ B t b' ∧ b' ≤ κ ∧ t ≤ b' + 7 * n + 7 * q) := fun t => by
    by_cases c : t % 7 = v ∧ x < t ∧ t ≤ κ' ∧ ∃ b', ACC τ A ρ B t b' ∧ b' ≤ κ ∧ t ≤ b' + 7 * n + 7 * q
    · obtain ⟨-, -, -, b', hb'⟩ := c
      exact ⟨b', fun _ => hb'⟩
    · exact ⟨0, fun q => absurd q c⟩
  have inj2 := ctq_inj (P := fun t => t % 7 = v ∧ x < t ∧ t ≤ κ' ∧ ∃ b', ACC τ A ρ B t b' ∧ b' ≤ κ ∧ t ≤ b' + 7 * n + 7 * q) (f := fun t => Classical.choose (pick2 t)) (s := x + 1) (a := a + 1) (m := m) (κ' - x) (AFx τ A ρ B v κ κ' (x - D)) (fun t t1 t2 p => by
    obtain ⟨q1, q2, q3⟩ := Classical.choose_spec (pick2 t) p
    obtain ⟨p1, p2, p3, -⟩ := p
    obtain ⟨v', v6, w2, w3, -⟩ := ACC_tk h.1 (by omega : s0 < Classical.choose (pick2 t)) (by omega : s0 ≤ t) (by omega) q1
    exact ⟨by omega, by omega, by omega, by omega, q2, t, by omega, p3, q1⟩) (fun t t' t1 t2 t1' t2' p p' e => by
    obtain ⟨q1, q2, q3⟩ := Classical.choose_spec (pick2 t) p
    obtain ⟨r1, r2, r3⟩ := Classical.choose_spec (pick2 t') p'
    have e : Classical.choose (pick2 t) = Classical.choose (pick2 t') := e
    rw [← e] at r1
    exact acc_1 h.1 (by omega : s0 < Classical.choose (pick2 t)) (by omega) (by omega) (by omega) (by omega) q1 r1)
  omega

