-- time-outs of one worker are 91 ticks apart
theorem TO_f {L : Nat} {τ : Nat → qS} (hR : RNN L τ) {v b : Nat} (hv : v < 6) (h8 : 8 ≤ b) (h2 : b ≤ 7 * L) (h : TOb τ v b) : fto (τ (b - 1)) (τ b) (v : Int) := by
  obtain ⟨e, f, nc⟩ := h
  have s1 : 38 ≤ τ (b - 1) 62 (v : Int) := by
    apply Classical.byContradiction
    intro n
    exact nc (Or.inl (by omega))
  have s2 : τ (b - 1) 62 (v : Int) = τ (b - 1 + 1) 62 (v : Int) := by
    apply Classical.byContradiction
    intro n
    exact nc (Or.inr (Or.inl n))
  have s3 : cd (τ (b - 1)) (v : Int) = cd (τ (b - 1 + 1)) (v : Int) := by
    apply Classical.byContradiction
    intro n
    exact nc (Or.inr (Or.inr n))
  rw [show b - 1 + 1 = b by omega] at s2 s3
  have gs := hR.1 (b - 1) (by omega)
  have wi : 0 ≤ (v : Int) ∧ (v : Int) < 6 := by omega
  have g1 := run_g1 hR hv (t := b - 1) (by omega) (by omega) s1
  rcases hR.2 (b - 1) (by omega) with ⟨-, s⟩ | ⟨e6, -⟩
  · rw [e, show b - 1 + 1 = b by omega] at s
    exact FT_to gs.1 wi (gs.2.2.1 (v : Int) wi.1 wi.2) s s1 (by omega) f g1 s3.symm
  · omega
theorem pag_up {L : Nat} {τ : Nat → qS} (hR : RNN L τ) {v t : Nat} (hv : v < 6) (h7 : 7 ≤ t) (ht : t % 7 = v) : ∀ q, t + 7 * q ≤ 7 * L → pag (τ (t + 7 * q)) (v : Int) ≤ q + pag (τ t) (v : Int)
  | 0, _ => by
    show pag (τ t) (v : Int) ≤ 0 + pag (τ t) (v : Int)
    omega
  | q + 1, hl => by
    have ih := pag_up hR hv h7 ht q (by omega)
    have g1 := run_g1 hR hv (t := t + 7 * q) (by omega) (by omega)
    rcases hR.2 (t + 7 * q) (by omega) with ⟨-, s⟩ | ⟨e6, -⟩
    · rw [show (t + 7 * q) % 7 = v by omega] at s
      have p := (WTK_pg g1 s).1
      have k := pag_k hR hv (t := t + 7 * q) (by omega) (by omega)
      rw [show t + 7 * (q + 1) = t + 7 * q + 7 by omega]
      omega
    · omega
theorem TO_sp {L : Nat} {τ : Nat → qS} (hR : RNN L τ) {v b b' : Nat} (hv : v < 6) (h8 : 8 ≤ b) (h2 : b' ≤ 7 * L) (e : (b - 1) % 7 = v) (f : fe (τ b) (v : Int) = 1) (h : TOb τ v b') (lt : b < b') : b + 91 ≤ b' := by
  have ft := TO_f hR hv (by omega) h2 h
  have e' := h.1
  have k := pag_k hR hv (t := b - 1) e (by omega)
  rw [show b - 1 + 1 = b by omega] at k
  have z : pag (τ b) (v : Int) = 0 := by
    have f' := fe_r f
    unfold pag
    rw [if_pos f'.1, f'.2]
    rfl
  have p12 : pag (τ (b' - 1)) (v : Int) = 12 := by
    unfold fto at ft
    unfold pag
    rw [if_pos ft.1]
    omega
  have u := pag_up hR hv (t := b - 1 + 7) (by omega) (by omega) ((b' - b) / 7 - 1) (by omega)
  rw [show b - 1 + 7 + 7 * ((b' - b) / 7 - 1) = b' - 1 by omega] at u
  omega
-- a property with gaps of d
theorem ctq_sp {P : Nat → Prop} {x d : Nat} (h : ∀ t t', x ≤ t → P t → P t' → t < t' → t + d ≤ t') : ∀ k, ctq P x (d * k) ≤ k
  | 0 => by exact Nat.le_refl _
  | k + 1 => by
    have ih := ctq_sp h k
    have j := ctq_jn (P := P) (s := x) (d * k) d
    rw [← Nat.mul_succ] at j
    have o := ctq_one (P := P) (s := x + d * k) d (fun t t' t1 t2 t1' t2' p p' => by
      rcases Nat.lt_trichotomy t t' with c | c | c
      · have := h t t' (by omega) p p' c; omega
      · exact c
      · have := h t' t (by omega) p' p c; omega)
    show ctq P x (d * k.succ) ≤ k + 1
    omega
-- TO names of all workers in a range of births
theorem TO_n {L : Nat} {τ : Nat → qS} (hR : RNN L τ) {x n k : Nat} (h8 : 8 ≤ x) (h2 : x + n ≤ 7 * L) (hn : n ≤ 91 * k) : ctq (fun b => TOb τ ((b - 1) % 7) b ∧ (b - 1) % 7 < 6) x n ≤ 6 * k := by
  have one : ∀ v, v < 6 → ctq (fun b => (TOb τ ((b - 1) % 7) b ∧ (b - 1) % 7 = v) ∧ b < x + n) x n ≤ k := fun v hv => by
    have a := ctq_sp (P := fun b => (TOb τ ((b - 1) % 7) b ∧ (b - 1) % 7 = v) ∧ b < x + n) (x := x) (d := 91) (fun t t' t1 ⟨⟨p1, p2⟩, p3⟩ ⟨⟨q1, q2⟩, q3⟩ lt => by
      rw [p2] at p1
      rw [q2] at q1
      exact TO_sp hR hv (by omega) (by omega) p2 p1.2.1 q1 lt) k
    have s := ctq_sub (P := fun b => (TOb τ ((b - 1) % 7) b ∧ (b - 1) % 7 = v) ∧ b < x + n) (s := x) hn
    omega
  have m := ctq_mo (P := fun b => TOb τ ((b - 1) % 7) b ∧ (b - 1) % 7 < 6) (Q := fun b => ∃ v, v < 6 ∧ ((TOb τ ((b - 1) % 7) b ∧ (b - 1) % 7 = v) ∧ b < x + n)) (s := x) n (fun b _ b2 ⟨p, q⟩ => ⟨(b - 1) % 7, q, ⟨p, rfl⟩, b2⟩)
  have x6 := ctq_x6 (P := fun v b => (TOb τ ((b - 1) % 7) b ∧ (b - 1) % 7 = v) ∧ b < x + n) (s := x) n
  have a0 := one 0 (by omega)
  have a1 := one 1 (by omega)
  have a2 := one 2 (by omega)
  have a3 := one 3 (by omega)
  have a4 := one 4 (by omega)
  have a5 := one 5 (by omega)
  omega
-- an arrival token that is never accepted and not lost as a left-behind one: its worker stands at its place as long as it is on the line
theorem tb_van {A : Nat → List (Ms × Nat × Nat)} {b y : Nat} (h1 : 1 ≤ tbc b (A y)) : ∀ d, tbc b (A (y + d)) = 0 → ∃ u, y ≤ u ∧ u < y + d ∧ 1 ≤ tbc b (A u) ∧ tbc b (A (u + 1)) = 0
  | 0, h => by
    have h : tbc b (A y) = 0 := h
    omega
  | d + 1, h => by
    by_cases c : tbc b (A (y + d)) = 0
    · obtain ⟨u, u1, u2, u3⟩ := tb_van h1 d c
      exact ⟨u, u1, by omega, u3⟩
    · exact ⟨y + d, by omega, by omega, by omega, h⟩
theorem NL_st {L s0 : Nat} {τ : Nat → qS} (hR : RNN L τ) {A : Nat → List (Ms × Nat × Nat)} {ρ : Nat → qS × qS × qS} {B : Nat → List (Ms × Nat × Nat) × List (Ms × Nat × Nat) × List (Ms × Nat × Nat)} (h : ANC L s0 τ A ρ B) (h7 : 224 ≤ s0) {s K b v y : Nat} (hb : s0 < b) (hv : v < 6) (ha : ATk τ v b) (hl : NLb L s0 τ A ρ B s K b) (ys : s ≤ y) (y0 : s0 + 448 ≤ y) (by1 : b ≤ y) (yK : b + 448 < s + K) (yL : s + K ≤ 7 * L) (y2 : y ≤ 7 * L) (ht : 1 ≤ tbc b (A y)) : STY τ v b y := by
  apply Classical.byContradiction
  intro n
  have z : tbc b (A (b + 448)) = 0 := by
    refine tb_0 (fun x hx tx xb => ?_)
    have l := LIFE64 hR h.1 h7 (t := b + 448) (by omega) (by omega) hx tx
    omega
  have yb : y < b + 448 := by
    apply Classical.byContradiction
    intro m
    unfold tbc at ht
    obtain ⟨x, hx, px⟩ := List.countP_pos_iff.mp (by omega : 0 < (A y).countP (fun x => tokb x && decide (x.2.2 = b)))
    rw [Bool.and_eq_true] at px
    have l := LIFE64 hR h.1 h7 (t := y) (by omega) (by omega) hx px.1
    have := of_decide_eq_true px.2
    omega
  obtain ⟨u, u1, u2, u3, u4⟩ := tb_van (A := A) (b := b) (y := y) ht (b + 448 - y) (by rw [show y + (b + 448 - y) = b + 448 by omega]; exact z)
  refine hl.2 ⟨v, u, hv, by omega, by omega, ⟨ha, u3, fun q => n (fun w w1 w2 => q w w1 (by omega))⟩, u4, hl.1 u (by omega) (by omega)⟩
theorem NL_6 {L s0 : Nat} {τ : Nat → qS} (hR : RNN L τ) {A : Nat → List (Ms × Nat × Nat)} {ρ : Nat → qS × qS × qS} {B : Nat → List (Ms × Nat × Nat) × List (Ms × Nat × Nat) × List (Ms × Nat × Nat)} (h : ANC L s0 τ A ρ B) (h7 : 224 ≤ s0) {s K y x n : Nat} (hx : s0 < x) (ys : s ≤ y) (y0 : s0 + 448 ≤ y) (yK : y + 448 < s + K) (yL : s + K ≤ 7 * L) : ctq (fun b => NLb L s0 τ A ρ B s K b ∧ ¬ TOb τ ((b - 1) % 7) b ∧ 1 ≤ tbc b (A y)) x n ≤ 6 := by
  have key : ∀ b, s0 < b → NLb L s0 τ A ρ B s K b ∧ ¬ TOb τ ((b - 1) % 7) b ∧ 1 ≤ tbc b (A y) → ∃ v, v < 6 ∧ (b - 1) % 7 = v ∧ b ≤ y ∧ ATk τ v b ∧ STY τ v b y := fun b hb ⟨q1, q2, q3⟩ => by
    have tk := ANR_tk h.1 (y - s0) (by omega)
    rw [show s0 + (y - s0) = y by omega] at tk
    obtain ⟨z, hz, pz⟩ := List.countP_pos_iff.mp (by unfold tbc at q3; omega : 0 < (A y).countP (fun x => tokb x && decide (x.2.2 = b)))
    rw [Bool.and_eq_true] at pz
    have zb := of_decide_eq_true pz.2
    obtain ⟨r1, -, -, v, v6, v2, -, -, v5⟩ := tk z hz pz.1 (by omega)
    rw [zb] at r1 v2 v5
    have c : CHG τ v (b - 1) := by
      apply Classical.byContradiction
      intro m
      exact q2 (by rw [v2]; exact ⟨v2, v5, m⟩)
    have at' : ATk τ v b := ⟨v2, by omega, v5, c⟩
    exact ⟨v, v6, v2, r1, at', NL_st hR h h7 hb v6 at' q1 ys y0 r1 (by omega) yL (by omega) q3⟩
  have a := ctq_inj (P := fun b => NLb L s0 τ A ρ B s K b ∧ ¬ TOb τ ((b - 1) % 7) b ∧ 1 ≤ tbc b (A y)) (f := fun b => (b - 1) % 7) (s := x) (a := 0) (m := 6) n (fun _ => True) (fun b b1 b2 q => by
    obtain ⟨v, v6, v2, -⟩ := key b (by omega) q
    exact ⟨Nat.zero_le _, by omega, trivial⟩) (fun b b' b1 b2 b1' b2' q q' e => by
    have e : (b - 1) % 7 = (b' - 1) % 7 := e
    obtain ⟨v, v6, v2, v3, v4, v5⟩ := key b (by omega) q
    obtain ⟨v', v6', v2', v3', v4', v5'⟩ := key b' (by omega) q'
    have ev : v = v' := by omega
    subst ev
    have sep : ∀ c c', 1 ≤ c → c < c' → c' ≤ y → STY τ v c y → ATk τ v c' → False := fun c c' hc1 lt le st at' => by
      obtain ⟨a1, a2, a3⟩ := st (c' - 1) (by omega) (by omega)
      obtain ⟨b1, b2, b3⟩ := st c' (by omega) (by omega)
      have cg := at'.2.2.2
      unfold CHG at cg
      rw [show c' - 1 + 1 = c' by omega] at cg
      rcases cg with g | g | g
      · omega
      · exact g (by rw [a2, b2])
      · exact g (by rw [a3, b3])
    rcases Nat.lt_trichotomy b b' with c | c | c
    · exact (sep b b' (by omega) c v3' v5 v4').elim
    · exact c
    · exact (sep b' b (by omega) c v3 v5' v4).elim)
  exact Nat.le_trans a (ctq_le 6)
-- time-out or NLb names among the names on the line at y with births in a range of 91 k ticks
theorem TNL {L s0 : Nat} {τ : Nat → qS} (hR : RNN L τ) {A : Nat → List (Ms × Nat × Nat)} {ρ : Nat → qS × qS × qS} {B : Nat → List (Ms × Nat × Nat) × List (Ms × Nat × Nat) × List (Ms × Nat × Nat)} (h : ANC L s0 τ A ρ B) (h7 : 224 ≤ s0) {s K y x n k : Nat} (hx : s0 < x) (hn : n ≤ 91 * k) (hl : x + n ≤ 7 * L) (ys : s ≤ y) (y0 : s0 + 448 ≤ y) (yK : y + 448 < s + K) (yL : s + K ≤ 7 * L) : ctq (fun b => (TOb τ ((b - 1) % 7) b ∨ NLb L s0 τ A ρ B s K b) ∧ 1 ≤ tbc b (A y)) x n ≤ 6 * k + 6 := by
  have o := ctq_or (P := fun b => (TOb τ ((b - 1) % 7) b ∨ NLb L s0 τ A ρ B s K b) ∧ 1 ≤ tbc b (A y)) (Q := fun b => TOb τ ((b - 1) % 7) b ∧ (b - 1) % 7 < 6) (R := fun b => NLb L s0 τ A ρ B s K b ∧ ¬ TOb τ ((b - 1) % 7) b ∧ 1 ≤ tbc b (A y)) (s := x) n (fun b b1 b2 ⟨q, q3⟩ => by
    by_cases c : TOb τ ((b - 1) % 7) b
    · left
      refine ⟨c, ?_⟩
      have tk := ANR_tk h.1 (y - s0) (by omega)
      rw [show s0 + (y - s0) = y by omega] at tk
      obtain ⟨z, hz, pz⟩ := List.countP_pos_iff.mp (by unfold tbc at q3; omega : 0 < (A y).countP (fun x => tokb x && decide (x.2.2 = b)))
      rw [Bool.and_eq_true] at pz
      have zb := of_decide_eq_true pz.2
      obtain ⟨-, -, -, v, v6, v2, -⟩ := tk z hz pz.1 (by omega)
      rw [zb] at v2
      omega
    · right
      rcases q with q | q
      · exact absurd q c
      · exact ⟨q, c, q3⟩)
  have a := TO_n hR (x := x) (n := n) (k := k) (by omega) hl hn
  have b := NL_6 hR h h7 (s := s) (K := K) (y := y) (x := x) (n := n) hx ys y0 yK yL
  omega

