-- a standing kill happens while a split is undone
theorem K_nm {L s0 : Nat} {τ : Nat → qS} (hR : RNN L τ) (hs : ∀ t, t ≤ 7 * L → psame (τ 0) (τ t)) {A : Nat → List (Ms × Nat × Nat)} {ρ : Nat → qS × qS × qS} {B : Nat → List (Ms × Nat × Nat) × List (Ms × Nat × Nat) × List (Ms × Nat × Nat)} (h : ANC L s0 τ A ρ B) {κ : Nat} (h7 : 14 ≤ κ) (h1 : s0 ≤ κ) (h2 : κ < 7 * L) (hk : Kst τ A ρ B κ) : ¬ mapd (τ κ) := by
  obtain ⟨⟨h6, -, k2, k3⟩, na⟩ := hk
  have ne := (red_ne hR hs h6 (by omega) (by omega) k2).1
  obtain ⟨⟨r1, r2, r3, a, ⟨j1, j2, j3, j4⟩, a1, a2, a3, a4⟩, ⟨p0, p1, p2, -⟩, -⟩ := h.2 κ h1 h2 h6
  have t1 := RD_tk r1 (by omega)
  have t2 := RD_tk r2 (by omega)
  have t3 := RD_tk r3 (by omega)
  have s1 : same ((κ % 7 : Nat) : Int) (τ κ) (ρ κ).1 := by
    rcases RD_acc r1 p0 with q | q | ⟨y, q⟩
    · exact q
    · omega
    · exact absurd ⟨y.2.2, h6, y, rfl, Or.inl q⟩ na
  have s2 : same ((κ % 7 : Nat) : Int) (ρ κ).1 (ρ κ).2.1 := by
    rcases RD_acc r2 p1 with q | q | ⟨y, q⟩
    · exact q
    · omega
    · exact absurd ⟨y.2.2, h6, y, rfl, Or.inr (Or.inl q)⟩ na
  have s3 : same ((κ % 7 : Nat) : Int) (ρ κ).2.1 (ρ κ).2.2 := by
    rcases RD_acc r3 p2 with q | q | ⟨y, q⟩
    · exact q
    · omega
    · exact absurd ⟨y.2.2, h6, y, rfl, Or.inr (Or.inr q)⟩ na
  have es : (ρ κ).2.2 64 ((κ % 7 : Nat) : Int) = τ κ 64 ((κ % 7 : Nat) : Int) := by rw [s3.2.1, s2.2.1, s1.2.1]
  have kk : ∀ k ∈ rdK, (ρ κ).2.2 k = τ κ k := fun k m => ((r3.2.2.1 k m).trans (r2.2.2.1 k m)).trans (r1.2.2.1 k m)
  have esb : (ρ κ).2.2 33 = τ κ 33 := kk _ (by decide)
  have ne3 : (ρ κ).2.2 40 ((ρ κ).2.2 62 ((κ % 7 : Nat) : Int) - 38) ≠ (ρ κ).2.2 31 0 := by rw [kk 40 (by decide), kk 31 (by decide), t3, t2, t1]; exact ne
  have sp : spl (ρ κ).2.2 = spl (τ κ) := (st_c (fun k m => kk k ((by decide : ∀ k ∈ stC, k ∈ rdK) k m))).1
  have hsp := spl_b j3.1
  -- the tick before
  have ev : (κ - 7) % 7 = κ % 7 := by omega
  have kw := run_w hR h6 (t := κ - 7) ev 6 (by omega) (by omega)
  rw [show κ - 7 + 1 + 6 = κ by omega] at kw
  have e1 : spl (τ κ) = spl (τ 0) := (st_c (fun k m => run_st hR κ (by omega) k m)).1
  have e2 : spl (τ (κ - 7 + 1)) = spl (τ 0) := (st_c (fun k m => run_st hR (κ - 7 + 1) (by omega) k m)).1
  have sx := hR.2 (κ - 7) (by omega)
  rw [ev] at sx
  rcases sx with ⟨-, sx⟩ | ⟨e6, -⟩
  · have rd : 38 ≤ τ (κ - 7 + 1) 62 ((κ % 7 : Nat) : Int) := by rw [← kw 62 (by decide)]; exact k2
    have g := (WTK_GR (by omega) sx rd).2.1
    have stl : τ κ 64 ((κ % 7 : Nat) : Int) < spl (τ κ) := by rw [kw 64 (by decide), e1, ← e2]; exact g
    have b0 : τ κ 33 (τ κ 64 ((κ % 7 : Nat) : Int)) = -1 := by
      obtain ⟨-, -, -, c⟩ := a
      rcases c with ⟨c0, -⟩ | ⟨c0, -⟩ | ⟨c0, c⟩
      · omega
      · omega
      · rcases c with ⟨c1, -⟩ | ⟨-, c1, c2, -⟩ | ⟨-, -, -, -, -, -, c1, -⟩ | ⟨-, -, -, -, -, c1, -⟩ | ⟨-, c1, -⟩
        · exact absurd c1 ne3
        · rw [← es, ← esb]; exact c2
        · omega
        · omega
        · omega
    have st0 : 0 ≤ (ρ κ).2.2 64 ((κ % 7 : Nat) : Int) := by
      obtain ⟨-, -, -, -, x, y, z, -⟩ := (rd_P2 j3 (by omega : (0 : Int) ≤ ((κ % 7 : Nat) : Int) ∧ ((κ % 7 : Nat) : Int) < 6) a3 (by omega)).1
      omega
    rw [es] at st0
    exact fun m => m _ st0 stl b0
  · omega
-- the next start after a kill
theorem NXS {L s0 : Nat} {τ : Nat → qS} (hR : RNN L τ) {A : Nat → List (Ms × Nat × Nat)} {ρ : Nat → qS × qS × qS} {B : Nat → List (Ms × Nat × Nat) × List (Ms × Nat × Nat) × List (Ms × Nat × Nat)} (h : ANC L s0 τ A ρ B) {v κ e : Nat} (v6 : v < 6) (k0 : s0 ≤ κ) (he : e ≤ 7 * L) (hκ : κ + 1 ≤ e) (kl : KLt τ v κ) : (∀ u, κ < u → u ≤ e → τ u 62 (v : Int) < 38) ∨ ∃ x i y, κ < x ∧ x < e ∧ x % 7 = v ∧ 38 ≤ τ (x + 1) 62 (v : Int) ∧ (∀ u, κ < u → u ≤ x → τ u 62 (v : Int) < 38) ∧ i < 3 ∧ hdA v (stA A B x i) y ∧ xw y.1 0 = 2 ∧ 38 ≤ xw y.1 2 := by
  rcases up_y (f := fun u => τ u 62 (v : Int)) (b := κ + 1) kl.2.2 (e - (κ + 1)) with a | ⟨x, x1, x2, x3, x4, x5⟩
  · exact Or.inl fun u u1 u2 => a u (by omega) (by omega)
  · right
    have x4' : 38 ≤ τ (x + 1) 62 (v : Int) := x4
    have xv := tk_off hR v6 (t := x) (by omega) (Or.inr ⟨x3, x4⟩)
    have m1 : τ x 62 (v : Int) = -1 := by
      apply Classical.byContradiction
      intro n
      have e3 := st_tq h (by omega : s0 ≤ x) (by omega) xv v6 n 3 (by omega)
      obtain ⟨wd, -⟩ := h.2 x (by omega) (by omega) (by omega)
      rw [xv] at wd
      obtain ⟨-, -, -, a, ⟨-, -, j3, -⟩, -⟩ := wd
      have e4 := ACT_tk j3.1 a x4
      have e5 : stQ τ ρ x 3 = (ρ x).2.2 := rfl
      rw [e5] at e3
      have : τ x 62 (v : Int) < 38 := x3
      omega
    obtain ⟨i, i1, y, y1, y2, y3⟩ := G1 h (by omega : s0 ≤ x) (by omega) v6 xv m1 x4
    exact ⟨x, i, y, by omega, by omega, xv, x4', fun u u1 u2 => x5 u (by omega) u2, i1, y1, y2, by omega⟩
theorem ctq_fe {P Q : Nat → Prop} {R : Nat → Nat → Prop} {s k : Nat} (h : ∀ t, s ≤ t → t < s + k → P t → ∃ c, s ≤ c ∧ c < s + k ∧ Q c ∧ R t c) (i : ∀ t t' c, P t → P t' → R t c → R t' c → t = t') : ctq P s k ≤ ctq Q s k := by
  have pick : ∀ t, ∃ c, s ≤ t → t < s + k → P t → s ≤ c ∧ c < s + k ∧ Q c ∧ R t c := fun t => by
    by_cases c : s ≤ t ∧ t < s + k ∧ P t
    · obtain ⟨x, hx⟩ := h t c.1 c.2.1 c.2.2
      exact ⟨x, fun _ _ _ => hx⟩
    · exact ⟨0, fun a b d => absurd ⟨a, b, d⟩ c⟩
  obtain ⟨f, hf⟩ : ∃ f : Nat → Nat, ∀ t, s ≤ t → t < s + k → P t → s ≤ f t ∧ f t < s + k ∧ Q (f t) ∧ R t (f t) := ⟨fun t => Classical.choose (pick t), fun t => Classical.choose_spec (pick t)⟩
  exact ctq_inj (f := f) k Q (fun t t1 t2 p => ⟨(hf t t1 t2 p).1, (hf t t1 t2 p).2.1, (hf t t1 t2 p).2.2.1⟩) (fun t t' a1 a2 b1 b2 p p' e => i t t' (f t) p p' (hf t a1 a2 p).2.2.2 (by rw [e]; exact (hf t' b1 b2 p').2.2.2))
-- standing kills of v: a C-event at which v is no reduce, or a start by a pending GIVE
theorem KSB {L s0 : Nat} {τ : Nat → qS} (hR : RNN L τ) (hs : ∀ t, t ≤ 7 * L → psame (τ 0) (τ t)) {A : Nat → List (Ms × Nat × Nat)} {ρ : Nat → qS × qS × qS} {B : Nat → List (Ms × Nat × Nat) × List (Ms × Nat × Nat) × List (Ms × Nat × Nat)} (h : ANC L s0 τ A ρ B) {v : Nat} (v6 : v < 6) {s k : Nat} (h7 : 14 ≤ s) (h1 : s0 + 7 ≤ s) (h2 : s + k ≤ 7 * L) : ctq (fun t => Kst τ A ρ B t ∧ t % 7 = v) s k ≤ ctq (fun c => CEk τ A c ∧ τ c 62 (v : Int) < 38) s k + ctq (PSt τ A B v) s k + 1 := by
  have kv : ∀ t, (Kst τ A ρ B t ∧ t % 7 = v) → KLt τ v t := fun t ⟨q, e⟩ => by
    have := q.1.2
    rw [e] at this
    exact this
  obtain ⟨R, eR⟩ : ∃ R : Nat → Nat → Prop, R = fun κ c => κ < c ∧ ∀ u, κ < u → u ≤ c → τ u 62 (v : Int) < 38 := ⟨_, rfl⟩
  have inj : ∀ t t' c, (Kst τ A ρ B t ∧ t % 7 = v) → (Kst τ A ρ B t' ∧ t' % 7 = v) → R t c → R t' c → t = t' := fun t t' c p p' q q' => by
    subst eR
    rcases Nat.lt_trichotomy t t' with e | e | e
    · have a := q.2 t' e (by have := q'.1; omega)
      have b := (kv t' p').2.1
      omega
    · exact e
    · have a := q'.2 t e (by have := q.1; omega)
      have b := (kv t p).2.1
      omega
  obtain ⟨P1, e1⟩ : ∃ P1 : Nat → Prop, P1 = fun t => (Kst τ A ρ B t ∧ t % 7 = v) ∧ ∃ c, s ≤ c ∧ c < s + k ∧ (CEk τ A c ∧ τ c 62 (v : Int) < 38) ∧ R t c := ⟨_, rfl⟩
  obtain ⟨P2, e2⟩ : ∃ P2 : Nat → Prop, P2 = fun t => (Kst τ A ρ B t ∧ t % 7 = v) ∧ ∃ x, s ≤ x ∧ x < s + k ∧ PSt τ A B v x ∧ R t x := ⟨_, rfl⟩
  obtain ⟨P3, e3⟩ : ∃ P3 : Nat → Prop, P3 = fun t => (Kst τ A ρ B t ∧ t % 7 = v) ∧ ∀ u, t < u → u ≤ s + k → τ u 62 (v : Int) < 38 := ⟨_, rfl⟩
  have a := ctq_or (P := fun t => Kst τ A ρ B t ∧ t % 7 = v) (Q := fun t => P1 t ∨ P2 t) (R := P3) (s := s) k (fun κ k1 k2 p => by
    have kl := kv κ p
    rcases NXS hR h v6 (by omega : s0 ≤ κ) h2 (by omega : κ + 1 ≤ s + k) kl with q | ⟨x, i, y, x1, x2, x3, x4, x5, x6, x7, x8, x9⟩
    · right; subst e3; exact ⟨p, q⟩
    · left
      by_cases c : y.2.1 ≤ κ
      · right; subst e2 eR
        exact ⟨p, x, by omega, by omega, ⟨x3, x4, κ, i, y, x1, kl, x5, x6, x7, x8, x9, c⟩, x1, x5⟩
      · left
        have mA := st_gv h (by omega : s0 ≤ x) (by omega) (by omega) i (by omega) y (hd_mem x7).1 x8
        have q := GVs h.1 (x - s0) (by omega) y (by rw [show s0 + (x - s0) = x by omega]; exact mA) x8 (by omega)
        have mp : MPt A (y.2.1 - 1) := ⟨by omega, y, by rw [show y.2.1 - 1 + 1 = y.2.1 by omega]; exact q.2.2, x8, x9, by omega⟩
        have kne : κ ≠ y.2.1 - 1 := fun e => by
          have := kl.1
          omega
        obtain ⟨c, c1, c2, c3, c4⟩ := fst_mp (A := A) (κ := κ) (y.2.1 - 1 - κ) (y.2.1 - 1) (by omega) (by omega) mp
        have nm := K_nm hR hs h (by omega) (by omega) (by omega) p.1
        subst e1 eR
        exact ⟨p, c, by omega, by omega, ⟨⟨c3, v, κ, ⟨v6, by omega, kl, nm⟩, c1, c4⟩, x5 c c1 (by omega)⟩, c1, fun u u1 u2 => x5 u u1 (by omega)⟩)
  have b := ctq_or (P := fun t => P1 t ∨ P2 t) (Q := P1) (R := P2) (s := s) k (fun _ _ _ q => q)
  have b1 : ctq P1 s k ≤ ctq (fun c => CEk τ A c ∧ τ c 62 (v : Int) < 38) s k := by
    subst e1
    exact ctq_fe (R := R) (fun t _ _ p => p.2) (fun t t' c p p' => inj t t' c p.1 p'.1)
  have b2 : ctq P2 s k ≤ ctq (PSt τ A B v) s k := by
    subst e2
    exact ctq_fe (R := R) (fun t _ _ p => p.2) (fun t t' c p p' => inj t t' c p.1 p'.1)
  have b3 : ctq P3 s k ≤ 1 := by
    subst e3 eR
    refine ctq_one k (fun t t' t1 t2 t1' t2' p p' => ?_)
    exact inj t t' (s + k) p.1 p'.1 ⟨t2, p.2⟩ ⟨t2', p'.2⟩
  omega
-- workers that are no reduces
noncomputable def n1q (τ : Nat → qS) (v c : Nat) : Nat := @ite Nat (τ c 62 (v : Int) < 38) (Classical.propDecidable _) 1 0
noncomputable def nrq (τ : Nat → qS) (c : Nat) : Nat := n1q τ 0 c + n1q τ 1 c + n1q τ 2 c + n1q τ 3 c + n1q τ 4 c + n1q τ 5 c
theorem NR6 {L : Nat} {τ : Nat → qS} (hR : RNN L τ) {c : Nat} (h1 : 7 * 145 ≤ c) (h2 : c + 1001 ≤ 7 * L) : nrq τ c + ctq (LKt τ) c 1000 ≤ 6 := by
  have a := ctq_six (P := LKt τ) (s := c) (k := 1000) (fun t q => q.1)
  have b : ∀ v, v < 6 → n1q τ v c + ctq (fun t => LKt τ t ∧ t % 7 = v) c 1000 ≤ 1 := fun v v6 => by
    unfold n1q
    by_cases e : τ c 62 (v : Int) < 38
    · rw [if_pos e, ctq_off 1000 (fun t t1 t2 ⟨q, ev⟩ => by
        have := LK_red hR (t := t) (c := c) (by omega) (by omega) q (by omega) (by omega)
        rw [ev] at this
        omega)]
      omega
    · rw [if_neg e]
      have := ctq_one (P := fun t => LKt τ t ∧ t % 7 = v) (s := c) 1000 (fun t t' t1 t2 t1' t2' p p' => by
        rcases Nat.lt_trichotomy t t' with q | q | q
        · have := LK_sp hR (t := t) (t' := t') (by omega) (by omega) p.1 p'.1 (by rw [p.2, p'.2]) q
          omega
        · exact q
        · have := LK_sp hR (t := t') (t' := t) (by omega) (by omega) p'.1 p.1 (by rw [p.2, p'.2]) q
          omega)
      omega
  have b0 := b 0 (by omega)
  have b1 := b 1 (by omega)
  have b2 := b 2 (by omega)
  have b3 := b 3 (by omega)
  have b4 := b 4 (by omega)
  have b5 := b 5 (by omega)
  unfold nrq
  omega
noncomputable def nrc (τ : Nat → qS) (A : Nat → List (Ms × Nat × Nat)) (c : Nat) : Nat := @ite Nat (CEk τ A c) (Classical.propDecidable _) (nrq τ c) 0
theorem smq_nr {τ : Nat → qS} {A : Nat → List (Ms × Nat × Nat)} {s : Nat} : ∀ k, ctq (fun c => CEk τ A c ∧ τ c 62 ((0 : Nat) : Int) < 38) s k + ctq (fun c => CEk τ A c ∧ τ c 62 ((1 : Nat) : Int) < 38) s k + ctq (fun c => CEk τ A c ∧ τ c 62 ((2 : Nat) : Int) < 38) s k + ctq (fun c => CEk τ A c ∧ τ c 62 ((3 : Nat) : Int) < 38) s k + ctq (fun c => CEk τ A c ∧ τ c 62 ((4 : Nat) : Int) < 38) s k + ctq (fun c => CEk τ A c ∧ τ c 62 ((5 : Nat) : Int) < 38) s k ≤ smq (nrc τ A) s k
  | 0 => by simp [ctq]
  | k + 1 => by
    have ih := smq_nr (τ := τ) (A := A) (s := s) k
    have g : ∀ v : Nat, ctq (fun c => CEk τ A c ∧ τ c 62 (v : Int) < 38) s (k + 1) ≤ ctq (fun c => CEk τ A c ∧ τ c 62 (v : Int) < 38) s k + @ite Nat (CEk τ A (s + k)) (Classical.propDecidable _) (n1q τ v (s + k)) 0 := fun v => by
      simp only [ctq, n1q]
      by_cases e : CEk τ A (s + k)
      · rw [if_pos e]
        by_cases e' : τ (s + k) 62 (v : Int) < 38
        · rw [if_pos e', if_pos ⟨e, e'⟩]
          exact Nat.le_refl _
        · rw [if_neg e', if_neg (fun q => e' q.2)]
          exact Nat.le_refl _
      · rw [if_neg e, if_neg (fun q => e q.1)]
        exact Nat.le_refl _
    have g0 := g 0
    have g1 := g 1
    have g2 := g 2
    have g3 := g 3
    have g4 := g 4
    have g5 := g 5
    have e : smq (nrc τ A) s (k + 1) = smq (nrc τ A) s k + nrc τ A (s + k) := rfl
    rw [e]
    unfold nrc nrq at *
    by_cases c : CEk τ A (s + k)
    · rw [if_pos c] at *
      omega
    · rw [if_neg c] at *
      omega
theorem KSN {L s0 : Nat} {τ : Nat → qS} (hR : RNN L τ) (hs : ∀ t, t ≤ 7 * L → psame (τ 0) (τ t)) {A : Nat → List (Ms × Nat × Nat)} {ρ : Nat → qS × qS × qS} {B : Nat → List (Ms × Nat × Nat) × List (Ms × Nat × Nat) × List (Ms × Nat × Nat)} (h : ANC L s0 τ A ρ B) {s k : Nat} (h7 : 14 ≤ s) (h1 : s0 + 7 ≤ s) (h2 : s + k ≤ 7 * L) : ctq (Kst τ A ρ B) s k ≤ smq (nrc τ A) s k + (ctq (PSt τ A B 0) s k + ctq (PSt τ A B 1) s k + ctq (PSt τ A B 2) s k + ctq (PSt τ A B 3) s k + ctq (PSt τ A B 4) s k + ctq (PSt τ A B 5) s k) + 6 := by
  have a := ctq_six (P := Kst τ A ρ B) (s := s) (k := k) (fun t q => q.1.1)
  have b0 := KSB hR hs h (v := 0) (by omega) h7 h1 h2
  have b1 := KSB hR hs h (v := 1) (by omega) h7 h1 h2
  have b2 := KSB hR hs h (v := 2) (by omega) h7 h1 h2
  have b3 := KSB hR hs h (v := 3) (by omega) h7 h1 h2
  have b4 := KSB hR hs h (v := 4) (by omega) h7 h1 h2
  have b5 := KSB hR hs h (v := 5) (by omega) h7 h1 h2
  have c := smq_nr (τ := τ) (A := A) (s := s) k
  omega
-- C-events after a C-event need hearings
theorem CEBm {L s0 : Nat} {τ : Nat → qS} (hR : RNN L τ) {A : Nat → List (Ms × Nat × Nat)} (h : ANR L s0 τ A) {s : Nat} (h7 : 7 ≤ s) (h1 : s0 ≤ s) (hm : ∃ c, c < s ∧ MPt A c ∧ ∀ u, c < u → u ≤ s → mapd (τ u)) : ∀ k, s + k ≤ 7 * L → ctq (CEk τ A) s k + 1 ≤ ctq (H7t τ) s k ∨ (ctq (CEk τ A) s k ≤ ctq (H7t τ) s k ∧ ∃ c, c < s + k ∧ MPt A c ∧ ∀ u, c < u → u ≤ s + k → mapd (τ u))
  | 0, _ => Or.inr ⟨by simp [ctq], hm⟩
  | k + 1, hl => by
    have ih := CEBm hR h h7 h1 hm k (by omega)
    have e1 : s + (k + 1) = s + k + 1 := by omega
    rw [e1]
    simp only [ctq]
    by_cases ce : CEk τ A (s + k)
    · rw [if_pos ce]
      have hne : ¬ ∃ c, c < s + k ∧ MPt A c ∧ ∀ u, c < u → u ≤ s + k → mapd (τ u) := fun ⟨c, c1, c2, c3⟩ => by
        obtain ⟨-, v, κ, ⟨v6, k7, kl, nm⟩, k1, k2⟩ := ce
        rcases Nat.lt_trichotomy κ c with q | q | q
        · exact k2 c q c1 c2
        · have := c2.1
          have := kl.1
          omega
        · have m := c3 κ q (by omega)
          exact nm m
      have ih1 : ctq (CEk τ A) s k + 1 ≤ ctq (H7t τ) s k := by
        rcases ih with q | ⟨-, q⟩
        · exact q
        · exact absurd q hne
      rcases MP_m hR h (by omega) (by omega) (by omega : s + k < 7 * L) ce.1 with m | m
      · right
        refine ⟨?_, s + k, by omega, ce.1, fun u u1 u2 => ?_⟩
        · split <;> omega
        · have : u = s + k + 1 := by omega
          rw [this]; exact m
      · left
        rw [if_pos (show H7t τ (s + k) from ⟨ce.1.1, m⟩)]
        omega
    · rw [if_neg ce]
      rcases ih with q | ⟨q, c, c1, c2, c3⟩
      · left
        split <;> omega
      · rcases mp_st hR (by omega : s + k < 7 * L) (c3 (s + k) c1 (Nat.le_refl _)) with m | m
        · right
          refine ⟨?_, c, by omega, c2, fun u u1 u2 => ?_⟩
          · split <;> omega
          · by_cases e : u = s + k + 1
            · rw [e]; exact m
            · exact c3 u u1 (by omega)
        · left
          rw [if_pos (show H7t τ (s + k) from m)]
          omega
theorem CEH {L s0 : Nat} {τ : Nat → qS} (hR : RNN L τ) {A : Nat → List (Ms × Nat × Nat)} (h : ANR L s0 τ A) {c k : Nat} (h7 : 7 ≤ c) (h1 : s0 ≤ c) (h2 : c + 1 + k ≤ 7 * L) (hm : MPt A c) : ctq (CEk τ A) (c + 1) k ≤ ctq (H7t τ) c (k + 1) := by
  have e : ctq (H7t τ) c (k + 1) = ctq (H7t τ) c 1 + ctq (H7t τ) (c + 1) k := by
    have := ctq_jn (P := H7t τ) (s := c) 1 k
    rw [show 1 + k = k + 1 by omega] at this
    exact this
  rcases MP_m hR h (by omega) (by omega) (by omega) hm with m | m
  · have := CEBm hR h (s := c + 1) (by omega) (by omega) ⟨c, by omega, hm, fun u u1 u2 => by rw [show u = c + 1 by omega]; exact m⟩ k h2
    rcases this with q | ⟨q, -⟩ <;> omega
  · have x := CEBk hR h (s := c + 1) (by omega) (by omega) k h2
    have y : ctq (H7t τ) c 1 = 1 := by
      have hh : H7t τ (c + 0) := ⟨hm.1, m⟩
      simp only [ctq]
      rw [if_pos hh]
    rcases x with q | ⟨q, -⟩ <;> omega
-- the number of C-events of the window against pending LACKS letters and the waits in progress
theorem UC1 {L s0 : Nat} {τ : Nat → qS} (hR : RNN L τ) {A : Nat → List (Ms × Nat × Nat)} {ρ : Nat → qS × qS × qS} {B : Nat → List (Ms × Nat × Nat) × List (Ms × Nat × Nat) × List (Ms × Nat × Nat)} (h : ANC L s0 τ A ρ B) {M q : Nat} (hq : s0 + 7 ≤ 7 * q) (hc : CEr τ A q) (hl : lsq τ M q < M) (hM : M ≤ 7 * L) : ucq τ A M q ≤ c7 (τ (7 * q + 6)) + ctq (LKt τ) (7 * q + 6) 1000 := by
  obtain ⟨g1, g2⟩ := lsq_g hl
  obtain ⟨w, ew⟩ : ∃ w, w = lsq τ M q / 7 := ⟨_, rfl⟩
  obtain ⟨K, eK⟩ : ∃ K, K = 7 * (w - 1 - q) := ⟨_, rfl⟩
  have a := ctq_inj (P := CEr τ A) (f := fun r => 7 * r + 6) (s := q + 1) (a := 7 * q + 6 + 1) (m := K) (w - 1 - q) (CEk τ A) (fun r r1 r2 p => ⟨by omega, by omega, p⟩) (fun r r' _ _ _ _ _ _ e => by
    have : 7 * r + 6 = 7 * r' + 6 := e
    omega)
  have b := CEH hR h.1 (c := 7 * q + 6) (k := K) (by omega) (by omega) (by omega) hc.1
  have d := H7B hR (s := 7 * q + 6) (K + 1) (by omega)
  rw [lkc_c τ (7 * q + 6) (K + 1)] at d
  have e : ctq (LKt τ) (7 * q + 6) (K + 1) ≤ ctq (LKt τ) (7 * q + 6) 1000 := by
    refine ctq_inj (f := fun t => t) (K + 1) (LKt τ) (fun t t1 t2 p => ⟨t1, ?_, p⟩) (fun _ _ _ _ _ _ _ _ e => e)
    apply Classical.byContradiction
    intro n
    have n1 : ¬ t < 7 * q + 6 + 1000 := n
    refine fsl_n (P := LKt τ) (M - (7 * q + 1001)) (7 * q + 1001) t (by omega) ?_ p
    show t < lsq τ M q
    omega
  unfold ucq
  rw [← ew]
  omega
theorem NRU {L s0 : Nat} {τ : Nat → qS} (hR : RNN L τ) {A : Nat → List (Ms × Nat × Nat)} {ρ : Nat → qS × qS × qS} {B : Nat → List (Ms × Nat × Nat) × List (Ms × Nat × Nat) × List (Ms × Nat × Nat)} (h : ANC L s0 τ A ρ B) {M q : Nat} (hq : s0 + 1015 ≤ 7 * q) (hc : CEr τ A q) (hl : lsq τ M q < M) (hM : M ≤ 7 * L) : nrq τ (7 * q + 6) + ucq τ A M q ≤ 6 + c7 (τ (7 * q + 6)) := by
  have g := (lsq_g hl).1
  have a := UC1 hR h (by omega) hc hl hM
  have b := NR6 hR (c := 7 * q + 6) (by omega) (by omega)
  omega

