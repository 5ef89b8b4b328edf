-- kill-aware freshness: the last kill before the acceptance
theorem dn_ll {f : Nat → Int} {b : Nat} (h0 : 38 ≤ f b) : ∀ k, (∀ u, b ≤ u → u ≤ b + k → 38 ≤ f u) ∨ ∃ x, b ≤ x ∧ x < b + k ∧ 38 ≤ f x ∧ f (x + 1) < 38 ∧ ∀ u, x < u → u < b + k → ¬ (38 ≤ f u ∧ f (u + 1) < 38)
  | 0 => Or.inl fun u u1 u2 => by
    have : u = b := by omega
    rw [this]; exact h0
  | k + 1 => by
    rcases dn_ll h0 k with a | ⟨x, x1, x2, x3, x4, x5⟩
    · by_cases c : 38 ≤ f (b + k + 1)
      · left
        intro u u1 u2
        by_cases e : u ≤ b + k
        · exact a u u1 e
        · rw [show u = b + k + 1 by omega]; exact c
      · right
        exact ⟨b + k, by omega, by omega, a (b + k) (by omega) (Nat.le_refl _), by omega, fun u u1 u2 => by omega⟩
    · right
      by_cases c : 38 ≤ f (b + k) ∧ f (b + k + 1) < 38
      · exact ⟨b + k, by omega, by omega, c.1, c.2, fun u u1 u2 => by omega⟩
      · exact ⟨x, x1, by omega, x3, x4, fun u u1 u2 => by
          by_cases e : u < b + k
          · exact x5 u u1 e
          · rw [show u = b + k by omega]; exact c⟩
theorem ASC2 {L s0 : Nat} {τ : Nat → qS} (hR : RNN L τ) {A : Nat → List (Ms × Nat × Nat)} {ρ : Nat → qS × qS × qS} {B : Nat → List (Ms × Nat × Nat) × List (Ms × Nat × Nat) × List (Ms × Nat × Nat)} (h : ANC L s0 τ A ρ B) {b t v : Nat} (hb : s0 < b) (h1 : s0 ≤ t) (h2 : t < 7 * L) (ht : t % 7 = v) (ha : ACC τ A ρ B t b) : SEG τ v b (t - b) ∨ ∃ κ x i i' y z, b ≤ κ ∧ κ < x ∧ x ≤ t ∧ KLt τ v κ ∧ (∀ u, κ < u → u < t → ¬ KLt τ v u) ∧ x % 7 = v ∧ (∀ u, κ < u → u ≤ x → τ u 62 (v : Int) < 38) ∧ i < 3 ∧ i' < 3 ∧ (x < t ∨ (x = t ∧ i ≤ i')) ∧ hdA v (stA A B x i) y ∧ xw y.1 0 = 2 ∧ 38 ≤ xw y.1 2 ∧ hdA v (stA A B t i') z ∧ xw z.1 0 = 6 ∧ z.2.2 = b := by
  obtain ⟨v', v1, v2, v3, v4, v5, -⟩ := ACC_tk h hb h1 h2 ha
  have hv : v < 6 := by omega
  have ev : v' = v := by omega
  subst ev
  obtain ⟨i', hi', z, hz, zb, z6, zq⟩ : ∃ i', i' < 3 ∧ ∃ z, hdA v' (stA A B t i') z ∧ z.2.2 = b ∧ xw z.1 0 = 6 ∧ 38 ≤ stQ τ ρ t i' 62 (v' : Int) := by
    obtain ⟨-, y, yb, c⟩ := ha
    rw [ht] at c
    rcases c with ⟨c, -, c6, f, -⟩ | ⟨c, -, c6, f, -⟩ | ⟨c, -, c6, f, -⟩
    · exact ⟨0, by omega, y, c, yb, c6, f⟩
    · exact ⟨1, by omega, y, c, yb, c6, f⟩
    · exact ⟨2, by omega, y, c, yb, c6, f⟩
  have f0 := (fe_r v4).1
  rcases dn_ll (f := fun u => τ u 62 (v' : Int)) f0 (t - b) with a | ⟨κ, k1, k2, k3, k4, k5⟩
  · exact Or.inl fun u u1 u2 => a u u1 u2
  · right
    have kv := tk_off hR hv (t := κ) (by omega) (Or.inl ⟨k3, k4⟩)
    have seg : ∀ u, κ < u → u < t → ¬ KLt τ v' u := fun u u1 u2 q => k5 u u1 (by omega) q.2
    rcases up_y (f := fun u => τ u 62 (v' : Int)) (b := κ + 1) k4 (t - (κ + 1)) with a | ⟨x, x1, x2, x3, x4, x5⟩
    · have tt : τ t 62 (v' : Int) < 38 := a t (by omega) (by omega)
      have m1 : τ t 62 (v' : Int) = -1 := by
        apply Classical.byContradiction
        intro n
        have := st_tq h h1 h2 ht hv n i' (by omega)
        omega
      obtain ⟨i, i1, y, y1, y2, y3⟩ := G1b h h1 h2 ht hv m1 i' (by omega) (by omega)
      exact ⟨κ, t, i, i', y, z, k1, by omega, Nat.le_refl _, ⟨kv, k3, k4⟩, seg, ht, fun u u1 u2 => a u (by omega) (by omega), by omega, hi', Or.inr ⟨rfl, by omega⟩, y1, y2, by omega, hz, z6, zb⟩
    · have xv := tk_off hR hv (t := x) (by omega) (Or.inr ⟨x3, x4⟩)
      have m1 : τ x 62 (v' : Int) = -1 := by
        apply Classical.byContradiction
        intro n
        have e3 := st_tq h (by omega : s0 ≤ x) (by omega) xv hv n 3 (by omega)
        obtain ⟨wd, -⟩ := h.2 x (by omega) (by omega) (by omega)
        rw [xv] at wd
        obtain ⟨-, -, -, a, ⟨-, -, j3, -⟩, -⟩ := wd
        have e4 := ACT_tk j3.1 a x4
        have e5 : stQ τ ρ x 3 = (ρ x).2.2 := rfl
        rw [e5] at e3
        have : τ x 62 (v' : Int) < 38 := x3
        omega
      obtain ⟨i, i1, y, y1, y2, y3⟩ := G1 h (by omega : s0 ≤ x) (by omega) hv xv m1 x4
      have x4' : 38 ≤ τ (x + 1) 62 (v' : Int) := x4
      exact ⟨κ, x, i, i', y, z, k1, by omega, by omega, ⟨kv, k3, k4⟩, seg, xv, fun u u1 u2 => x5 u (by omega) u2, i1, hi', Or.inl (by omega), y1, y2, by omega, hz, z6, zb⟩
theorem DEADF2 {L s0 : Nat} {τ : Nat → qS} (hR : RNN L τ) {A : Nat → List (Ms × Nat × Nat)} {ρ : Nat → qS × qS × qS} {B : Nat → List (Ms × Nat × Nat) × List (Ms × Nat × Nat) × List (Ms × Nat × Nat)} (h : ANC L s0 τ A ρ B) (h7 : 224 ≤ s0) {b t v : Nat} (hb : s0 + 448 < b) (h1 : s0 ≤ t) (h2 : t < 7 * L) (ht : t % 7 = v) (ha : ACC τ A ρ B t b) {φ j : Nat} (f2 : φ < 7 * L) (f1 : s0 ≤ φ) (hj : j < 3) (hf : rdk τ A ρ B 5 φ j b) : SEG τ v b (t - b) ∨ ∃ κ x i y, b ≤ κ ∧ κ < x ∧ x ≤ t ∧ KLt τ v κ ∧ (∀ u, κ < u → u < t → ¬ KLt τ v u) ∧ x % 7 = v ∧ (∀ u, κ < u → u ≤ x → τ u 62 (v : Int) < 38) ∧ i < 3 ∧ hdA v (stA A B x i) y ∧ xw y.1 0 = 2 ∧ 38 ≤ xw y.1 2 ∧ (y.2.1 ≤ κ ∨ (κ < y.2.1 ∧ y.2.1 ≤ φ ∧ φ < b + 224)) := by
  rcases ASC2 hR h (by omega : s0 < b) h1 h2 ht ha with a | ⟨κ, x, i, i', y, z, a1, a2, a3, a4, a5, a6, a7, a8, a9, a10, a11, a12, a13, a14, a15, a16⟩
  · exact Or.inl a
  · right
    refine ⟨κ, x, i, y, a1, a2, a3, a4, a5, a6, a7, a8, a11, a12, a13, ?_⟩
    by_cases c : y.2.1 ≤ κ
    · exact Or.inl c
    · right
      have bφ : b ≤ φ := by
        obtain ⟨f6, w, wb, wh, -, w5⟩ := hf
        have xA := st_f5 h f1 f2 f6 j (by omega) w (hd_mem wh).1 w5
        have fs := ANR_fs h.1 (φ - s0) (by omega)
        rw [show s0 + (φ - s0) = φ by omega] at fs
        have e := fs w xA w5
        have k := ANR_srt h.1 (φ - s0) (by omega)
        rw [show s0 + (φ - s0) = φ by omega] at k
        have := k.2 w xA
        omega
      have u := UWC hR h h7 (v := v) (by have := ha.1; omega) (S := x) (t := t) (i := i) (i' := i') (by omega) h2 a6 ht a8 a9 a10 a11 a12 (by omega) a14 a15 (by omega) (by omega) (φ := φ) (j := j) (by omega) f2 hj (by rw [a16]; exact hf)
      rw [a16] at u
      exact ⟨by omega, u.1, u.2⟩

-- a FETCH is read before its PAIRS
theorem rd56 {L s0 : Nat} {τ : Nat → qS} {A : Nat → List (Ms × Nat × Nat)} {ρ : Nat → qS × qS × qS} {B : Nat → List (Ms × Nat × Nat) × List (Ms × Nat × Nat) × List (Ms × Nat × Nat)} (h : ANC L s0 τ A ρ B) {b : Nat} (hb : s0 < b) {φ t i j : Nat} (f1 : s0 ≤ φ) (f2 : φ < 7 * L) (h1 : s0 ≤ t) (h2 : t < 7 * L) (hi : i < 3) (hj : j < 3) (r5 : rdk τ A ρ B 5 φ j b) (r6 : rdk τ A ρ B 6 t i b) : φ ≤ t := by
  apply Classical.byContradiction
  intro n
  have h6 := r6.1
  have d6 := (rd_dec h h1 h2 (b := b) hi).2 r6
  have d5 := (rd_dec h f1 f2 (b := b) hj).1 r5
  have t0 := ANR_tb h.1 hb (t - s0) (by omega)
  rw [show s0 + (t - s0) = t by omega] at t0
  by_cases bt : b ≤ t
  · have m0 := (st_mo h h1 h2 h6 bt i 0 (by omega)).2
    rw [show 0 + i = i by omega] at m0
    have e0 : stA A B t 0 = A t := rfl
    rw [e0] at m0
    have m1 := (st_mo h h1 h2 h6 bt (3 - (i + 1)) (i + 1) (by omega)).2
    rw [show i + 1 + (3 - (i + 1)) = 3 by omega] at m1
    have en := (st_end h h1 h2 h6 bt).2
    have g := (ANR_fb h.1 (b := b) (t := t + 1) (by omega) (by omega) (φ - (t + 1)) (by omega)).2
    rw [show t + 1 + (φ - (t + 1)) = φ by omega] at g
    have p0 := (st_mo h f1 f2 r5.1 (by omega : b ≤ φ) j 0 (by omega)).1
    rw [show 0 + j = j by omega] at p0
    have e1 : stA A B φ 0 = A φ := rfl
    rw [e1] at p0
    have ft := fbc_tb b (A φ)
    rw [if_pos bt] at t0
    omega
  · rw [if_neg bt] at t0
    have r1 := st_rd h h1 h2 h6 (i := 0) (by omega)
    have r2 := st_rd h h1 h2 h6 (i := 1) (by omega)
    have x1 := RDn_tb r1 b
    have x2 := RDn_tb r2 b
    have e0 : stA A B t 0 = A t := rfl
    rw [e0] at x1
    have mo : tbc b (stA A B t i) ≤ tbc b (A t) := by
      rcases (by omega : i = 0 ∨ i = 1 ∨ i = 2) with e | e | e
      · subst e; rw [e0]; exact Nat.le_refl _
      · subst e; exact x1
      · subst e; exact Nat.le_trans x2 x1
    omega
def FRm (L s0 : Nat) (τ : Nat → qS) (A : Nat → List (Ms × Nat × Nat)) (B : Nat → List (Ms × Nat × Nat) × List (Ms × Nat × Nat) × List (Ms × Nat × Nat)) (v κ φ : Nat) : Prop := ∃ x i y, (v < 6 ∧ s0 ≤ x ∧ x < 7 * L ∧ x % 7 = v ∧ κ < x ∧ KLt τ v κ ∧ (∀ u, κ < u → u ≤ x → τ u 62 (v : Int) < 38) ∧ i < 3 ∧ hdA v (stA A B x i) y ∧ xw y.1 0 = 2 ∧ 38 ≤ xw y.1 2 ∧ κ < y.2.1 ∧ y.2.1 ≤ φ ∧ φ < κ + 218) ∧ ¬ mapd (τ κ) ∧ ∀ u, κ < u → u < φ → ¬ KLt τ v u
def FRk2 (L s0 : Nat) (τ : Nat → qS) (A : Nat → List (Ms × Nat × Nat)) (B : Nat → List (Ms × Nat × Nat) × List (Ms × Nat × Nat) × List (Ms × Nat × Nat)) (φ : Nat) : Prop := ∃ v κ, FRm L s0 τ A B v κ φ
theorem FRk2_k {L s0 : Nat} {τ : Nat → qS} {A : Nat → List (Ms × Nat × Nat)} {ρ : Nat → qS × qS × qS} {B : Nat → List (Ms × Nat × Nat) × List (Ms × Nat × Nat) × List (Ms × Nat × Nat)} {φ : Nat} (h : FRk2 L s0 τ A B φ) : FRk L s0 τ A B φ := by
  obtain ⟨v, κ, x, i, y, a, b, -⟩ := h
  exact ⟨v, κ, x, i, y, a, b⟩
-- what an accepted name is whose FETCH is read at t
theorem DKm {L s0 : Nat} {τ : Nat → qS} (hR : RNN L τ) (hs : ∀ t, t ≤ 7 * L → psame (τ 0) (τ t)) {A : Nat → List (Ms × Nat × Nat)} {ρ : Nat → qS × qS × qS} {B : Nat → List (Ms × Nat × Nat) × List (Ms × Nat × Nat) × List (Ms × Nat × Nat)} (h : ANC L s0 τ A ρ B) (h7 : 224 ≤ s0) {t i b : Nat} (t1 : s0 + 900 ≤ t) (t2 : t < 7 * L) (hi : i < 3) (hr : rdk τ A ρ B 5 t i b) {t' : Nat} (t1' : s0 ≤ t') (t2' : t' < 7 * L) (ha : ACC τ A ρ B t' b) : OWb L s0 τ A ρ B b ∨ PNk L s0 τ A ρ B b ∨ ∃ κ, FRm L s0 τ A B (t' % 7) κ t ∧ b ≤ κ ∧ t < b + 224 ∧ κ < t' ∧ ∀ u, κ < u → u < t' → ¬ KLt τ (t' % 7) u := by
  have q := rd5_b hR h h7 (by omega) (by omega) hi hr
  obtain ⟨i6, hi6, hr6⟩ := ACC_rd ha
  have φt := rd56 h (by omega : s0 < b) (by omega) t2 t1' t2' hi6 hi hr hr6
  rcases DEADF2 hR h h7 (b := b) (t := t') (v := t' % 7) (by omega) t1' t2' rfl ha (φ := t) (j := i) (by omega) (by omega) hi hr with c | ⟨κ, x, i', y, b1, b2, b3, b4, b5, b6, b7, b8, b9, b10, b11, b12⟩
  · exact Or.inl ⟨t', t1', t2', ha, c⟩
  · rcases b12 with c | ⟨c1, c2, c3⟩
    · exact Or.inr (Or.inl (Or.inl ⟨t', κ, x, i', y, t1', t2', ha, b1, b2, b3, b4, b6, b7, b8, b9, b10, b11, c⟩))
    · obtain ⟨v', -, e2, e3, -⟩ := ACC_tk h (by omega : s0 < b) t1' t2' ha
      have e4 := b4.1
      by_cases mp : mapd (τ κ)
      · by_cases sl : SLT1 τ A (t' % 7) (κ + 1)
        · exact Or.inr (Or.inl (Or.inr ⟨t', κ, t1', t2', ha, b1, by omega, b4, sl⟩))
        · exfalso
          have ym := hd_mem b9
          have h6x : x % 7 < 6 := by have := ha.1; omega
          have yx : y ∈ A x := st_gv h (by omega) (by omega) h6x i' (by omega) y ym.1 b10
          have gv := GVs h.1 (x - s0) (by omega)
          rw [show s0 + (x - s0) = x by omega] at gv
          obtain ⟨g1, -, g3⟩ := gv y yx b10 (by omega)
          have all := TRF hR h hs (v := t' % 7) (κ := κ) (u := y.2.1) ha.1 (by omega) (by omega) (by omega) b4 mp sl (by omega) (by omega) g3 ⟨ym.2, b10⟩
          have al2 := AN_all hR h (g := κ + 1) (t := y.2.1) (by omega) (by omega) all (t - y.2.1) (by omega)
          rw [show y.2.1 + (t - y.2.1) = t by omega] at al2
          obtain ⟨r6, f, fb, fh, -, f5⟩ := hr
          have fm := st_f5 h (by omega) (by omega) r6 i (by omega) f (hd_mem fh).1 f5
          have fs := ANR_fs h.1 (t - s0) (by omega)
          rw [show s0 + (t - s0) = t by omega] at fs
          have := fs f fm f5
          have := al2 f fm
          omega
      · exact Or.inr (Or.inr ⟨κ, ⟨x, i', y, ⟨ha.1, by omega, by omega, b6, b2, b4, b7, b8, b9, b10, b11, c1, c2, by omega⟩, mp, fun u u1 u2 => b5 u u1 (by omega)⟩, b1, c3, by omega, b5⟩)
theorem DKn2 {L s0 : Nat} {τ : Nat → qS} (hR : RNN L τ) (hs : ∀ t, t ≤ 7 * L → psame (τ 0) (τ t)) {A : Nat → List (Ms × Nat × Nat)} {ρ : Nat → qS × qS × qS} {B : Nat → List (Ms × Nat × Nat) × List (Ms × Nat × Nat) × List (Ms × Nat × Nat)} (h : ANC L s0 τ A ρ B) (h7 : 224 ≤ s0) {t i b : Nat} (t1 : s0 + 900 ≤ t) (t2 : t < 7 * L) (hi : i < 3) (hr : rdk τ A ρ B 5 t i b) (hp : ¬ NAb L s0 τ A ρ B b) (hf : ¬ FRk2 L s0 τ A B t) : OWb L s0 τ A ρ B b ∨ PNk L s0 τ A ρ B b := by
  obtain ⟨t', t1', t2', ha⟩ : ∃ t', s0 ≤ t' ∧ t' < 7 * L ∧ ACC τ A ρ B t' b := by
    apply Classical.byContradiction
    intro m
    exact hp fun t' q1 q2 q3 => m ⟨t', q1, q2, q3⟩
  rcases DKm hR hs h h7 t1 t2 hi hr t1' t2' ha with c | c | ⟨κ, c, -⟩
  · exact Or.inl c
  · exact Or.inr c
  · exact absurd ⟨_, κ, c⟩ hf

