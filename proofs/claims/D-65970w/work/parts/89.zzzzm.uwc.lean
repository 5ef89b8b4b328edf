theorem UWC {L s0 : Nat} {τ : Nat → qS} (hR : RNN L τ) {A : Nat → List (Ms × Nat × Nat)} {ρ : Nat → qS × qS × qS} {B : Nat → List (Ms × Nat × Nat) × List (Ms × Nat × Nat) × List (Ms × Nat × Nat)} (h : ANC L s0 τ A ρ B) (h7 : 224 ≤ s0) {v : Nat} (hv : v < 6) {S t i i' : Nat} (h1 : s0 ≤ S) (h2 : t < 7 * L) (hS : S % 7 = v) (ht : t % 7 = v) (hi : i < 3) (hi' : i' < 3) (hlt : S < t ∨ (S = t ∧ i ≤ i')) {y z : Ms × Nat × Nat} (hy : hdA v (stA A B S i) y) (y2 : xw y.1 0 = 2) (yg : s0 + 224 ≤ y.2.1) (hz : hdA v (stA A B t i') z) (z6 : xw z.1 0 = 6) (hb0 : s0 < z.2.2) (hb : z.2.2 ≤ y.2.1) {φ j : Nat} (f1 : s0 + 224 ≤ φ) (f2 : φ < 7 * L) (hj : j < 3) (hf : rdk τ A ρ B 5 φ j z.2.2) : y.2.1 ≤ φ ∧ φ < z.2.2 + 224 := by
  have f := FIFO h hv h1 h2 hS ht hi hi' hlt hy hz
  have hS6 : S % 7 < 6 := by omega
  have ht6 : t % 7 < 6 := by omega
  have p1 := (st_ps h h1 (by omega) hS6 i (by omega) y (hd_mem hy).1 (by omega)).1 y2
  have p2 := (st_ps h (by omega : s0 ≤ t) h2 ht6 i' (by omega) z (hd_mem hz).1 (by omega)).2 z6
  have ne : y.2.1 ≠ z.2.1 := fun e => by rw [e] at p1; exact p2 p1
  have sz := (st_srt h (by omega : s0 ≤ t) h2 ht6 i' (by omega)).2 z (hd_mem hz).1
  have q := BORN h (g := y.2.1) (t := t) (i := i') (by omega) (by omega) h2 ht6 (by omega) (hd_mem hz).1 ((tokb_i z).mpr (Or.inr z6)) hb (by omega)
  have f6 := hf.1
  obtain ⟨x, xb, xh, -, x5⟩ := hf.2
  have xA := st_f5 h (by omega : s0 ≤ φ) f2 f6 j (by omega) x (hd_mem xh).1 x5
  have fs := ANR_fs h.1 (φ - s0) (by omega)
  rw [show s0 + (φ - s0) = φ by omega] at fs
  have e := fs x xA x5
  have ag := AGE32 hR h.1 h7 f1 (by omega) xA ((tokb_i x).mpr (Or.inl x5))
  have sx := (st_srt h (by omega : s0 ≤ φ) f2 f6 0 (by omega)).2
  have bφ : z.2.2 ≤ φ := by
    have k := ANR_srt h.1 (φ - s0) (by omega)
    rw [show s0 + (φ - s0) = φ by omega] at k
    have := k.2 x xA
    omega
  refine ⟨?_, by omega⟩
  apply Classical.byContradiction
  intro n
  have d := (rd_dec h (by omega : s0 ≤ φ) f2 (b := z.2.2) hj).1 hf
  have m0 := (st_mo h (by omega : s0 ≤ φ) f2 f6 bφ j 0 (by omega)).1
  have m1 := (st_mo h (by omega : s0 ≤ φ) f2 f6 bφ (3 - (j + 1)) (j + 1) (by omega)).1
  rw [show j + 1 + (3 - (j + 1)) = 3 by omega] at m1
  rw [show 0 + j = j by omega] at m0
  have en := (st_end h (by omega : s0 ≤ φ) f2 f6 bφ).1
  have e0 : stA A B φ 0 = A φ := rfl
  rw [e0] at m0
  have t0 := ANR_tb h.1 hb0 (φ - s0) (by omega)
  rw [show s0 + (φ - s0) = φ by omega] at t0
  have ft := fbc_tb z.2.2 (A φ)
  have t1 : tbc z.2.2 (A φ) ≤ 1 := by
    split at t0 <;> omega
  have g := (ANR_fb h.1 (b := z.2.2) (t := φ + 1) (by omega) (by omega) (y.2.1 - (φ + 1)) (by omega)).1
  rw [show φ + 1 + (y.2.1 - (φ + 1)) = y.2.1 by omega] at g
  omega
theorem G1b {L s0 : Nat} {τ : Nat → qS} {A : Nat → List (Ms × Nat × Nat)} {ρ : Nat → qS × qS × qS} {B : Nat → List (Ms × Nat × Nat) × List (Ms × Nat × Nat) × List (Ms × Nat × Nat)} (h : ANC L s0 τ A ρ B) {t v : Nat} (h1 : s0 ≤ t) (h2 : t < 7 * L) (ht : t % 7 = v) (hv : v < 6) (hi : τ t 62 (v : Int) = -1) : ∀ i', i' ≤ 3 → stQ τ ρ t i' 62 (v : Int) ≠ -1 → ∃ i, i < i' ∧ ∃ y, hdA v (stA A B t i) y ∧ xw y.1 0 = 2 ∧ xw y.1 2 = stQ τ ρ t i' 62 (v : Int)
  | 0, _, hq => absurd hi hq
  | i' + 1, hl, hq => by
    obtain ⟨wd, ⟨p0, p1, p2, -, -⟩, -⟩ := h.2 t h1 h2 (by omega)
    rw [ht] at wd
    obtain ⟨r1, r2, r3, -⟩ := wd
    have r : RD (v : Int) (stQ τ ρ t i') (stQ τ ρ t (i' + 1)) ∧ prA (stA A B t i') = ln (stQ τ ρ t i') := by
      rcases (by omega : i' = 0 ∨ i' = 1 ∨ i' = 2) with e | e | e
      · subst e; exact ⟨r1, p0⟩
      · subst e; exact ⟨r2, p1⟩
      · subst e; exact ⟨r3, p2⟩
    by_cases c : stQ τ ρ t i' 62 (v : Int) = -1
    · rcases RD_gv r.1 r.2 c with s | ⟨y, y1, y2, -, y4⟩
      · exact absurd s hq
      · exact ⟨i', by omega, y, y1, y2, y4.symm⟩
    · obtain ⟨i, i1, y, y1, y2, y3⟩ := G1b h h1 h2 ht hv hi i' (by omega) c
      exact ⟨i, by omega, y, y1, y2, y3.trans (RD_tk r.1 c).symm⟩
theorem dn_x {f : Nat → Int} {b : Nat} (h0 : 38 ≤ f b) : ∀ k, (∀ u, b ≤ u → u ≤ b + k → 38 ≤ f u) ∨ ∃ x, b ≤ x ∧ x < b + k ∧ 38 ≤ f x ∧ f (x + 1) < 38 ∧ ∀ u, b ≤ u → u ≤ x → 38 ≤ f u
  | 0 => Or.inl fun u u1 u2 => by
    have : u = b := by omega
    rw [this]; exact h0
  | k + 1 => by
    rcases dn_x h0 k with a | ⟨x, x1, x2, x3⟩
    · by_cases c : 38 ≤ f (b + k + 1)
      · refine Or.inl fun u u1 u2 => ?_
        by_cases e : u = b + k + 1
        · rw [e]; exact c
        · exact a u u1 (by omega)
      · exact Or.inr ⟨b + k, by omega, by omega, a _ (by omega) (by omega), by omega, fun u u1 u2 => a u u1 u2⟩
    · exact Or.inr ⟨x, x1, by omega, x3⟩
theorem up_y {f : Nat → Int} {b : Nat} (h0 : f b < 38) : ∀ k, (∀ u, b ≤ u → u ≤ b + k → f u < 38) ∨ ∃ x, b ≤ x ∧ x < b + k ∧ f x < 38 ∧ 38 ≤ f (x + 1) ∧ ∀ u, b ≤ u → u ≤ x → f u < 38
  | 0 => Or.inl fun u u1 u2 => by
    have : u = b := by omega
    rw [this]; exact h0
  | k + 1 => by
    rcases up_y h0 k with a | ⟨x, x1, x2, x3⟩
    · by_cases c : f (b + k + 1) < 38
      · refine Or.inl fun u u1 u2 => ?_
        by_cases e : u = b + k + 1
        · rw [e]; exact c
        · exact a u u1 (by omega)
      · exact Or.inr ⟨b + k, by omega, by omega, a _ (by omega) (by omega), by omega, fun u u1 u2 => a u u1 u2⟩
    · exact Or.inr ⟨x, x1, by omega, x3⟩
theorem tk_off {L : Nat} {τ : Nat → qS} (h : RNN L τ) {v : Nat} (hv : v < 6) {t : Nat} (h2 : t < 7 * L) (hc : (38 ≤ τ t 62 (v : Int) ∧ τ (t + 1) 62 (v : Int) < 38) ∨ (τ t 62 (v : Int) < 38 ∧ 38 ≤ τ (t + 1) 62 (v : Int))) : t % 7 = v := by
  apply Classical.byContradiction
  intro n
  have := STP_w (h.2 t h2) (w := (v : Int)) (by omega) (by omega) 62 (by decide)
  omega
theorem st_r {L s0 : Nat} {τ : Nat → qS} {A : Nat → List (Ms × Nat × Nat)} {ρ : Nat → qS × qS × qS} {B : Nat → List (Ms × Nat × Nat) × List (Ms × Nat × Nat) × List (Ms × Nat × Nat)} (h : ANC L s0 τ A ρ B) {t v : Nat} (h1 : s0 ≤ t) (h2 : t < 7 * L) (ht : t % 7 = v) (hv : v < 6) {i' : Nat} (hi : i' < 3) : RD (v : Int) (stQ τ ρ t i') (stQ τ ρ t (i' + 1)) ∧ prA (stA A B t i') = ln (stQ τ ρ t i') := by
  obtain ⟨wd, ⟨p0, p1, p2, -, -⟩, -⟩ := h.2 t h1 h2 (by omega)
  rw [ht] at wd
  obtain ⟨r1, r2, r3, -⟩ := wd
  rcases (by omega : i' = 0 ∨ i' = 1 ∨ i' = 2) with e | e | e
  · subst e; exact ⟨r1, p0⟩
  · subst e; exact ⟨r2, p1⟩
  · subst e; exact ⟨r3, p2⟩
theorem st_tq {L s0 : Nat} {τ : Nat → qS} {A : Nat → List (Ms × Nat × Nat)} {ρ : Nat → qS × qS × qS} {B : Nat → List (Ms × Nat × Nat) × List (Ms × Nat × Nat) × List (Ms × Nat × Nat)} (h : ANC L s0 τ A ρ B) {t v : Nat} (h1 : s0 ≤ t) (h2 : t < 7 * L) (ht : t % 7 = v) (hv : v < 6) (hn : τ t 62 (v : Int) ≠ -1) : ∀ i', i' ≤ 3 → stQ τ ρ t i' 62 (v : Int) = τ t 62 (v : Int)
  | 0, _ => rfl
  | i' + 1, hl => by
    have ih := st_tq h h1 h2 ht hv hn i' (by omega)
    rw [RD_tk (st_r h h1 h2 ht hv (by omega : i' < 3)).1 (by rw [ih]; exact hn), ih]
theorem ASC {L s0 : Nat} {τ : Nat → qS} (hR : RNN L τ) {A : Nat → List (Ms × Nat × Nat)} {ρ : Nat → qS × qS × qS} {B : Nat → List (Ms × Nat × Nat) × List (Ms × Nat × Nat) × List (Ms × Nat × Nat)} (h : ANC L s0 τ A ρ B) {b t v : Nat} (hb : s0 < b) (h1 : s0 ≤ t) (h2 : t < 7 * L) (ht : t % 7 = v) (ha : ACC τ A ρ B t b) : SEG τ v b (t - b) ∨ ∃ κ x i i' y z, b ≤ κ ∧ κ < x ∧ x ≤ t ∧ KLt τ v κ ∧ SEG τ v b (κ - b) ∧ x % 7 = v ∧ (∀ u, κ < u → u ≤ x → τ u 62 (v : Int) < 38) ∧ i < 3 ∧ i' < 3 ∧ (x < t ∨ (x = t ∧ i ≤ i')) ∧ hdA v (stA A B x i) y ∧ xw y.1 0 = 2 ∧ 38 ≤ xw y.1 2 ∧ hdA v (stA A B t i') z ∧ xw z.1 0 = 6 ∧ z.2.2 = b := by
  obtain ⟨v', v1, v2, v3, v4, v5, -⟩ := ACC_tk h hb h1 h2 ha
  have hv : v < 6 := by omega
  have ev : v' = v := by omega
  subst ev
  obtain ⟨i', hi', z, hz, zb, z6, zq⟩ : ∃ i', i' < 3 ∧ ∃ z, hdA v' (stA A B t i') z ∧ z.2.2 = b ∧ xw z.1 0 = 6 ∧ 38 ≤ stQ τ ρ t i' 62 (v' : Int) := by
    obtain ⟨-, y, yb, c⟩ := ha
    rw [ht] at c
    rcases c with ⟨c, -, c6, f, -⟩ | ⟨c, -, c6, f, -⟩ | ⟨c, -, c6, f, -⟩
    · exact ⟨0, by omega, y, c, yb, c6, f⟩
    · exact ⟨1, by omega, y, c, yb, c6, f⟩
    · exact ⟨2, by omega, y, c, yb, c6, f⟩
  have f0 := (fe_r v4).1
  rcases dn_x (f := fun u => τ u 62 (v' : Int)) f0 (t - b) with a | ⟨κ, k1, k2, k3, k4, k5⟩
  · exact Or.inl fun u u1 u2 => a u u1 u2
  · right
    have kv := tk_off hR hv (t := κ) (by omega) (Or.inl ⟨k3, k4⟩)
    have seg : SEG τ v' b (κ - b) := fun u u1 u2 => k5 u u1 (by omega)
    rcases up_y (f := fun u => τ u 62 (v' : Int)) (b := κ + 1) k4 (t - (κ + 1)) with a | ⟨x, x1, x2, x3, x4, x5⟩
    · have tt : τ t 62 (v' : Int) < 38 := a t (by omega) (by omega)
      have m1 : τ t 62 (v' : Int) = -1 := by
        apply Classical.byContradiction
        intro n
        have := st_tq h h1 h2 ht hv n i' (by omega)
        omega
      obtain ⟨i, i1, y, y1, y2, y3⟩ := G1b h h1 h2 ht hv m1 i' (by omega) (by omega)
      exact ⟨κ, t, i, i', y, z, k1, by omega, Nat.le_refl _, ⟨kv, k3, k4⟩, seg, ht, fun u u1 u2 => a u (by omega) (by omega), by omega, hi', Or.inr ⟨rfl, by omega⟩, y1, y2, by omega, hz, z6, zb⟩
    · have xv := tk_off hR hv (t := x) (by omega) (Or.inr ⟨x3, x4⟩)
      have m1 : τ x 62 (v' : Int) = -1 := by
        apply Classical.byContradiction
        intro n
        have e3 := st_tq h (by omega : s0 ≤ x) (by omega) xv hv n 3 (by omega)
        obtain ⟨wd, -⟩ := h.2 x (by omega) (by omega) (by omega)
        rw [xv] at wd
        obtain ⟨-, -, -, a, ⟨-, -, j3, -⟩, -⟩ := wd
        have e4 := ACT_tk j3.1 a x4
        have e5 : stQ τ ρ x 3 = (ρ x).2.2 := rfl
        rw [e5] at e3
        have : τ x 62 (v' : Int) < 38 := x3
        omega
      obtain ⟨i, i1, y, y1, y2, y3⟩ := G1 h (by omega : s0 ≤ x) (by omega) hv xv m1 x4
      have x4' : 38 ≤ τ (x + 1) 62 (v' : Int) := x4
      exact ⟨κ, x, i, i', y, z, k1, by omega, by omega, ⟨kv, k3, k4⟩, seg, xv, fun u u1 u2 => x5 u (by omega) u2, i1, hi', Or.inl (by omega), y1, y2, by omega, hz, z6, zb⟩
theorem DEADF {L s0 : Nat} {τ : Nat → qS} (hR : RNN L τ) {A : Nat → List (Ms × Nat × Nat)} {ρ : Nat → qS × qS × qS} {B : Nat → List (Ms × Nat × Nat) × List (Ms × Nat × Nat) × List (Ms × Nat × Nat)} (h : ANC L s0 τ A ρ B) (h7 : 224 ≤ s0) {b t v : Nat} (hb : s0 + 448 < b) (h1 : s0 ≤ t) (h2 : t < 7 * L) (ht : t % 7 = v) (ha : ACC τ A ρ B t b) {φ j : Nat} (f2 : φ < 7 * L) (f1 : s0 ≤ φ) (hj : j < 3) (hf : rdk τ A ρ B 5 φ j b) : SEG τ v b (t - b) ∨ ∃ κ x i y, b ≤ κ ∧ κ < x ∧ x ≤ t ∧ KLt τ v κ ∧ SEG τ v b (κ - b) ∧ x % 7 = v ∧ (∀ u, κ < u → u ≤ x → τ u 62 (v : Int) < 38) ∧ i < 3 ∧ hdA v (stA A B x i) y ∧ xw y.1 0 = 2 ∧ 38 ≤ xw y.1 2 ∧ (y.2.1 ≤ κ ∨ (κ < y.2.1 ∧ y.2.1 ≤ φ ∧ φ < b + 224)) := by
  rcases ASC hR h (by omega : s0 < b) h1 h2 ht ha with a | ⟨κ, x, i, i', y, z, a1, a2, a3, a4, a5, a6, a7, a8, a9, a10, a11, a12, a13, a14, a15, a16⟩
  · exact Or.inl a
  · right
    refine ⟨κ, x, i, y, a1, a2, a3, a4, a5, a6, a7, a8, a11, a12, a13, ?_⟩
    by_cases c : y.2.1 ≤ κ
    · exact Or.inl c
    · right
      have bφ : b ≤ φ := by
        obtain ⟨f6, w, wb, wh, -, w5⟩ := hf
        have xA := st_f5 h f1 f2 f6 j (by omega) w (hd_mem wh).1 w5
        have fs := ANR_fs h.1 (φ - s0) (by omega)
        rw [show s0 + (φ - s0) = φ by omega] at fs
        have e := fs w xA w5
        have k := ANR_srt h.1 (φ - s0) (by omega)
        rw [show s0 + (φ - s0) = φ by omega] at k
        have := k.2 w xA
        omega
      have u := UWC hR h h7 (v := v) (by have := ha.1; omega) (S := x) (t := t) (i := i) (i' := i') (by omega) h2 a6 ht a8 a9 a10 a11 a12 (by omega) a14 a15 (by omega) (by omega) (φ := φ) (j := j) (by omega) f2 hj (by rw [a16]; exact hf)
      rw [a16] at u
      exact ⟨by omega, u.1, u.2⟩

