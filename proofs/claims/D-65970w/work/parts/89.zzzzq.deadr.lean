def NAb (L s0 : Nat) (τ : Nat → qS) (A : Nat → List (Ms × Nat × Nat)) (ρ : Nat → qS × qS × qS) (B : Nat → List (Ms × Nat × Nat) × List (Ms × Nat × Nat) × List (Ms × Nat × Nat)) (b : Nat) : Prop := ∀ t, s0 ≤ t → t < 7 * L → ¬ ACC τ A ρ B t b
def OWb (L s0 : Nat) (τ : Nat → qS) (A : Nat → List (Ms × Nat × Nat)) (ρ : Nat → qS × qS × qS) (B : Nat → List (Ms × Nat × Nat) × List (Ms × Nat × Nat) × List (Ms × Nat × Nat)) (b : Nat) : Prop := ∃ t, s0 ≤ t ∧ t < 7 * L ∧ ACC τ A ρ B t b ∧ SEG τ (t % 7) b (t - b)
def PNb (L s0 : Nat) (τ : Nat → qS) (A : Nat → List (Ms × Nat × Nat)) (ρ : Nat → qS × qS × qS) (B : Nat → List (Ms × Nat × Nat) × List (Ms × Nat × Nat) × List (Ms × Nat × Nat)) (b : Nat) : Prop := ∃ t κ x i y, s0 ≤ t ∧ t < 7 * L ∧ ACC τ A ρ B t b ∧ b ≤ κ ∧ κ < x ∧ x ≤ t ∧ KLt τ (t % 7) κ ∧ x % 7 = t % 7 ∧ (∀ u, κ < u → u ≤ x → τ u 62 ((t % 7 : Nat) : Int) < 38) ∧ i < 3 ∧ hdA ((t % 7 : Nat) : Int) (stA A B x i) y ∧ xw y.1 0 = 2 ∧ 38 ≤ xw y.1 2 ∧ y.2.1 ≤ κ
def FRt (L s0 : Nat) (τ : Nat → qS) (A : Nat → List (Ms × Nat × Nat)) (B : Nat → List (Ms × Nat × Nat) × List (Ms × Nat × Nat) × List (Ms × Nat × Nat)) (φ : Nat) : Prop := ∃ v κ x i y, v < 6 ∧ s0 ≤ x ∧ x < 7 * L ∧ x % 7 = v ∧ κ < x ∧ KLt τ v κ ∧ (∀ u, κ < u → u ≤ x → τ u 62 (v : Int) < 38) ∧ i < 3 ∧ hdA v (stA A B x i) y ∧ xw y.1 0 = 2 ∧ 38 ≤ xw y.1 2 ∧ κ < y.2.1 ∧ y.2.1 ≤ φ ∧ φ < κ + 218
theorem rd5_b {L s0 : Nat} {τ : Nat → qS} (hR : RNN L τ) {A : Nat → List (Ms × Nat × Nat)} {ρ : Nat → qS × qS × qS} {B : Nat → List (Ms × Nat × Nat) × List (Ms × Nat × Nat) × List (Ms × Nat × Nat)} (h : ANC L s0 τ A ρ B) (h7 : 224 ≤ s0) {φ j b : Nat} (f1 : s0 + 224 ≤ φ) (f2 : φ < 7 * L) (hj : j < 3) (hf : rdk τ A ρ B 5 φ j b) : b ≤ φ ∧ φ < b + 224 := by
  obtain ⟨f6, x, xb, xh, -, x5⟩ := hf
  have xA := st_f5 h (by omega : s0 ≤ φ) f2 f6 j (by omega) x (hd_mem xh).1 x5
  have fs := ANR_fs h.1 (φ - s0) (by omega)
  rw [show s0 + (φ - s0) = φ by omega] at fs
  have e := fs x xA x5
  have ag := AGE32 hR h.1 h7 f1 (by omega) xA ((tokb_i x).mpr (Or.inl x5))
  have k := ANR_srt h.1 (φ - s0) (by omega)
  rw [show s0 + (φ - s0) = φ by omega] at k
  have := k.2 x xA
  omega
theorem rd6_A {L s0 : Nat} {τ : Nat → qS} {A : Nat → List (Ms × Nat × Nat)} {ρ : Nat → qS × qS × qS} {B : Nat → List (Ms × Nat × Nat) × List (Ms × Nat × Nat) × List (Ms × Nat × Nat)} (h : ANC L s0 τ A ρ B) {t : Nat} (h1 : s0 ≤ t) (h2 : t < 7 * L) {j b : Nat} (hj : j < 3) (hf : rdk τ A ρ B 6 t j b) : b ≤ t → 1 ≤ tbc b (A t) := fun hb => by
  have d := (rd_dec h h1 h2 (b := b) hj).2 hf
  have m := (st_mo h h1 h2 hf.1 hb j 0 (by omega)).2
  rw [show 0 + j = j by omega] at m
  have e0 : stA A B t 0 = A t := rfl
  rw [e0] at m
  omega
theorem rd6_b {L s0 : Nat} {τ : Nat → qS} (hR : RNN L τ) {A : Nat → List (Ms × Nat × Nat)} {ρ : Nat → qS × qS × qS} {B : Nat → List (Ms × Nat × Nat) × List (Ms × Nat × Nat) × List (Ms × Nat × Nat)} (h : ANC L s0 τ A ρ B) (h7 : 224 ≤ s0) {t j b : Nat} (f1 : s0 + 448 ≤ t) (f2 : t < 7 * L) (hj : j < 3) (hf : rdk τ A ρ B 6 t j b) : b ≤ t ∧ t < b + 448 := by
  have bt : b ≤ t := by
    obtain ⟨f6, x, xb, xh, -, x6⟩ := hf
    have k0 := ANR_tk h.1 (t - s0) (by omega)
    rw [show s0 + (t - s0) = t by omega] at k0
    have tk : ∀ i, i ≤ 3 → TKa s0 τ t (stA A B t i) := fun i => by
      induction i with
      | zero => intro _; exact k0
      | succ i ih => intro q; exact RDn_tk (st_rd h (by omega) f2 f6 (i := i) (by omega)) (ih (by omega))
    by_cases c : s0 < x.2.2
    · have := (tk j (by omega) x (hd_mem xh).1 ((tokb_i x).mpr (Or.inr x6)) c).1
      omega
    · omega
  have q := rd6_A h (by omega : s0 ≤ t) f2 hj hf bt
  unfold tbc at q
  obtain ⟨x, hx, px⟩ := List.countP_pos_iff.mp (by omega : 0 < (A t).countP (fun x => tokb x && decide (x.2.2 = b)))
  rw [Bool.and_eq_true] at px
  have xb := of_decide_eq_true px.2
  have := LIFE64 hR h.1 h7 f1 (by omega) hx px.1
  exact ⟨bt, by omega⟩
theorem ACC_rd {τ : Nat → qS} {A : Nat → List (Ms × Nat × Nat)} {ρ : Nat → qS × qS × qS} {B : Nat → List (Ms × Nat × Nat) × List (Ms × Nat × Nat) × List (Ms × Nat × Nat)} {t b : Nat} (ha : ACC τ A ρ B t b) : ∃ i, i < 3 ∧ rdk τ A ρ B 6 t i b := by
  obtain ⟨h6, y, yb, c⟩ := ha
  rcases c with ⟨c, e, c6, -⟩ | ⟨c, e, c6, -⟩ | ⟨c, e, c6, -⟩
  · exact ⟨0, by omega, h6, y, yb, c, e, c6⟩
  · exact ⟨1, by omega, h6, y, yb, c, e, c6⟩
  · exact ⟨2, by omega, h6, y, yb, c, e, c6⟩
theorem DEADR {L s0 : Nat} {τ : Nat → qS} (hR : RNN L τ) {A : Nat → List (Ms × Nat × Nat)} {ρ : Nat → qS × qS × qS} {B : Nat → List (Ms × Nat × Nat) × List (Ms × Nat × Nat) × List (Ms × Nat × Nat)} (h : ANC L s0 τ A ρ B) (h7 : 224 ≤ s0) {D : Nat → Prop} {s n : Nat} (h1 : s0 + 900 ≤ s) (h2 : s + n ≤ 7 * L) (hD : ∀ t, s ≤ t → t < s + n → D t → t % 7 < 6 ∧ 3 ≤ cn ((t % 7 : Nat) : Int) (ln (τ t)) ∧ ¬ FRt L s0 τ A B t) : 3 * ctq D s n ≤ ctq (RK τ A ρ B D (fun _ _ => True) 2 0) s n + ctq (RK τ A ρ B D (fun _ _ => True) 2 1) s n + ctq (RK τ A ρ B D (fun _ _ => True) 2 2) s n + ctq (fun b => ∃ t, s ≤ t ∧ t < s + n ∧ D t ∧ ACC τ A ρ B t b) (s - 448) (n + 448) + ctq (fun b => NAb L s0 τ A ρ B b ∧ ∃ t i, s ≤ t ∧ t < s + n ∧ i < 3 ∧ D t ∧ rdk τ A ρ B 6 t i b) (s - 448) (n + 448) + ctq (fun b => NAb L s0 τ A ρ B b ∧ ∃ t i, s ≤ t ∧ t < s + n ∧ i < 3 ∧ D t ∧ rdk τ A ρ B 5 t i b) (s - 448) (n + 448) + ctq (fun b => (OWb L s0 τ A ρ B b ∨ PNb L s0 τ A ρ B b) ∧ ∃ t i, s ≤ t ∧ t < s + n ∧ i < 3 ∧ D t ∧ rdk τ A ρ B 5 t i b) (s - 448) (n + 448) := by
  have per : ∀ i, i < 3 → ctq D s n ≤ ctq (RK τ A ρ B D (fun _ _ => True) 2 i) s n + (ctq (RK τ A ρ B D (fun t b => ACC τ A ρ B t b) 6 i) s n + ctq (RK τ A ρ B D (fun t b => ¬ ACC τ A ρ B t b) 6 i) s n + (ctq (RK τ A ρ B D (fun _ b => NAb L s0 τ A ρ B b) 5 i) s n + ctq (RK τ A ρ B D (fun _ b => ¬ NAb L s0 τ A ρ B b) 5 i) s n)) := fun i hi => by
    have c1 : ctq D s n ≤ ctq (RK τ A ρ B D (fun _ _ => True) 2 i) s n + ctq (fun t => D t ∧ ∃ b, rdk τ A ρ B 5 t i b ∨ rdk τ A ρ B 6 t i b) s n := ctq_or n (fun t t1 t2 hd => by
      obtain ⟨q1, q2, -⟩ := hD t t1 t2 hd
      obtain ⟨b, hb⟩ := FULL3 hR h (by omega) (by omega) (by omega) q1 q2 hi
      rcases hb with hb | hb
      · exact Or.inl ⟨hd, b, hb, trivial⟩
      · exact Or.inr ⟨hd, b, hb⟩)
    have c2 : ctq (fun t => D t ∧ ∃ b, rdk τ A ρ B 5 t i b ∨ rdk τ A ρ B 6 t i b) s n ≤ ctq (fun t => D t ∧ ∃ b, rdk τ A ρ B 6 t i b) s n + ctq (fun t => D t ∧ ∃ b, rdk τ A ρ B 5 t i b) s n := ctq_or n (fun t _ _ ⟨hd, b, hb⟩ => by
      rcases hb with hb | hb
      · exact Or.inr ⟨hd, b, hb⟩
      · exact Or.inl ⟨hd, b, hb⟩)
    have c3 : ctq (fun t => D t ∧ ∃ b, rdk τ A ρ B 6 t i b) s n ≤ ctq (RK τ A ρ B D (fun t b => ACC τ A ρ B t b) 6 i) s n + ctq (RK τ A ρ B D (fun t b => ¬ ACC τ A ρ B t b) 6 i) s n := ctq_or n (fun t _ _ ⟨hd, b, hb⟩ => by
      by_cases c : ACC τ A ρ B t b
      · exact Or.inl ⟨hd, b, hb, c⟩
      · exact Or.inr ⟨hd, b, hb, c⟩)
    have c4 : ctq (fun t => D t ∧ ∃ b, rdk τ A ρ B 5 t i b) s n ≤ ctq (RK τ A ρ B D (fun _ b => NAb L s0 τ A ρ B b) 5 i) s n + ctq (RK τ A ρ B D (fun _ b => ¬ NAb L s0 τ A ρ B b) 5 i) s n := ctq_or n (fun t _ _ ⟨hd, b, hb⟩ => by
      by_cases c : NAb L s0 τ A ρ B b
      · exact Or.inl ⟨hd, b, hb, c⟩
      · exact Or.inr ⟨hd, b, hb, c⟩)
    omega
  have p0 := per 0 (by omega)
  have p1 := per 1 (by omega)
  have p2 := per 2 (by omega)
  have a1 := RKn h (d := D) (P := fun t b => ACC τ A ρ B t b) (Q := fun b => ∃ t, s ≤ t ∧ t < s + n ∧ D t ∧ ACC τ A ρ B t b) (k := 6) (Or.inr rfl) (s := s) (n := n) (a := s - 448) (m := n + 448) (by omega) h2 (fun t i b t1 t2 hi hd hr hp => by
    have q := rd6_b hR h h7 (by omega) (by omega) hi hr
    exact ⟨by omega, by omega, by omega, t, t1, t2, hd, hp⟩)
  have a2 := RKn h (d := D) (P := fun t b => ¬ ACC τ A ρ B t b) (Q := fun b => NAb L s0 τ A ρ B b ∧ ∃ t i, s ≤ t ∧ t < s + n ∧ i < 3 ∧ D t ∧ rdk τ A ρ B 6 t i b) (k := 6) (Or.inr rfl) (s := s) (n := n) (a := s - 448) (m := n + 448) (by omega) h2 (fun t i b t1 t2 hi hd hr hp => by
    have q := rd6_b hR h h7 (by omega) (by omega) hi hr
    refine ⟨by omega, by omega, by omega, fun t' t1' t2' ha => ?_, t, i, t1, t2, hi, hd, hr⟩
    obtain ⟨i', hi', hr'⟩ := ACC_rd ha
    have e := (rd_once h (by omega) (Or.inr rfl) (by omega) (by omega) t1' t2' hi hi' hr hr').1
    subst e
    exact hp ha)
  have a3 := RKn h (d := D) (P := fun _ b => NAb L s0 τ A ρ B b) (Q := fun b => NAb L s0 τ A ρ B b ∧ ∃ t i, s ≤ t ∧ t < s + n ∧ i < 3 ∧ D t ∧ rdk τ A ρ B 5 t i b) (k := 5) (Or.inl rfl) (s := s) (n := n) (a := s - 448) (m := n + 448) (by omega) h2 (fun t i b t1 t2 hi hd hr hp => by
    have q := rd5_b hR h h7 (by omega) (by omega) hi hr
    exact ⟨by omega, by omega, by omega, hp, t, i, t1, t2, hi, hd, hr⟩)
  have a4 := RKn h (d := D) (P := fun _ b => ¬ NAb L s0 τ A ρ B b) (Q := fun b => (OWb L s0 τ A ρ B b ∨ PNb L s0 τ A ρ B b) ∧ ∃ t i, s ≤ t ∧ t < s + n ∧ i < 3 ∧ D t ∧ rdk τ A ρ B 5 t i b) (k := 5) (Or.inl rfl) (s := s) (n := n) (a := s - 448) (m := n + 448) (by omega) h2 (fun t i b t1 t2 hi hd hr hp => by
    have q := rd5_b hR h h7 (by omega) (by omega) hi hr
    refine ⟨by omega, by omega, by omega, ?_, t, i, t1, t2, hi, hd, hr⟩
    obtain ⟨t', t1', t2', ha⟩ : ∃ t', s0 ≤ t' ∧ t' < 7 * L ∧ ACC τ A ρ B t' b := by
      apply Classical.byContradiction
      intro m
      exact hp fun t' q1 q2 q3 => m ⟨t', q1, q2, q3⟩
    rcases DEADF hR h h7 (b := b) (t := t') (v := t' % 7) (by omega) t1' t2' rfl ha (φ := t) (j := i) (by omega) (by omega) hi hr with c | ⟨κ, x, i', y, b1, b2, b3, b4, b5, b6, b7, b8, b9, b10, b11, b12⟩
    · exact Or.inl ⟨t', t1', t2', ha, c⟩
    · rcases b12 with c | ⟨c1, c2, c3⟩
      · exact Or.inr ⟨t', κ, x, i', y, t1', t2', ha, b1, b2, b3, b4, b6, b7, b8, b9, b10, b11, c⟩
      · obtain ⟨v', -, e2, e3, -⟩ := ACC_tk h (by omega : s0 < b) t1' t2' ha
        have e4 := b4.1
        exact absurd ⟨t' % 7, κ, x, i', y, ha.1, by omega, by omega, b6, b2, b4, b7, b8, b9, b10, b11, c1, c2, by omega⟩ (hD t t1 t2 hd).2.2)
  omega

