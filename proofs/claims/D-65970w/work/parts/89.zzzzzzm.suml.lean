-- fresh moments after a kill proper (a split was undone), and tokens of starts that are not fresh
def FRk (L s0 : Nat) (τ : Nat → qS) (A : Nat → List (Ms × Nat × Nat)) (B : Nat → List (Ms × Nat × Nat) × List (Ms × Nat × Nat) × List (Ms × Nat × Nat)) (φ : Nat) : Prop := ∃ v κ x i y, (v < 6 ∧ s0 ≤ x ∧ x < 7 * L ∧ x % 7 = v ∧ κ < x ∧ KLt τ v κ ∧ (∀ u, κ < u → u ≤ x → τ u 62 (v : Int) < 38) ∧ i < 3 ∧ hdA v (stA A B x i) y ∧ xw y.1 0 = 2 ∧ 38 ≤ xw y.1 2 ∧ κ < y.2.1 ∧ y.2.1 ≤ φ ∧ φ < κ + 218) ∧ ¬ mapd (τ κ)
def PNk (L s0 : Nat) (τ : Nat → qS) (A : Nat → List (Ms × Nat × Nat)) (ρ : Nat → qS × qS × qS) (B : Nat → List (Ms × Nat × Nat) × List (Ms × Nat × Nat) × List (Ms × Nat × Nat)) (b : Nat) : Prop := PNb L s0 τ A ρ B b ∨ ∃ t κ, s0 ≤ t ∧ t < 7 * L ∧ ACC τ A ρ B t b ∧ b ≤ κ ∧ κ < t ∧ KLt τ (t % 7) κ ∧ SLT1 τ A (t % 7) (κ + 1)
def NDk (L s0 : Nat) (τ : Nat → qS) (A : Nat → List (Ms × Nat × Nat)) (B : Nat → List (Ms × Nat × Nat) × List (Ms × Nat × Nat) × List (Ms × Nat × Nat)) (r : Nat) : Prop := ∃ φ, 7 * r ≤ φ ∧ φ < 7 * r + 6 ∧ FRk L s0 τ A B φ
def CHk (L s0 : Nat) (τ : Nat → qS) (A : Nat → List (Ms × Nat × Nat)) (B : Nat → List (Ms × Nat × Nat) × List (Ms × Nat × Nat) × List (Ms × Nat × Nat)) (ch : Nat → Nat) (t : Nat) : Prop := CHc ch t ∧ ¬ NDk L s0 τ A B (t / 7)
theorem DEADK {L s0 : Nat} {τ : Nat → qS} (hR : RNN L τ) (hs : ∀ t, t ≤ 7 * L → psame (τ 0) (τ t)) {A : Nat → List (Ms × Nat × Nat)} {ρ : Nat → qS × qS × qS} {B : Nat → List (Ms × Nat × Nat) × List (Ms × Nat × Nat) × List (Ms × Nat × Nat)} (h : ANC L s0 τ A ρ B) (h7 : 224 ≤ s0) {D : Nat → Prop} {s n : Nat} (h1 : s0 + 900 ≤ s) (h2 : s + n ≤ 7 * L) (hD : ∀ t, s ≤ t → t < s + n → D t → t % 7 < 6 ∧ 3 ≤ cn ((t % 7 : Nat) : Int) (ln (τ t)) ∧ ¬ FRk L s0 τ A B t) : 3 * ctq D s n ≤ ctq (RK τ A ρ B D (fun _ _ => True) 2 0) s n + ctq (RK τ A ρ B D (fun _ _ => True) 2 1) s n + ctq (RK τ A ρ B D (fun _ _ => True) 2 2) s n + ctq (fun b => ∃ t, s ≤ t ∧ t < s + n ∧ D t ∧ ACC τ A ρ B t b) (s - 448) (n + 448) + ctq (fun b => NAb L s0 τ A ρ B b ∧ ∃ t i, s ≤ t ∧ t < s + n ∧ i < 3 ∧ D t ∧ rdk τ A ρ B 6 t i b) (s - 448) (n + 448) + ctq (fun b => NAb L s0 τ A ρ B b ∧ ∃ t i, s ≤ t ∧ t < s + n ∧ i < 3 ∧ D t ∧ rdk τ A ρ B 5 t i b) (s - 448) (n + 448) + ctq (fun b => (OWb L s0 τ A ρ B b ∨ PNk L s0 τ A ρ B b) ∧ ∃ t i, s ≤ t ∧ t < s + n ∧ i < 3 ∧ D t ∧ rdk τ A ρ B 5 t i b) (s - 448) (n + 448) := by
  have per : ∀ i, i < 3 → ctq D s n ≤ ctq (RK τ A ρ B D (fun _ _ => True) 2 i) s n + (ctq (RK τ A ρ B D (fun t b => ACC τ A ρ B t b) 6 i) s n + ctq (RK τ A ρ B D (fun t b => ¬ ACC τ A ρ B t b) 6 i) s n + (ctq (RK τ A ρ B D (fun _ b => NAb L s0 τ A ρ B b) 5 i) s n + ctq (RK τ A ρ B D (fun _ b => ¬ NAb L s0 τ A ρ B b) 5 i) s n)) := fun i hi => by
    have c1 : ctq D s n ≤ ctq (RK τ A ρ B D (fun _ _ => True) 2 i) s n + ctq (fun t => D t ∧ ∃ b, rdk τ A ρ B 5 t i b ∨ rdk τ A ρ B 6 t i b) s n := ctq_or n (fun t t1 t2 hd => by
      obtain ⟨q1, q2, -⟩ := hD t t1 t2 hd
      obtain ⟨b, hb⟩ := FULL3 hR h (by omega) (by omega) (by omega) q1 q2 hi
      rcases hb with hb | hb
      · exact Or.inl ⟨hd, b, hb, trivial⟩
      · exact Or.inr ⟨hd, b, hb⟩)
    have c2 : ctq (fun t => D t ∧ ∃ b, rdk τ A ρ B 5 t i b ∨ rdk τ A ρ B 6 t i b) s n ≤ ctq (fun t => D t ∧ ∃ b, rdk τ A ρ B 6 t i b) s n + ctq (fun t => D t ∧ ∃ b, rdk τ A ρ B 5 t i b) s n := ctq_or n (fun t _ _ ⟨hd, b, hb⟩ => by
      rcases hb with hb | hb
      · exact Or.inr ⟨hd, b, hb⟩
      · exact Or.inl ⟨hd, b, hb⟩)
    have c3 : ctq (fun t => D t ∧ ∃ b, rdk τ A ρ B 6 t i b) s n ≤ ctq (RK τ A ρ B D (fun t b => ACC τ A ρ B t b) 6 i) s n + ctq (RK τ A ρ B D (fun t b => ¬ ACC τ A ρ B t b) 6 i) s n := ctq_or n (fun t _ _ ⟨hd, b, hb⟩ => by
      by_cases c : ACC τ A ρ B t b
      · exact Or.inl ⟨hd, b, hb, c⟩
      · exact Or.inr ⟨hd, b, hb, c⟩)
    have c4 : ctq (fun t => D t ∧ ∃ b, rdk τ A ρ B 5 t i b) s n ≤ ctq (RK τ A ρ B D (fun _ b => NAb L s0 τ A ρ B b) 5 i) s n + ctq (RK τ A ρ B D (fun _ b => ¬ NAb L s0 τ A ρ B b) 5 i) s n := ctq_or n (fun t _ _ ⟨hd, b, hb⟩ => by
      by_cases c : NAb L s0 τ A ρ B b
      · exact Or.inl ⟨hd, b, hb, c⟩
      · exact Or.inr ⟨hd, b, hb, c⟩)
    omega
  have p0 := per 0 (by omega)
  have p1 := per 1 (by omega)
  have p2 := per 2 (by omega)
  have a1 := RKn h (d := D) (P := fun t b => ACC τ A ρ B t b) (Q := fun b => ∃ t, s ≤ t ∧ t < s + n ∧ D t ∧ ACC τ A ρ B t b) (k := 6) (Or.inr rfl) (s := s) (n := n) (a := s - 448) (m := n + 448) (by omega) h2 (fun t i b t1 t2 hi hd hr hp => by
    have q := rd6_b hR h h7 (by omega) (by omega) hi hr
    exact ⟨by omega, by omega, by omega, t, t1, t2, hd, hp⟩)
  have a2 := RKn h (d := D) (P := fun t b => ¬ ACC τ A ρ B t b) (Q := fun b => NAb L s0 τ A ρ B b ∧ ∃ t i, s ≤ t ∧ t < s + n ∧ i < 3 ∧ D t ∧ rdk τ A ρ B 6 t i b) (k := 6) (Or.inr rfl) (s := s) (n := n) (a := s - 448) (m := n + 448) (by omega) h2 (fun t i b t1 t2 hi hd hr hp => by
    have q := rd6_b hR h h7 (by omega) (by omega) hi hr
    refine ⟨by omega, by omega, by omega, fun t' t1' t2' ha => ?_, t, i, t1, t2, hi, hd, hr⟩
    obtain ⟨i', hi', hr'⟩ := ACC_rd ha
    have e := (rd_once h (by omega) (Or.inr rfl) (by omega) (by omega) t1' t2' hi hi' hr hr').1
    subst e
    exact hp ha)
  have a3 := RKn h (d := D) (P := fun _ b => NAb L s0 τ A ρ B b) (Q := fun b => NAb L s0 τ A ρ B b ∧ ∃ t i, s ≤ t ∧ t < s + n ∧ i < 3 ∧ D t ∧ rdk τ A ρ B 5 t i b) (k := 5) (Or.inl rfl) (s := s) (n := n) (a := s - 448) (m := n + 448) (by omega) h2 (fun t i b t1 t2 hi hd hr hp => by
    have q := rd5_b hR h h7 (by omega) (by omega) hi hr
    exact ⟨by omega, by omega, by omega, hp, t, i, t1, t2, hi, hd, hr⟩)
  have a4 := RKn h (d := D) (P := fun _ b => ¬ NAb L s0 τ A ρ B b) (Q := fun b => (OWb L s0 τ A ρ B b ∨ PNk L s0 τ A ρ B b) ∧ ∃ t i, s ≤ t ∧ t < s + n ∧ i < 3 ∧ D t ∧ rdk τ A ρ B 5 t i b) (k := 5) (Or.inl rfl) (s := s) (n := n) (a := s - 448) (m := n + 448) (by omega) h2 (fun t i b t1 t2 hi hd hr hp => by
    have q := rd5_b hR h h7 (by omega) (by omega) hi hr
    refine ⟨by omega, by omega, by omega, ?_, t, i, t1, t2, hi, hd, hr⟩
    obtain ⟨t', t1', t2', ha⟩ : ∃ t', s0 ≤ t' ∧ t' < 7 * L ∧ ACC τ A ρ B t' b := by
      apply Classical.byContradiction
      intro m
      exact hp fun t' q1 q2 q3 => m ⟨t', q1, q2, q3⟩
    rcases DEADF hR h h7 (b := b) (t := t') (v := t' % 7) (by omega) t1' t2' rfl ha (φ := t) (j := i) (by omega) (by omega) hi hr with c | ⟨κ, x, i', y, b1, b2, b3, b4, b5, b6, b7, b8, b9, b10, b11, b12⟩
    · exact Or.inl ⟨t', t1', t2', ha, c⟩
    · rcases b12 with c | ⟨c1, c2, c3⟩
      · exact Or.inr (Or.inl ⟨t', κ, x, i', y, t1', t2', ha, b1, b2, b3, b4, b6, b7, b8, b9, b10, b11, c⟩)
      · obtain ⟨v', -, e2, e3, -⟩ := ACC_tk h (by omega : s0 < b) t1' t2' ha
        have e4 := b4.1
        by_cases mp : mapd (τ κ)
        · by_cases sl : SLT1 τ A (t' % 7) (κ + 1)
          · exact Or.inr (Or.inr ⟨t', κ, t1', t2', ha, b1, by omega, b4, sl⟩)
          · exfalso
            have ym := hd_mem b9
            have h6x : x % 7 < 6 := by have := ha.1; omega
            have yx : y ∈ A x := st_gv h (by omega) (by omega) h6x i' (by omega) y ym.1 b10
            have gv := GVs h.1 (x - s0) (by omega)
            rw [show s0 + (x - s0) = x by omega] at gv
            obtain ⟨g1, -, g3⟩ := gv y yx b10 (by omega)
            have all := TRF hR h hs (v := t' % 7) (κ := κ) (u := y.2.1) ha.1 (by omega) (by omega) (by omega) b4 mp sl (by omega) (by omega) g3 ⟨ym.2, b10⟩
            have al2 := AN_all hR h (g := κ + 1) (t := y.2.1) (by omega) (by omega) all (t - y.2.1) (by omega)
            rw [show y.2.1 + (t - y.2.1) = t by omega] at al2
            obtain ⟨r6, f, fb, fh, -, f5⟩ := hr
            have fm := st_f5 h (by omega) (by omega) r6 i (by omega) f (hd_mem fh).1 f5
            have fs := ANR_fs h.1 (t - s0) (by omega)
            rw [show s0 + (t - s0) = t by omega] at fs
            have := fs f fm f5
            have := al2 f fm
            omega
        · exact absurd ⟨t' % 7, κ, x, i', y, ⟨ha.1, by omega, by omega, b6, b2, b4, b7, b8, b9, b10, b11, c1, c2, by omega⟩, mp⟩ (hD t t1 t2 hd).2.2)
  omega

theorem STARK {L s0 : Nat} {τ : Nat → qS} (hR : RNN L τ) (hs : ∀ t, t ≤ 7 * L → psame (τ 0) (τ t)) {A : Nat → List (Ms × Nat × Nat)} {ρ : Nat → qS × qS × qS} {B : Nat → List (Ms × Nat × Nat) × List (Ms × Nat × Nat) × List (Ms × Nat × Nat)} (h : ANC L s0 τ A ρ B) (h7 : 224 ≤ s0) {C D : Nat → Prop} {r0 n : Nat} (h1 : s0 + 900 ≤ 7 * r0) (h2 : r0 + n ≤ L) (hC : ∀ t, 7 * r0 ≤ t → t < 7 * r0 + 7 * n → C t → t % 7 < 6 ∧ 3 ≤ cn ((t % 7 : Nat) : Int) (ln (τ t))) (hD : ∀ t, 7 * r0 ≤ t → t < 7 * r0 + 7 * n → D t → T1t A t ∧ ¬ FRk L s0 τ A B t) :
    3 * ctq C (7 * r0) (7 * n) + 6 * ctq D (7 * r0) (7 * n) + smq (idq τ) (7 * r0) (7 * n) + 9 * smq (gtq τ) (7 * r0) (7 * n) + ctq (AXt τ A ρ B) (7 * r0) (7 * n) + 4 * ctq (fun b => gq τ (b - 1) = 1 ∧ NAb L s0 τ A ρ B b) (7 * r0 - 448) (7 * n + 448)
    ≤ 6 * n + 3 * smq (gsq τ) (7 * r0) (7 * n) + 2 * ctq (fun u => gtq τ u = 1 ∧ OWb L s0 τ A ρ B (u - 90)) (7 * r0) (7 * n)
      + (ctq (RK τ A ρ B C (fun _ _ => True) 2 0) (7 * r0) (7 * n) + ctq (RK τ A ρ B C (fun _ _ => True) 2 1) (7 * r0) (7 * n) + ctq (RK τ A ρ B C (fun _ _ => True) 2 2) (7 * r0) (7 * n))
      + 2 * (ctq (RK τ A ρ B D (fun _ _ => True) 2 0) (7 * r0) (7 * n) + ctq (RK τ A ρ B D (fun _ _ => True) 2 1) (7 * r0) (7 * n) + ctq (RK τ A ρ B D (fun _ _ => True) 2 2) (7 * r0) (7 * n))
      + ctq (fun t => C t ∧ ∃ b, ACC τ A ρ B t b) (7 * r0) (7 * n) + 2 * ctq (fun t => D t ∧ ∃ b, ACC τ A ρ B t b) (7 * r0) (7 * n)
      + (ctq (fun b => NAb L s0 τ A ρ B b ∧ ∃ t i, 7 * r0 ≤ t ∧ t < 7 * r0 + 7 * n ∧ i < 3 ∧ C t ∧ rdk τ A ρ B 6 t i b) (7 * r0 - 448) (7 * n + 448) + ctq (fun b => NAb L s0 τ A ρ B b ∧ ∃ t i, 7 * r0 ≤ t ∧ t < 7 * r0 + 7 * n ∧ i < 3 ∧ C t ∧ rdk τ A ρ B 5 t i b) (7 * r0 - 448) (7 * n + 448))
      + 2 * (ctq (fun b => NAb L s0 τ A ρ B b ∧ ∃ t i, 7 * r0 ≤ t ∧ t < 7 * r0 + 7 * n ∧ i < 3 ∧ D t ∧ rdk τ A ρ B 6 t i b) (7 * r0 - 448) (7 * n + 448) + ctq (fun b => NAb L s0 τ A ρ B b ∧ ∃ t i, 7 * r0 ≤ t ∧ t < 7 * r0 + 7 * n ∧ i < 3 ∧ D t ∧ rdk τ A ρ B 5 t i b) (7 * r0 - 448) (7 * n + 448))
      + 2 * ctq (fun b => PNk L s0 τ A ρ B b ∧ ∃ t i, 7 * r0 ≤ t ∧ t < 7 * r0 + 7 * n ∧ i < 3 ∧ D t ∧ rdk τ A ρ B 5 t i b) (7 * r0 - 448) (7 * n + 448) + 5468 := by
  have a := RDG hR h h7 (D := C) h1 (by omega) hC
  have b := DEADK hR hs h h7 (D := D) h1 (by omega) (fun t t1 t2 q => ⟨(hD t t1 t2 q).1.1, T1f h.1 (by omega) (by omega) (hD t t1 t2 q).1, (hD t t1 t2 q).2⟩)
  have c := T4x hR h h7 h1 (by omega : 7 * r0 + 7 * n ≤ 7 * L) C
  have d := T4x hR h h7 h1 (by omega : 7 * r0 + 7 * n ≤ 7 * L) D
  have e := T3 h (n := 7 * n) h1
  have f := gq_sum τ (7 * r0) (7 * n)
  have g := LEDX τ (r0 := r0) n
  have m := ctq_mo (P := fun b => ¬ NAb L s0 τ A ρ B b ∧ ∃ t i, 7 * r0 ≤ t ∧ t < 7 * r0 + 7 * n ∧ i < 3 ∧ C t ∧ rdk τ A ρ B 5 t i b) (Q := fun b => ¬ NAb L s0 τ A ρ B b) (s := 7 * r0 - 448) (7 * n + 448) (fun b _ _ q => q.1)
  have o := OWCt hR h h7 (D := D) h1 (by omega : 7 * r0 + 7 * n ≤ 7 * L) (fun t t1 t2 q => (hD t t1 t2 q).1)
  have sl := SLT hR (s := 7 * r0) (k := 7 * n) (by omega) (by omega)
  have sp := ctq_or (P := fun b => (OWb L s0 τ A ρ B b ∨ PNk L s0 τ A ρ B b) ∧ ∃ t i, 7 * r0 ≤ t ∧ t < 7 * r0 + 7 * n ∧ i < 3 ∧ D t ∧ rdk τ A ρ B 5 t i b) (Q := fun b => OWb L s0 τ A ρ B b ∧ ∃ t i, 7 * r0 ≤ t ∧ t < 7 * r0 + 7 * n ∧ i < 3 ∧ D t ∧ rdk τ A ρ B 5 t i b) (R := fun b => PNk L s0 τ A ρ B b ∧ ∃ t i, 7 * r0 ≤ t ∧ t < 7 * r0 + 7 * n ∧ i < 3 ∧ D t ∧ rdk τ A ρ B 5 t i b) (s := 7 * r0 - 448) (7 * n + 448) (fun b _ _ q => by
    rcases q.1 with p | p
    · exact Or.inl ⟨p, q.2⟩
    · exact Or.inr ⟨p, q.2⟩)
  omega

theorem STK13 {L s0 : Nat} {τ : Nat → qS} (hR : RNN L τ) (hs : ∀ t, t ≤ 7 * L → psame (τ 0) (τ t)) {A : Nat → List (Ms × Nat × Nat)} {ρ : Nat → qS × qS × qS} {B : Nat → List (Ms × Nat × Nat) × List (Ms × Nat × Nat) × List (Ms × Nat × Nat)} (h : ANC L s0 τ A ρ B) (h7 : 224 ≤ s0) {C D : Nat → Prop} {r0 n : Nat} (h1 : s0 + 900 ≤ 7 * r0) (h2 : r0 + n ≤ L) (hC : ∀ t, 7 * r0 ≤ t → t < 7 * r0 + 7 * n → C t → t % 7 < 6 ∧ 3 ≤ cn ((t % 7 : Nat) : Int) (ln (τ t))) (hD : ∀ t, 7 * r0 ≤ t → t < 7 * r0 + 7 * n → D t → T1t A t ∧ ¬ FRk L s0 τ A B t) (X : Nat → Prop) :
    2 * ctq C (7 * r0) (7 * n) + 4 * ctq D (7 * r0) (7 * n) + ctq (fun t => (C t ∧ ¬ ∃ b, ACC τ A ρ B t b) ∧ ¬ gdq τ ρ t = 1) (7 * r0) (7 * n) + 2 * ctq (fun t => (D t ∧ ¬ ∃ b, ACC τ A ρ B t b) ∧ ¬ gdq τ ρ t = 1) (7 * r0) (7 * n) + 7 * smq (gtq τ) (7 * r0) (7 * n) + 3 * ctq (AXk τ A ρ B) (7 * r0) (7 * n) + 3 * smq (jkq τ ρ) (7 * r0) (7 * n) + 6 * ctq (GAt τ) (7 * r0) (7 * n) + 6 * smq (msq τ) (7 * r0) (7 * n) + 6 * ctq (fun b => (gq τ (b - 1) = 1 ∧ NAb L s0 τ A ρ B b) ∧ X b) (7 * r0 - 448) (7 * n + 448)
    ≤ 6 * n + 3 * smq (gsq τ) (7 * r0) (7 * n) + 4 * ctq (DNt τ ρ) (7 * r0) (7 * n) + 6 * smq (jsq τ ρ) (7 * r0) (7 * n) + 2 * ctq (fun u => gtq τ u = 1 ∧ OWb L s0 τ A ρ B (u - 90)) (7 * r0) (7 * n) + 2 * ctq (fun b => PNk L s0 τ A ρ B b ∧ ∃ t i, 7 * r0 ≤ t ∧ t < 7 * r0 + 7 * n ∧ i < 3 ∧ D t ∧ rdk τ A ρ B 5 t i b) (7 * r0 - 448) (7 * n + 448)
      + (ctq (fun b => (NAb L s0 τ A ρ B b ∧ X b) ∧ ∃ t i, 7 * r0 ≤ t ∧ t < 7 * r0 + 7 * n ∧ i < 3 ∧ C t ∧ rdk τ A ρ B 6 t i b) (7 * r0 - 448) (7 * n + 448) + ctq (fun b => (NAb L s0 τ A ρ B b ∧ X b) ∧ ∃ t i, 7 * r0 ≤ t ∧ t < 7 * r0 + 7 * n ∧ i < 3 ∧ C t ∧ rdk τ A ρ B 5 t i b) (7 * r0 - 448) (7 * n + 448)) + 2 * (ctq (fun b => (NAb L s0 τ A ρ B b ∧ X b) ∧ ∃ t i, 7 * r0 ≤ t ∧ t < 7 * r0 + 7 * n ∧ i < 3 ∧ D t ∧ rdk τ A ρ B 6 t i b) (7 * r0 - 448) (7 * n + 448) + ctq (fun b => (NAb L s0 τ A ρ B b ∧ X b) ∧ ∃ t i, 7 * r0 ≤ t ∧ t < 7 * r0 + 7 * n ∧ i < 3 ∧ D t ∧ rdk τ A ρ B 5 t i b) (7 * r0 - 448) (7 * n + 448)) + 22000 := by
  have x := STARK hR hs h h7 (C := C) (D := D) (r0 := r0) (n := n) h1 h2 hC hD
  have c3 := ctq_add (P := C) (Q := fun t => ∃ b, ACC τ A ρ B t b) (s := 7 * r0) (7 * n)
  have c3' := ctq_2 (P := fun t => C t ∧ ∃ b, ACC τ A ρ B t b) (Q := fun t => C t ∧ ¬ ∃ b, ACC τ A ρ B t b) (R := C) (s := 7 * r0) (7 * n) (fun t _ _ => ⟨fun q => q.1, fun q => q.1, fun q => q.2.2 q.1.2⟩)
  have d3' := ctq_2 (P := fun t => D t ∧ ∃ b, ACC τ A ρ B t b) (Q := fun t => D t ∧ ¬ ∃ b, ACC τ A ρ B t b) (R := D) (s := 7 * r0) (7 * n) (fun t _ _ => ⟨fun q => q.1, fun q => q.1, fun q => q.2.2 q.1.2⟩)
  have gc := GCy hR h (s := 7 * r0) (k := 7 * n) (by omega) (by omega) C
  have gd := GCy hR h (s := 7 * r0) (k := 7 * n) (by omega) (by omega) D
  have ix := IDX4 hR h (s := 7 * r0) (k := 7 * n) (by omega) (by omega) (by omega)
  have zc := ctq_2 (P := fun t => (C t ∧ ¬ ∃ b, ACC τ A ρ B t b) ∧ gdq τ ρ t = 1) (Q := fun t => (C t ∧ ¬ ∃ b, ACC τ A ρ B t b) ∧ ¬ gdq τ ρ t = 1) (R := fun t => C t ∧ ¬ ∃ b, ACC τ A ρ B t b) (s := 7 * r0) (7 * n) (fun t _ _ => ⟨fun q => q.1, fun q => q.1, fun q => q.2.2 q.1.2⟩)
  have zd := ctq_2 (P := fun t => (D t ∧ ¬ ∃ b, ACC τ A ρ B t b) ∧ gdq τ ρ t = 1) (Q := fun t => (D t ∧ ¬ ∃ b, ACC τ A ρ B t b) ∧ ¬ gdq τ ρ t = 1) (R := fun t => D t ∧ ¬ ∃ b, ACC τ A ρ B t b) (s := 7 * r0) (7 * n) (fun t _ _ => ⟨fun q => q.1, fun q => q.1, fun q => q.2.2 q.1.2⟩)
  have ax := ctq_2 (P := AXs τ A ρ B) (Q := AXk τ A ρ B) (R := AXt τ A ρ B) (s := 7 * r0) (7 * n) (fun t _ _ => ⟨fun q => q.1, fun q => q.1, fun q => q.2.2 q.1.2⟩)
  have e := T3 h (n := 7 * n) h1
  have f := gq_sum τ (7 * r0) (7 * n)
  have d := T4x hR h h7 h1 (by omega : 7 * r0 + 7 * n ≤ 7 * L) (fun _ => False)
  have z0 : ctq (fun t => False ∧ ∃ b, ACC τ A ρ B t b) (7 * r0) (7 * n) = 0 := ctq_off _ (fun t _ _ q => q.1)
  have dj := ctq_2 (P := fun b => (gq τ (b - 1) = 1 ∧ NAb L s0 τ A ρ B b) ∧ X b) (Q := fun b => (gq τ (b - 1) = 1 ∧ NAb L s0 τ A ρ B b) ∧ ¬ X b) (R := fun b => gq τ (b - 1) = 1 ∧ NAb L s0 τ A ρ B b) (s := 7 * r0 - 448) (7 * n + 448) (fun b _ _ => ⟨fun q => q.1, fun q => q.1, fun q => q.2.2 q.1.2⟩)
  have sp := ctq_add (P := fun b => gq τ (b - 1) = 1 ∧ NAb L s0 τ A ρ B b) (Q := X) (s := 7 * r0 - 448) (7 * n + 448)
  have mm : ∀ (P : Nat → Prop) (k : Int), (k = 5 ∨ k = 6) → ctq (fun b => NAb L s0 τ A ρ B b ∧ ∃ t i, 7 * r0 ≤ t ∧ t < 7 * r0 + 7 * n ∧ i < 3 ∧ P t ∧ rdk τ A ρ B k t i b) (7 * r0 - 448) (7 * n + 448) ≤ ctq (fun b => (NAb L s0 τ A ρ B b ∧ X b) ∧ ∃ t i, 7 * r0 ≤ t ∧ t < 7 * r0 + 7 * n ∧ i < 3 ∧ P t ∧ rdk τ A ρ B k t i b) (7 * r0 - 448) (7 * n + 448) + ctq (fun b => (gq τ (b - 1) = 1 ∧ NAb L s0 τ A ρ B b) ∧ ¬ X b) (7 * r0 - 448) (7 * n + 448) := fun P k hk => ctq_or _ (fun b b1 b2 q => by
    obtain ⟨na, t, i, t1, t2, hi, hp, hr⟩ := q
    by_cases c : X b
    · exact Or.inl ⟨⟨na, c⟩, t, i, t1, t2, hi, hp, hr⟩
    · exact Or.inr ⟨⟨rd_g h hk (by omega) (by omega) hi (by omega) hr, na⟩, c⟩)
  have m1 := mm C 5 (Or.inl rfl)
  have m2 := mm C 6 (Or.inr rfl)
  have m3 := mm D 5 (Or.inl rfl)
  have m4 := mm D 6 (Or.inr rfl)
  omega





theorem STK14 {L s0 : Nat} {τ : Nat → qS} (hR : RNN L τ) (hs : ∀ t, t ≤ 7 * L → psame (τ 0) (τ t)) {A : Nat → List (Ms × Nat × Nat)} {ρ : Nat → qS × qS × qS} {B : Nat → List (Ms × Nat × Nat) × List (Ms × Nat × Nat) × List (Ms × Nat × Nat)} (h : ANC L s0 τ A ρ B) (h7 : 224 ≤ s0) {C D : Nat → Prop} {r0 n : Nat} (h1 : s0 + 900 ≤ 7 * r0) (h2 : r0 + n ≤ L) (hC : ∀ t, 7 * r0 ≤ t → t < 7 * r0 + 7 * n → C t → t % 7 < 6 ∧ 3 ≤ cn ((t % 7 : Nat) : Int) (ln (τ t))) (hD : ∀ t, 7 * r0 ≤ t → t < 7 * r0 + 7 * n → D t → T1t A t ∧ ¬ FRk L s0 τ A B t) (X : Nat → Prop) :
    2 * ctq C (7 * r0) (7 * n) + 4 * ctq D (7 * r0) (7 * n) + ctq (fun t => (C t ∧ ¬ ∃ b, ACC τ A ρ B t b) ∧ ¬ gdq τ ρ t = 1) (7 * r0) (7 * n) + 2 * ctq (fun t => (D t ∧ ¬ ∃ b, ACC τ A ρ B t b) ∧ ¬ gdq τ ρ t = 1) (7 * r0) (7 * n) + 7 * smq (gtq τ) (7 * r0) (7 * n) + 3 * smq (jkq τ ρ) (7 * r0) (7 * n) + 6 * ctq (GAt τ) (7 * r0) (7 * n) + 6 * smq (msq τ) (7 * r0) (7 * n) + 6 * ctq (fun b => (gq τ (b - 1) = 1 ∧ NAb L s0 τ A ρ B b) ∧ X b) (7 * r0 - 448) (7 * n + 448)
    ≤ 6 * n + 3 * ctq (Kst τ A ρ B) (7 * r0) (7 * n) + 4 * ctq (DNt τ ρ) (7 * r0) (7 * n) + 6 * smq (jsq τ ρ) (7 * r0) (7 * n) + 2 * ctq (fun u => gtq τ u = 1 ∧ OWb L s0 τ A ρ B (u - 90)) (7 * r0) (7 * n) + 2 * ctq (fun b => PNk L s0 τ A ρ B b ∧ ∃ t i, 7 * r0 ≤ t ∧ t < 7 * r0 + 7 * n ∧ i < 3 ∧ D t ∧ rdk τ A ρ B 5 t i b) (7 * r0 - 448) (7 * n + 448)
      + (ctq (fun b => (NAb L s0 τ A ρ B b ∧ X b) ∧ ∃ t i, 7 * r0 ≤ t ∧ t < 7 * r0 + 7 * n ∧ i < 3 ∧ C t ∧ rdk τ A ρ B 6 t i b) (7 * r0 - 448) (7 * n + 448) + ctq (fun b => (NAb L s0 τ A ρ B b ∧ X b) ∧ ∃ t i, 7 * r0 ≤ t ∧ t < 7 * r0 + 7 * n ∧ i < 3 ∧ C t ∧ rdk τ A ρ B 5 t i b) (7 * r0 - 448) (7 * n + 448)) + 2 * (ctq (fun b => (NAb L s0 τ A ρ B b ∧ X b) ∧ ∃ t i, 7 * r0 ≤ t ∧ t < 7 * r0 + 7 * n ∧ i < 3 ∧ D t ∧ rdk τ A ρ B 6 t i b) (7 * r0 - 448) (7 * n + 448) + ctq (fun b => (NAb L s0 τ A ρ B b ∧ X b) ∧ ∃ t i, 7 * r0 ≤ t ∧ t < 7 * r0 + 7 * n ∧ i < 3 ∧ D t ∧ rdk τ A ρ B 5 t i b) (7 * r0 - 448) (7 * n + 448)) + 22100 := by
  have x := STK13 hR hs h h7 h1 h2 hC hD X
  have b := KLA hR (s := 7 * r0) (7 * n) (by omega)
  have c := KA_s (τ := τ) (A := A) (ρ := ρ) (B := B) (s := 7 * r0) (k := 7 * n)
  have e : rrs (τ (7 * r0 + 7 * n)) ≤ 6 := by
    unfold rrs
    have := rr_b (τ (7 * r0 + 7 * n)) 0
    have := rr_b (τ (7 * r0 + 7 * n)) 1
    have := rr_b (τ (7 * r0 + 7 * n)) 2
    have := rr_b (τ (7 * r0 + 7 * n)) 3
    have := rr_b (τ (7 * r0 + 7 * n)) 4
    have := rr_b (τ (7 * r0 + 7 * n)) 5
    omega
  omega





theorem SUMK {L s0 : Nat} {τ : Nat → qS} (hR : RNN L τ) (hs : ∀ t, t ≤ 7 * L → psame (τ 0) (τ t)) {A : Nat → List (Ms × Nat × Nat)} {ρ : Nat → qS × qS × qS} {B : Nat → List (Ms × Nat × Nat) × List (Ms × Nat × Nat) × List (Ms × Nat × Nat)} (h : ANC L s0 τ A ρ B) (h7 : 224 ≤ s0) {C D : Nat → Prop} {r0 n : Nat} (h1 : s0 + 3000 ≤ 7 * r0) (h2 : r0 + n + 300 ≤ L) (hn : 300 ≤ n) (hC : ∀ t, 7 * r0 ≤ t → t < 7 * r0 + 7 * n → C t → t % 7 < 6 ∧ 3 ≤ cn ((t % 7 : Nat) : Int) (ln (τ t))) (hD : ∀ t, 7 * r0 ≤ t → t < 7 * r0 + 7 * n → D t → T1t A t ∧ ¬ FRk L s0 τ A B t) :
    2 * ctq C (7 * r0) (7 * n) + 4 * ctq D (7 * r0) (7 * n) + ctq (fun t => (C t ∧ ¬ ∃ b, ACC τ A ρ B t b) ∧ ¬ gdq τ ρ t = 1) (7 * r0) (7 * n) + 2 * ctq (fun t => (D t ∧ ¬ ∃ b, ACC τ A ρ B t b) ∧ ¬ gdq τ ρ t = 1) (7 * r0) (7 * n) + 147 * ctq (LKt τ) (7 * r0) (7 * n) + 3 * smq (jkq τ ρ) (7 * r0) (7 * n) + 3 * ctq (GAt τ) (7 * r0) (7 * n) + 6 * smq (msq τ) (7 * r0) (7 * n)
    ≤ 6 * n + 3 * ctq (Klt τ A ρ B) (7 * r0) (7 * n) + 4 * ctq (DNt τ ρ) (7 * r0) (7 * n) + 6 * smq (jsq τ ρ) (7 * r0) (7 * n) + 6 * ctq (fun b => XNz τ (7 * r0 + 7 * n - 1) 12 b ∧ OWb L s0 τ A ρ B b) (7 * r0) (7 * n) + 6 * ctq (SLx τ A ρ B) (7 * r0) (7 * n + 448) + 2 * ctq (fun b => PNk L s0 τ A ρ B b ∧ ∃ t i, 7 * r0 ≤ t ∧ t < 7 * r0 + 7 * n ∧ i < 3 ∧ D t ∧ rdk τ A ρ B 5 t i b) (7 * r0 - 448) (7 * n + 448)
      + (ctq (fun b => (NAb L s0 τ A ρ B b ∧ XNz τ (7 * r0 + 7 * n - 1) 12 b) ∧ ∃ t i, 7 * r0 ≤ t ∧ t < 7 * r0 + 7 * n ∧ i < 3 ∧ C t ∧ rdk τ A ρ B 6 t i b) (7 * r0 - 448) (7 * n + 448) + ctq (fun b => (NAb L s0 τ A ρ B b ∧ XNz τ (7 * r0 + 7 * n - 1) 12 b) ∧ ∃ t i, 7 * r0 ≤ t ∧ t < 7 * r0 + 7 * n ∧ i < 3 ∧ C t ∧ rdk τ A ρ B 5 t i b) (7 * r0 - 448) (7 * n + 448)) + 2 * (ctq (fun b => (NAb L s0 τ A ρ B b ∧ XNz τ (7 * r0 + 7 * n - 1) 12 b) ∧ ∃ t i, 7 * r0 ≤ t ∧ t < 7 * r0 + 7 * n ∧ i < 3 ∧ D t ∧ rdk τ A ρ B 6 t i b) (7 * r0 - 448) (7 * n + 448) + ctq (fun b => (NAb L s0 τ A ρ B b ∧ XNz τ (7 * r0 + 7 * n - 1) 12 b) ∧ ∃ t i, 7 * r0 ≤ t ∧ t < 7 * r0 + 7 * n ∧ i < 3 ∧ D t ∧ rdk τ A ρ B 5 t i b) (7 * r0 - 448) (7 * n + 448)) + 400100 := by
  obtain ⟨k, hk⟩ : ∃ k, k + 1002 = 7 * n := ⟨7 * n - 1002, by omega⟩
  obtain ⟨s, es⟩ : ∃ s, s = 7 * r0 := ⟨_, rfl⟩
  obtain ⟨E, hE⟩ : ∃ E, E = s + 1001 + k := ⟨_, rfl⟩
  have eE : 7 * r0 + 7 * n - 1 = E := by omega
  rw [eE]
  have x := STK14 hR hs h h7 (r0 := r0) (n := n) (by omega) (by omega) hC hD (XNz τ E 12)
  have nx := NXA hR h h7 (s := s) (k := k) (by omega) (by omega)
  have to := TO11 hR (s := s) (k := k) (by omega) (by omega)
  have tow := TOo2 hR h h7 (s := s) (k := k) (by omega) (by omega)
  rw [← hE, hk, show k + 1450 = 7 * n + 448 by omega] at nx
  have tl := ctq_tail (P := fun u => gtq τ u = 1 ∧ OWb L s0 τ A ρ B (u - 90)) (s := s) (n := k + 1001) 1
  rw [show k + 1001 + 1 = 7 * n by omega] at tl
  have tg : smq (gtq τ) s (k + 1001) ≤ smq (gtq τ) s (7 * n) := by
    obtain ⟨m, hm⟩ : ∃ m, m = k + 1001 := ⟨_, rfl⟩
    rw [← hm, show 7 * n = m + 1 by omega]
    exact smq_s1 _ _ _
  have j3 := ctq_jn (P := LKt τ) (s := s) 1001 (k + 1)
  rw [show 1001 + (k + 1) = 7 * n by omega] at j3
  have j4 := ctq_le (P := LKt τ) (s := s) 1001
  have j5 := ctq_tail (P := LKt τ) (s := s + 1001) (n := k) 1
  have ex := ctq_ext (P := fun b => (gq τ (b - 1) = 1 ∧ NAb L s0 τ A ρ B b) ∧ XNz τ E 12 b) (s := s) (n := 7 * n) 448 (by omega)
  have kl := Kst_l hR h (s := s) (k := 7 * n) (by omega)
  rw [← es] at x ⊢
  omega

-- SUML: SUMH for all jobs, where a start after a TRAP opens no window
theorem SUML {L s0 : Nat} {τ : Nat → qS} (hR : RNN L τ) (hs : ∀ t, t ≤ 7 * L → psame (τ 0) (τ t)) {A : Nat → List (Ms × Nat × Nat)} {ρ : Nat → qS × qS × qS} {B : Nat → List (Ms × Nat × Nat) × List (Ms × Nat × Nat) × List (Ms × Nat × Nat)} (h : ANC L s0 τ A ρ B) (h7 : 224 ≤ s0) {ch : Nat → Nat} {r0 n : Nat} (h1 : s0 + 3000 ≤ 7 * r0) (h2 : r0 + n + 300 ≤ L) (hn : 300 ≤ n) (hc : ∀ r, ch r < 6) (ht : ∀ r, (∃ v, v < 6 ∧ T1t A (7 * r + v)) → T1t A (7 * r + ch r)) :
    ctq (fun t => ((CHc ch t ∧ T1t A t) ∧ ¬ ∃ b, ACC τ A ρ B t b) ∧ ¬ gdq τ ρ t = 1) (7 * r0) (7 * n) + 2 * ctq (fun t => ((CHk L s0 τ A B ch t ∧ T1t A t) ∧ ¬ ∃ b, ACC τ A ρ B t b) ∧ ¬ gdq τ ρ t = 1) (7 * r0) (7 * n) + 147 * ctq (LKt τ) (7 * r0) (7 * n) + 3 * smq (jkq τ ρ) (7 * r0) (7 * n) + 3 * ctq (GAt τ) (7 * r0) (7 * n) + 6 * smq (msq τ) (7 * r0) (7 * n)
    ≤ 4 * ctq (NDk L s0 τ A B) r0 n + 6 * ctq (fun r => ¬ ∃ v, v < 6 ∧ T1t A (7 * r + v)) r0 n + 3 * ctq (Klt τ A ρ B) (7 * r0) (7 * n) + 4 * ctq (DNt τ ρ) (7 * r0) (7 * n) + 6 * smq (jsq τ ρ) (7 * r0) (7 * n) + 6 * ctq (fun b => XNz τ (7 * r0 + 7 * n - 1) 12 b ∧ OWb L s0 τ A ρ B b) (7 * r0) (7 * n) + 6 * ctq (SLx τ A ρ B) (7 * r0) (7 * n + 448) + 2 * ctq (fun b => PNk L s0 τ A ρ B b ∧ ∃ t i, 7 * r0 ≤ t ∧ t < 7 * r0 + 7 * n ∧ i < 3 ∧ (CHk L s0 τ A B ch t ∧ T1t A t) ∧ rdk τ A ρ B 5 t i b) (7 * r0 - 448) (7 * n + 448)
      + (ctq (fun b => (NAb L s0 τ A ρ B b ∧ XNz τ (7 * r0 + 7 * n - 1) 12 b) ∧ ∃ t i, 7 * r0 ≤ t ∧ t < 7 * r0 + 7 * n ∧ i < 3 ∧ (CHc ch t ∧ T1t A t) ∧ rdk τ A ρ B 6 t i b) (7 * r0 - 448) (7 * n + 448) + ctq (fun b => (NAb L s0 τ A ρ B b ∧ XNz τ (7 * r0 + 7 * n - 1) 12 b) ∧ ∃ t i, 7 * r0 ≤ t ∧ t < 7 * r0 + 7 * n ∧ i < 3 ∧ (CHc ch t ∧ T1t A t) ∧ rdk τ A ρ B 5 t i b) (7 * r0 - 448) (7 * n + 448)) + 2 * (ctq (fun b => (NAb L s0 τ A ρ B b ∧ XNz τ (7 * r0 + 7 * n - 1) 12 b) ∧ ∃ t i, 7 * r0 ≤ t ∧ t < 7 * r0 + 7 * n ∧ i < 3 ∧ (CHk L s0 τ A B ch t ∧ T1t A t) ∧ rdk τ A ρ B 6 t i b) (7 * r0 - 448) (7 * n + 448) + ctq (fun b => (NAb L s0 τ A ρ B b ∧ XNz τ (7 * r0 + 7 * n - 1) 12 b) ∧ ∃ t i, 7 * r0 ≤ t ∧ t < 7 * r0 + 7 * n ∧ i < 3 ∧ (CHk L s0 τ A B ch t ∧ T1t A t) ∧ rdk τ A ρ B 5 t i b) (7 * r0 - 448) (7 * n + 448)) + 400100 := by
  have x := SUMK hR hs h h7 (C := fun t => CHc ch t ∧ T1t A t) (D := fun t => CHk L s0 τ A B ch t ∧ T1t A t) (r0 := r0) (n := n) h1 h2 hn (fun t t1 t2 q => ⟨q.2.1, T1f h.1 (by omega) (by omega) q.2⟩) (fun t t1 t2 q => ⟨q.2, fun f => q.1.2 ⟨t, by omega, by have := q.2.1; omega, f⟩⟩)
  have c1 := CH_n hc (P := fun r => ∃ v, v < 6 ∧ T1t A (7 * r + v)) (r0 := r0) (n := n)
  have c2 := ctq_mo (P := fun t => CHc ch t ∧ ∃ v, v < 6 ∧ T1t A (7 * (t / 7) + v)) (Q := fun t => CHc ch t ∧ T1t A t) (s := 7 * r0) (7 * n) (fun t t1 t2 q => ⟨q.1, by
    have := ht (t / 7) q.2
    rw [← q.1] at this
    exact this⟩)
  have c3 := ctq_add (P := fun _ => True) (Q := fun r => ∃ v, v < 6 ∧ T1t A (7 * r + v)) (s := r0) n
  rw [ctq_all n (fun _ _ _ => trivial)] at c3
  have c4 := ctq_mo (P := fun r => True ∧ ∃ v, v < 6 ∧ T1t A (7 * r + v)) (Q := fun r => ∃ v, v < 6 ∧ T1t A (7 * r + v)) (s := r0) n (fun _ _ _ q => q.2)
  have c5 := ctq_mo (P := fun r => True ∧ ¬ ∃ v, v < 6 ∧ T1t A (7 * r + v)) (Q := fun r => ¬ ∃ v, v < 6 ∧ T1t A (7 * r + v)) (s := r0) n (fun _ _ _ q => q.2)
  have d1 := CH_n hc (P := fun r => ¬ NDk L s0 τ A B r ∧ ∃ v, v < 6 ∧ T1t A (7 * r + v)) (r0 := r0) (n := n)
  have d2 := ctq_mo (P := fun t => CHc ch t ∧ (¬ NDk L s0 τ A B (t / 7) ∧ ∃ v, v < 6 ∧ T1t A (7 * (t / 7) + v))) (Q := fun t => CHk L s0 τ A B ch t ∧ T1t A t) (s := 7 * r0) (7 * n) (fun t t1 t2 q => ⟨⟨q.1, q.2.1⟩, by
    have := ht (t / 7) q.2.2
    rw [← q.1] at this
    exact this⟩)
  have d3 := ctq_or (P := fun r => ∃ v, v < 6 ∧ T1t A (7 * r + v)) (Q := fun r => ¬ NDk L s0 τ A B r ∧ ∃ v, v < 6 ∧ T1t A (7 * r + v)) (R := NDk L s0 τ A B) (s := r0) n (fun r _ _ q => by
    by_cases c : NDk L s0 τ A B r
    · exact Or.inr c
    · exact Or.inl ⟨c, q⟩)
  omega

