-- time-outs that follow an own token: in LACKS waits only those of own names
theorem TOo3 {L s0 : Nat} {τ : Nat → qS} (hR : RNN L τ) {A : Nat → List (Ms × Nat × Nat)} {ρ : Nat → qS × qS × qS} {B : Nat → List (Ms × Nat × Nat) × List (Ms × Nat × Nat) × List (Ms × Nat × Nat)} (h : ANC L s0 τ A ρ B) {s k : Nat} (h1 : 7 * 290 ≤ s) (h2 : s + 1001 + k ≤ 7 * L) : ctq (fun u => gtq τ u = 1 ∧ OWb L s0 τ A ρ B (u - 90)) s (k + 1001) + 11 * ctq (LKt τ) (s + 1001) k ≤ smq (gtq τ) s (k + 1001) + ctq (fun b => XNz τ (s + 1001 + k) 12 b ∧ OWb L s0 τ A ρ B b) s (k + 1002) + 90 := by
  obtain ⟨E, hE⟩ : ∃ E, E = s + 1001 + k := ⟨_, rfl⟩
  have a := XTc hR (s := s) (k := k) (by omega) h2 11 (Nat.le_refl _)
  rw [← hE] at a ⊢
  have sp := ctq_add (P := fun u => gtq τ u = 1 ∧ OWb L s0 τ A ρ B (u - 90)) (Q := XTm τ E 11) (s := s) (k + 1001)
  have dj := ctq_2 (P := fun u => (gtq τ u = 1 ∧ OWb L s0 τ A ρ B (u - 90)) ∧ ¬ XTm τ E 11 u) (Q := XTm τ E 11) (R := fun u => gtq τ u = 1) (s := s) (k + 1001) (fun u u1 u2 => ⟨fun q => q.1.1, fun ⟨j, j1, j2, j3⟩ => by
    have := XT1 hR (t := u + 91 * j) (j := j) (by omega) (by omega) j2 (by omega)
    rw [show u + 91 * j - 91 * j = u by omega] at this
    exact this, fun q => q.1.2 q.2⟩)
  have b := ctq_sm' (P := fun u => gtq τ u = 1) (f := gtq τ) (s := s) (k + 1001) (fun t _ _ e => by omega)
  obtain ⟨m, hm⟩ : ∃ m, m = k + 1001 := ⟨_, rfl⟩
  have i := ctq_inj (P := fun u => (gtq τ u = 1 ∧ OWb L s0 τ A ρ B (u - 90)) ∧ XTm τ E 11 u) (f := fun u => u - 90) (s := s) (a := s - 90) (m := m) m (fun b => XNz τ E 12 b ∧ OWb L s0 τ A ρ B b) (fun u u1 u2 q => by
    obtain ⟨j, j1, j2, j3⟩ := q.2
    refine ⟨by omega, by omega, ⟨j + 1, by omega, ?_, by omega⟩, q.1.2⟩
    rw [show u - 90 + 91 * (j + 1) - 1 = u + 91 * j by omega]
    exact j2) (fun u u' u1 u2 u1' u2' _ _ e => by
    have e' : u - 90 = u' - 90 := e
    omega)
  have j1 := ctq_jn (P := fun b => XNz τ E 12 b ∧ OWb L s0 τ A ρ B b) (s := s - 90) 90 (m + 1)
  rw [show s - 90 + 90 = s by omega] at j1
  have j2 := ctq_le (P := fun b => XNz τ E 12 b ∧ OWb L s0 τ A ρ B b) (s := s - 90) 90
  have j3 := ctq_sub (P := fun b => XNz τ E 12 b ∧ OWb L s0 τ A ρ B b) (s := s - 90) (show m ≤ 90 + (m + 1) by omega)
  rw [show k + 1002 = m + 1 by omega]
  rw [← hm] at a sp dj b ⊢
  omega

theorem SUMXk {L s0 : Nat} {τ : Nat → qS} (hR : RNN L τ) (hs : ∀ t, t ≤ 7 * L → psame (τ 0) (τ t)) {A : Nat → List (Ms × Nat × Nat)} {ρ : Nat → qS × qS × qS} {B : Nat → List (Ms × Nat × Nat) × List (Ms × Nat × Nat) × List (Ms × Nat × Nat)} (h : ANC L s0 τ A ρ B) (h7 : 224 ≤ s0) {C D : Nat → Prop} {r0 n : Nat} (h1 : s0 + 3000 ≤ 7 * r0) (h2 : r0 + n + 300 ≤ L) (hn : 300 ≤ n) (hC : ∀ t, 7 * r0 ≤ t → t < 7 * r0 + 7 * n → C t → t % 7 < 6 ∧ 3 ≤ cn ((t % 7 : Nat) : Int) (ln (τ t))) (hD : ∀ t, 7 * r0 ≤ t → t < 7 * r0 + 7 * n → D t → T1t A t ∧ ¬ FRk L s0 τ A B t) :
    2 * ctq C (7 * r0) (7 * n) + 4 * ctq D (7 * r0) (7 * n) + ctq (fun t => (C t ∧ ¬ ∃ b, ACC τ A ρ B t b) ∧ ¬ gdq τ ρ t = 1) (7 * r0) (7 * n) + 2 * ctq (fun t => (D t ∧ ¬ ∃ b, ACC τ A ρ B t b) ∧ ¬ gdq τ ρ t = 1) (7 * r0) (7 * n) + 149 * ctq (LKt τ) (7 * r0) (7 * n) + 3 * smq (jkq τ ρ) (7 * r0) (7 * n) + 2 * ctq (DNt τ ρ) (7 * r0) (7 * n) + 6 * smq (rvq τ ρ) (7 * r0) (7 * n)
    ≤ 6 * n + 3 * ctq (Kst τ A ρ B) (7 * r0) (7 * n) + 8 * ctq (fun b => XNz τ (7 * r0 + 7 * n - 1) 12 b ∧ OWb L s0 τ A ρ B b) (7 * r0) (7 * n) + 6 * ctq (SLx τ A ρ B) (7 * r0) (7 * n + 448) + 2 * ctq (fun b => PNk L s0 τ A ρ B b ∧ ∃ t i, 7 * r0 ≤ t ∧ t < 7 * r0 + 7 * n ∧ i < 3 ∧ D t ∧ rdk τ A ρ B 5 t i b) (7 * r0 - 448) (7 * n + 448)
      + (ctq (fun b => (NAb L s0 τ A ρ B b ∧ XNz τ (7 * r0 + 7 * n - 1) 12 b) ∧ ∃ t i, 7 * r0 ≤ t ∧ t < 7 * r0 + 7 * n ∧ i < 3 ∧ C t ∧ rdk τ A ρ B 6 t i b) (7 * r0 - 448) (7 * n + 448) + ctq (fun b => (NAb L s0 τ A ρ B b ∧ XNz τ (7 * r0 + 7 * n - 1) 12 b) ∧ ∃ t i, 7 * r0 ≤ t ∧ t < 7 * r0 + 7 * n ∧ i < 3 ∧ C t ∧ rdk τ A ρ B 5 t i b) (7 * r0 - 448) (7 * n + 448)) + 2 * (ctq (fun b => (NAb L s0 τ A ρ B b ∧ XNz τ (7 * r0 + 7 * n - 1) 12 b) ∧ ∃ t i, 7 * r0 ≤ t ∧ t < 7 * r0 + 7 * n ∧ i < 3 ∧ D t ∧ rdk τ A ρ B 6 t i b) (7 * r0 - 448) (7 * n + 448) + ctq (fun b => (NAb L s0 τ A ρ B b ∧ XNz τ (7 * r0 + 7 * n - 1) 12 b) ∧ ∃ t i, 7 * r0 ≤ t ∧ t < 7 * r0 + 7 * n ∧ i < 3 ∧ D t ∧ rdk τ A ρ B 5 t i b) (7 * r0 - 448) (7 * n + 448)) + 400100 := by
  obtain ⟨k, hk⟩ : ∃ k, k + 1002 = 7 * n := ⟨7 * n - 1002, by omega⟩
  obtain ⟨s, es⟩ : ∃ s, s = 7 * r0 := ⟨_, rfl⟩
  obtain ⟨E, hE⟩ : ∃ E, E = s + 1001 + k := ⟨_, rfl⟩
  have eE : 7 * r0 + 7 * n - 1 = E := by omega
  rw [eE]
  have x := STR14 hR hs h h7 (r0 := r0) (n := n) (by omega) (by omega) hC hD (XNz τ E 12)
  have nx := NXA hR h h7 (s := s) (k := k) (by omega) (by omega)
  have to := TO11 hR (s := s) (k := k) (by omega) (by omega)
  have tow := TOo3 hR h (s := s) (k := k) (by omega) (by omega)
  rw [← hE, hk] at tow
  rw [← hE, hk, show k + 1450 = 7 * n + 448 by omega] at nx
  have tl := ctq_tail (P := fun u => gtq τ u = 1 ∧ OWb L s0 τ A ρ B (u - 90)) (s := s) (n := k + 1001) 1
  rw [show k + 1001 + 1 = 7 * n by omega] at tl
  have tg : smq (gtq τ) s (k + 1001) ≤ smq (gtq τ) s (7 * n) := by
    obtain ⟨m, hm⟩ : ∃ m, m = k + 1001 := ⟨_, rfl⟩
    rw [← hm, show 7 * n = m + 1 by omega]
    exact smq_s1 _ _ _
  have j3 := ctq_jn (P := LKt τ) (s := s) 1001 (k + 1)
  rw [show 1001 + (k + 1) = 7 * n by omega] at j3
  have j4 := ctq_le (P := LKt τ) (s := s) 1001
  have j5 := ctq_tail (P := LKt τ) (s := s + 1001) (n := k) 1
  have ex := ctq_ext (P := fun b => (gq τ (b - 1) = 1 ∧ NAb L s0 τ A ρ B b) ∧ XNz τ E 12 b) (s := s) (n := 7 * n) 448 (by omega)
  rw [← es] at x ⊢
  omega



theorem SUMXl {L s0 : Nat} {τ : Nat → qS} (hR : RNN L τ) (hs : ∀ t, t ≤ 7 * L → psame (τ 0) (τ t)) {A : Nat → List (Ms × Nat × Nat)} {ρ : Nat → qS × qS × qS} {B : Nat → List (Ms × Nat × Nat) × List (Ms × Nat × Nat) × List (Ms × Nat × Nat)} (h : ANC L s0 τ A ρ B) (h7 : 224 ≤ s0) {ch : Nat → Nat} {r0 n : Nat} (h1 : s0 + 3000 ≤ 7 * r0) (h2 : r0 + n + 300 ≤ L) (hn : 300 ≤ n) (hc : ∀ r, ch r < 6) (ht : ∀ r, (∃ v, v < 6 ∧ T1t A (7 * r + v)) → T1t A (7 * r + ch r)) :
    ctq (fun t => ((CHc ch t ∧ T1t A t) ∧ ¬ ∃ b, ACC τ A ρ B t b) ∧ ¬ gdq τ ρ t = 1) (7 * r0) (7 * n) + 2 * ctq (fun t => ((CHk L s0 τ A B ch t ∧ T1t A t) ∧ ¬ ∃ b, ACC τ A ρ B t b) ∧ ¬ gdq τ ρ t = 1) (7 * r0) (7 * n) + 149 * ctq (LKt τ) (7 * r0) (7 * n) + 3 * smq (jkq τ ρ) (7 * r0) (7 * n) + 2 * ctq (DNt τ ρ) (7 * r0) (7 * n) + 6 * smq (rvq τ ρ) (7 * r0) (7 * n)
    ≤ 4 * ctq (NDk L s0 τ A B) r0 n + 6 * ctq (fun r => ¬ ∃ v, v < 6 ∧ T1t A (7 * r + v)) r0 n + 3 * ctq (Kst τ A ρ B) (7 * r0) (7 * n) + 8 * ctq (fun b => XNz τ (7 * r0 + 7 * n - 1) 12 b ∧ OWb L s0 τ A ρ B b) (7 * r0) (7 * n) + 6 * ctq (SLx τ A ρ B) (7 * r0) (7 * n + 448) + 2 * ctq (fun b => PNk L s0 τ A ρ B b ∧ ∃ t i, 7 * r0 ≤ t ∧ t < 7 * r0 + 7 * n ∧ i < 3 ∧ (CHk L s0 τ A B ch t ∧ T1t A t) ∧ rdk τ A ρ B 5 t i b) (7 * r0 - 448) (7 * n + 448)
      + (ctq (fun b => (NAb L s0 τ A ρ B b ∧ XNz τ (7 * r0 + 7 * n - 1) 12 b) ∧ ∃ t i, 7 * r0 ≤ t ∧ t < 7 * r0 + 7 * n ∧ i < 3 ∧ (CHc ch t ∧ T1t A t) ∧ rdk τ A ρ B 6 t i b) (7 * r0 - 448) (7 * n + 448) + ctq (fun b => (NAb L s0 τ A ρ B b ∧ XNz τ (7 * r0 + 7 * n - 1) 12 b) ∧ ∃ t i, 7 * r0 ≤ t ∧ t < 7 * r0 + 7 * n ∧ i < 3 ∧ (CHc ch t ∧ T1t A t) ∧ rdk τ A ρ B 5 t i b) (7 * r0 - 448) (7 * n + 448)) + 2 * (ctq (fun b => (NAb L s0 τ A ρ B b ∧ XNz τ (7 * r0 + 7 * n - 1) 12 b) ∧ ∃ t i, 7 * r0 ≤ t ∧ t < 7 * r0 + 7 * n ∧ i < 3 ∧ (CHk L s0 τ A B ch t ∧ T1t A t) ∧ rdk τ A ρ B 6 t i b) (7 * r0 - 448) (7 * n + 448) + ctq (fun b => (NAb L s0 τ A ρ B b ∧ XNz τ (7 * r0 + 7 * n - 1) 12 b) ∧ ∃ t i, 7 * r0 ≤ t ∧ t < 7 * r0 + 7 * n ∧ i < 3 ∧ (CHk L s0 τ A B ch t ∧ T1t A t) ∧ rdk τ A ρ B 5 t i b) (7 * r0 - 448) (7 * n + 448)) + 400100 := by
  have x := SUMXk hR hs h h7 (C := fun t => CHc ch t ∧ T1t A t) (D := fun t => CHk L s0 τ A B ch t ∧ T1t A t) (r0 := r0) (n := n) h1 h2 hn (fun t t1 t2 q => ⟨q.2.1, T1f h.1 (by omega) (by omega) q.2⟩) (fun t t1 t2 q => ⟨q.2, fun f => q.1.2 ⟨t, by omega, by have := q.2.1; omega, f⟩⟩)
  have c1 := CH_n hc (P := fun r => ∃ v, v < 6 ∧ T1t A (7 * r + v)) (r0 := r0) (n := n)
  have c2 := ctq_mo (P := fun t => CHc ch t ∧ ∃ v, v < 6 ∧ T1t A (7 * (t / 7) + v)) (Q := fun t => CHc ch t ∧ T1t A t) (s := 7 * r0) (7 * n) (fun t t1 t2 q => ⟨q.1, by
    have := ht (t / 7) q.2
    rw [← q.1] at this
    exact this⟩)
  have c3 := ctq_add (P := fun _ => True) (Q := fun r => ∃ v, v < 6 ∧ T1t A (7 * r + v)) (s := r0) n
  rw [ctq_all n (fun _ _ _ => trivial)] at c3
  have c4 := ctq_mo (P := fun r => True ∧ ∃ v, v < 6 ∧ T1t A (7 * r + v)) (Q := fun r => ∃ v, v < 6 ∧ T1t A (7 * r + v)) (s := r0) n (fun _ _ _ q => q.2)
  have c5 := ctq_mo (P := fun r => True ∧ ¬ ∃ v, v < 6 ∧ T1t A (7 * r + v)) (Q := fun r => ¬ ∃ v, v < 6 ∧ T1t A (7 * r + v)) (s := r0) n (fun _ _ _ q => q.2)
  have d1 := CH_n hc (P := fun r => ¬ NDk L s0 τ A B r ∧ ∃ v, v < 6 ∧ T1t A (7 * r + v)) (r0 := r0) (n := n)
  have d2 := ctq_mo (P := fun t => CHc ch t ∧ (¬ NDk L s0 τ A B (t / 7) ∧ ∃ v, v < 6 ∧ T1t A (7 * (t / 7) + v))) (Q := fun t => CHk L s0 τ A B ch t ∧ T1t A t) (s := 7 * r0) (7 * n) (fun t t1 t2 q => ⟨⟨q.1, q.2.1⟩, by
    have := ht (t / 7) q.2.2
    rw [← q.1] at this
    exact this⟩)
  have d3 := ctq_or (P := fun r => ∃ v, v < 6 ∧ T1t A (7 * r + v)) (Q := fun r => ¬ NDk L s0 τ A B r ∧ ∃ v, v < 6 ∧ T1t A (7 * r + v)) (R := NDk L s0 τ A B) (s := r0) n (fun r _ _ q => by
    by_cases c : NDk L s0 τ A B r
    · exact Or.inr c
    · exact Or.inl ⟨c, q⟩)
  omega


theorem SUMXt {L s0 : Nat} {τ : Nat → qS} (hR : RNN L τ) (hs : ∀ t, t ≤ 7 * L → psame (τ 0) (τ t)) {A : Nat → List (Ms × Nat × Nat)} {ρ : Nat → qS × qS × qS} {B : Nat → List (Ms × Nat × Nat) × List (Ms × Nat × Nat) × List (Ms × Nat × Nat)} (h : ANC L s0 τ A ρ B) (h7 : 224 ≤ s0) {ch : Nat → Nat} {r0 n : Nat} (h1 : s0 + 3000 ≤ 7 * r0) (h2 : r0 + n + 300 ≤ L) (hn : 300 ≤ n) (hc : ∀ r, ch r < 6) (ht : ∀ r, (∃ v, v < 6 ∧ T1t A (7 * r + v)) → T1t A (7 * r + ch r)) :
    ctq (fun t => ((CHc ch t ∧ T1t A t) ∧ ¬ ∃ b, ACC τ A ρ B t b) ∧ ¬ gdq τ ρ t = 1) (7 * r0) (7 * n) + 2 * ctq (fun t => ((CHk L s0 τ A B ch t ∧ T1t A t) ∧ ¬ ∃ b, ACC τ A ρ B t b) ∧ ¬ gdq τ ρ t = 1) (7 * r0) (7 * n) + 9 * ctq (LKt τ) (7 * r0) (7 * n) + 3 * ctq (WHt τ) (7 * r0) (7 * n) + 3 * smq (jkq τ ρ) (7 * r0) (7 * n) + 6 * smq (rvq τ ρ) (7 * r0) (7 * n)
    ≤ 6 * ctq (fun r => ¬ ∃ v, v < 6 ∧ T1t A (7 * r + v)) r0 n + 8 * ctq (fun b => XNz τ (7 * r0 + 7 * n - 1) 12 b ∧ OWb L s0 τ A ρ B b) (7 * r0) (7 * n) + 6 * ctq (SLx τ A ρ B) (7 * r0) (7 * n + 448) + 2 * ctq (fun b => PNk L s0 τ A ρ B b ∧ ∃ t i, 7 * r0 ≤ t ∧ t < 7 * r0 + 7 * n ∧ i < 3 ∧ (CHk L s0 τ A B ch t ∧ T1t A t) ∧ rdk τ A ρ B 5 t i b) (7 * r0 - 448) (7 * n + 448)
      + (ctq (fun b => (NAb L s0 τ A ρ B b ∧ XNz τ (7 * r0 + 7 * n - 1) 12 b) ∧ ∃ t i, 7 * r0 ≤ t ∧ t < 7 * r0 + 7 * n ∧ i < 3 ∧ (CHc ch t ∧ T1t A t) ∧ rdk τ A ρ B 6 t i b) (7 * r0 - 448) (7 * n + 448) + ctq (fun b => (NAb L s0 τ A ρ B b ∧ XNz τ (7 * r0 + 7 * n - 1) 12 b) ∧ ∃ t i, 7 * r0 ≤ t ∧ t < 7 * r0 + 7 * n ∧ i < 3 ∧ (CHc ch t ∧ T1t A t) ∧ rdk τ A ρ B 5 t i b) (7 * r0 - 448) (7 * n + 448)) + 2 * (ctq (fun b => (NAb L s0 τ A ρ B b ∧ XNz τ (7 * r0 + 7 * n - 1) 12 b) ∧ ∃ t i, 7 * r0 ≤ t ∧ t < 7 * r0 + 7 * n ∧ i < 3 ∧ (CHk L s0 τ A B ch t ∧ T1t A t) ∧ rdk τ A ρ B 6 t i b) (7 * r0 - 448) (7 * n + 448) + ctq (fun b => (NAb L s0 τ A ρ B b ∧ XNz τ (7 * r0 + 7 * n - 1) 12 b) ∧ ∃ t i, 7 * r0 ≤ t ∧ t < 7 * r0 + 7 * n ∧ i < 3 ∧ (CHk L s0 τ A B ch t ∧ T1t A t) ∧ rdk τ A ρ B 5 t i b) (7 * r0 - 448) (7 * n + 448)) + 700000 := by
  have x := SUMXl hR hs h h7 (ch := ch) (r0 := r0) (n := n) h1 h2 hn hc ht
  have w := KWH hR h hs (s := 7 * r0) (k := 7 * n) (by omega) (by omega) (by omega) (by omega)
  have wa := ctq_mo (P := NDk L s0 τ A B) (Q := fun r => ∃ d, 1 ≤ d ∧ d ≤ 31 ∧ (fun q => CEk τ A (7 * q + 6)) (r - d)) (s := r0) n (fun r r1 r2 ⟨φ, f1, f2, hf⟩ => by
    obtain ⟨c, c1, c2, c3⟩ := FRk_c h (by omega) hf
    have c6 := c1.1.1
    refine ⟨r - c / 7, by omega, by omega, ?_⟩
    show CEk τ A (7 * (r - (r - c / 7)) + 6)
    rw [show 7 * (r - (r - c / 7)) + 6 = c by omega]
    exact c1)
  have wb := ctq_win (P := fun q => CEk τ A (7 * q + 6)) (s := r0) (n := n) 31 (by omega)
  have wc := ctq_rt (P := CEk τ A) (r := r0 - 31) (n := n + 31)
  have wab : ctq (NDk L s0 τ A B) r0 n ≤ 31 * ctq (fun q => CEk τ A (7 * q + 6)) (r0 - 31) (n + 31) := Nat.le_trans wa wb
  generalize ctq (fun q => CEk τ A (7 * q + 6)) (r0 - 31) (n + 31) = g1 at wab wc
  have cs := CEBk hR h.1 (s := 7 * (r0 - 31)) (by omega) (by omega) (7 * (n + 31)) (by omega)
  have cs' : ctq (CEk τ A) (7 * (r0 - 31)) (7 * (n + 31)) ≤ ctq (H7t τ) (7 * (r0 - 31)) (7 * (n + 31)) + 1 := by
    rcases cs with d | ⟨d, -⟩
    · exact Nat.le_trans d (by omega)
    · exact d
  have dn := CE_DN hR h hs (s := 7 * (r0 - 31)) (k := 7 * (n + 31)) (by omega) (by omega) (by omega)
  have dj := ctq_jn (P := DNt τ ρ) (s := 7 * (r0 - 31)) 217 (7 * n)
  rw [show 7 * (r0 - 31) + 217 = 7 * r0 by omega, show 217 + 7 * n = 7 * (n + 31) by omega] at dj
  have dl := ctq_le (P := DNt τ ρ) (s := 7 * (r0 - 31)) 217
  have e := H7B hR (s := 7 * (r0 - 31)) (7 * (n + 31)) (by omega)
  rw [show 7 * (r0 - 31) + 7 * (n + 31) = 7 * r0 + 7 * n by omega] at e
  have f : c7 (τ (7 * (r0 - 31))) ≤ 95 := by
    have l := run_95 hR (by omega) (by omega : 7 ≤ 7 * (r0 - 31)) (by omega)
    have : c7 (τ (7 * (r0 - 31))) ≤ (ln (τ (7 * (r0 - 31)))).length := List.countP_le_length
    omega
  have hj := ctq_jn (P := H7t τ) (s := 7 * (r0 - 31)) 210 (7 * n + 7)
  rw [show 7 * (r0 - 31) + 210 = 7 * r0 - 7 by omega, show 210 + (7 * n + 7) = 7 * (n + 31) by omega] at hj
  have lk := lkc_c τ (7 * (r0 - 31)) (217 + 7 * n)
  rw [show 7 * (r0 - 31) + (217 + 7 * n) = 7 * r0 + 7 * n by omega] at lk
  have j1 := ctq_jn (P := LKt τ) (s := 7 * (r0 - 31)) 217 (7 * n)
  rw [show 7 * (r0 - 31) + 217 = 7 * r0 by omega] at j1
  have j2 := ctq_le (P := LKt τ) (s := 7 * (r0 - 31)) 217
  omega

theorem SUMXu {L s0 : Nat} {τ : Nat → qS} (hR : RNN L τ) (hs : ∀ t, t ≤ 7 * L → psame (τ 0) (τ t)) {A : Nat → List (Ms × Nat × Nat)} {ρ : Nat → qS × qS × qS} {B : Nat → List (Ms × Nat × Nat) × List (Ms × Nat × Nat) × List (Ms × Nat × Nat)} (h : ANC L s0 τ A ρ B) (h7 : 224 ≤ s0) {ch : Nat → Nat} {r0 n : Nat} (h1 : s0 + 3000 ≤ 7 * r0) (h2 : r0 + n + 300 ≤ L) (hn : 300 ≤ n) (hc : ∀ r, ch r < 6) (ht : ∀ r, (∃ v, v < 6 ∧ T1t A (7 * r + v)) → T1t A (7 * r + ch r)) :
    ctq (fun t => ((CHc ch t ∧ T1t A t) ∧ ¬ ∃ b, ACC τ A ρ B t b) ∧ ¬ gdq τ ρ t = 1) (7 * r0) (7 * n) + 2 * ctq (fun t => ((CHk L s0 τ A B ch t ∧ T1t A t) ∧ ¬ ∃ b, ACC τ A ρ B t b) ∧ ¬ gdq τ ρ t = 1) (7 * r0) (7 * n) + 3 * ctq (LKt τ) (7 * r0) (7 * n) + 3 * ctq (WHt τ) (7 * r0) (7 * n) + 3 * smq (jkq τ ρ) (7 * r0) (7 * n) + 6 * smq (rvq τ ρ) (7 * r0) (7 * n)
    ≤ 6 * ctq (fun r => ¬ ∃ v, v < 6 ∧ T1t A (7 * r + v)) r0 n + 8 * ctq (fun b => XNz τ (7 * r0 + 7 * n - 1) 12 b ∧ OWb L s0 τ A ρ B b) (7 * r0) (7 * n) + 6 * ctq (SL2 τ A ρ B) (7 * r0) (7 * n + 448) + 2 * ctq (fun b => PNk L s0 τ A ρ B b ∧ ∃ t i, 7 * r0 ≤ t ∧ t < 7 * r0 + 7 * n ∧ i < 3 ∧ (CHk L s0 τ A B ch t ∧ T1t A t) ∧ rdk τ A ρ B 5 t i b) (7 * r0 - 448) (7 * n + 448)
      + (ctq (fun b => (NAb L s0 τ A ρ B b ∧ XNz τ (7 * r0 + 7 * n - 1) 12 b) ∧ ∃ t i, 7 * r0 ≤ t ∧ t < 7 * r0 + 7 * n ∧ i < 3 ∧ (CHc ch t ∧ T1t A t) ∧ rdk τ A ρ B 6 t i b) (7 * r0 - 448) (7 * n + 448) + ctq (fun b => (NAb L s0 τ A ρ B b ∧ XNz τ (7 * r0 + 7 * n - 1) 12 b) ∧ ∃ t i, 7 * r0 ≤ t ∧ t < 7 * r0 + 7 * n ∧ i < 3 ∧ (CHc ch t ∧ T1t A t) ∧ rdk τ A ρ B 5 t i b) (7 * r0 - 448) (7 * n + 448)) + 2 * (ctq (fun b => (NAb L s0 τ A ρ B b ∧ XNz τ (7 * r0 + 7 * n - 1) 12 b) ∧ ∃ t i, 7 * r0 ≤ t ∧ t < 7 * r0 + 7 * n ∧ i < 3 ∧ (CHk L s0 τ A B ch t ∧ T1t A t) ∧ rdk τ A ρ B 6 t i b) (7 * r0 - 448) (7 * n + 448) + ctq (fun b => (NAb L s0 τ A ρ B b ∧ XNz τ (7 * r0 + 7 * n - 1) 12 b) ∧ ∃ t i, 7 * r0 ≤ t ∧ t < 7 * r0 + 7 * n ∧ i < 3 ∧ (CHk L s0 τ A B ch t ∧ T1t A t) ∧ rdk τ A ρ B 5 t i b) (7 * r0 - 448) (7 * n + 448)) + 710000 := by
  have x := SUMXt hR hs h h7 (ch := ch) (r0 := r0) (n := n) h1 h2 hn hc ht
  obtain ⟨p, hp⟩ : ∃ p, p = 7 * n + 448 := ⟨_, rfl⟩
  obtain ⟨q, hq⟩ : ∃ q, q = p + 449 := ⟨_, rfl⟩
  have y := SL_1 hR (A := A) (ρ := ρ) (B := B) (s := 7 * r0) (k := p) (by omega) (by omega)
  rw [← hq] at y
  rw [← hp] at x ⊢
  have j1 := ctq_jn (P := LKt τ) (s := 7 * r0 - 449) 449 (7 * n)
  rw [show 7 * r0 - 449 + 449 = 7 * r0 by omega] at j1
  have j2 := ctq_le (P := LKt τ) (s := 7 * r0 - 449) 449
  have j3 := ctq_jn (P := LKt τ) (s := 7 * r0 - 449) (449 + 7 * n) 448
  have j4 := ctq_le (P := LKt τ) (s := 7 * r0 - 449 + (449 + 7 * n)) 448
  rw [show 449 + 7 * n + 448 = q by omega] at j3
  omega

-- SUMX: as SUMV; time-outs after own names are counted by the own names
theorem SUMX {L s0 : Nat} {τ : Nat → qS} (hR : RNN L τ) (hs : ∀ t, t ≤ 7 * L → psame (τ 0) (τ t)) {A : Nat → List (Ms × Nat × Nat)} {ρ : Nat → qS × qS × qS} {B : Nat → List (Ms × Nat × Nat) × List (Ms × Nat × Nat) × List (Ms × Nat × Nat)} (h : ANC L s0 τ A ρ B) (h7 : 224 ≤ s0) {r0 n : Nat} (h1 : s0 + 3000 ≤ 7 * r0) (h2 : r0 + n + 300 ≤ L) (hn : 300 ≤ n) : ∃ ch : Nat → Nat, (∀ r, ch r < 6) ∧ (∀ r, (∃ v, v < 6 ∧ T1t A (7 * r + v)) → T1t A (7 * r + ch r)) ∧ (∀ r, (∃ v, v < 6 ∧ T1t A (7 * r + v) ∧ WTt τ (7 * r + v)) → WTt τ (7 * r + ch r)) ∧
    ctq (fun r => ∃ v, v < 6 ∧ T1t A (7 * r + v) ∧ WTt τ (7 * r + v)) r0 n + 2 * ctq (fun r => ¬ NDk L s0 τ A B r ∧ ∃ v, v < 6 ∧ T1t A (7 * r + v) ∧ WTt τ (7 * r + v)) r0 n + 3 * ctq (LKt τ) (7 * r0) (7 * n) + 3 * ctq (WHt τ) (7 * r0) (7 * n) + 3 * smq (jkq τ ρ) (7 * r0) (7 * n) + 6 * smq (rvq τ ρ) (7 * r0) (7 * n)
    ≤ 6 * ctq (fun r => ¬ ∃ v, v < 6 ∧ T1t A (7 * r + v)) r0 n + 8 * ctq (fun b => XNz τ (7 * r0 + 7 * n - 1) 12 b ∧ OWb L s0 τ A ρ B b) (7 * r0) (7 * n) + 6 * ctq (SL2 τ A ρ B) (7 * r0) (7 * n + 448) + 2 * ctq (fun b => PNk L s0 τ A ρ B b ∧ ∃ t i, 7 * r0 ≤ t ∧ t < 7 * r0 + 7 * n ∧ i < 3 ∧ (CHk L s0 τ A B ch t ∧ T1t A t) ∧ rdk τ A ρ B 5 t i b) (7 * r0 - 448) (7 * n + 448)
      + (ctq (fun b => (NAb L s0 τ A ρ B b ∧ XNz τ (7 * r0 + 7 * n - 1) 12 b) ∧ ∃ t i, 7 * r0 ≤ t ∧ t < 7 * r0 + 7 * n ∧ i < 3 ∧ (CHc ch t ∧ T1t A t) ∧ rdk τ A ρ B 6 t i b) (7 * r0 - 448) (7 * n + 448) + ctq (fun b => (NAb L s0 τ A ρ B b ∧ XNz τ (7 * r0 + 7 * n - 1) 12 b) ∧ ∃ t i, 7 * r0 ≤ t ∧ t < 7 * r0 + 7 * n ∧ i < 3 ∧ (CHc ch t ∧ T1t A t) ∧ rdk τ A ρ B 5 t i b) (7 * r0 - 448) (7 * n + 448)) + 2 * (ctq (fun b => (NAb L s0 τ A ρ B b ∧ XNz τ (7 * r0 + 7 * n - 1) 12 b) ∧ ∃ t i, 7 * r0 ≤ t ∧ t < 7 * r0 + 7 * n ∧ i < 3 ∧ (CHk L s0 τ A B ch t ∧ T1t A t) ∧ rdk τ A ρ B 6 t i b) (7 * r0 - 448) (7 * n + 448) + ctq (fun b => (NAb L s0 τ A ρ B b ∧ XNz τ (7 * r0 + 7 * n - 1) 12 b) ∧ ∃ t i, 7 * r0 ≤ t ∧ t < 7 * r0 + 7 * n ∧ i < 3 ∧ (CHk L s0 τ A B ch t ∧ T1t A t) ∧ rdk τ A ρ B 5 t i b) (7 * r0 - 448) (7 * n + 448)) + 710000 := by
  obtain ⟨ch, hc, ht, hq⟩ := ch_ex A (WTt τ)
  refine ⟨ch, hc, ht, hq, ?_⟩
  have x := SUMXu hR hs h h7 (ch := ch) (r0 := r0) (n := n) h1 h2 hn hc ht
  have tr : ∀ t, 7 * r0 ≤ t → t < 7 * r0 + 7 * n → CHc ch t → (∃ v, v < 6 ∧ T1t A (7 * (t / 7) + v) ∧ WTt τ (7 * (t / 7) + v)) → T1t A t ∧ ((¬ ∃ b, ACC τ A ρ B t b) ∧ ¬ gdq τ ρ t = 1) := fun t t1 t2 q1 q2 => by
    have a := ht (t / 7) (by
      obtain ⟨v, v1, v2, -⟩ := q2
      exact ⟨v, v1, v2⟩)
    have b := hq (t / 7) q2
    rw [← q1] at a b
    exact ⟨a, WT_z hR h (by omega) (by omega) (by omega) b⟩
  have c1 := CH_n hc (P := fun r => ∃ v, v < 6 ∧ T1t A (7 * r + v) ∧ WTt τ (7 * r + v)) (r0 := r0) (n := n)
  have c2 := ctq_mo (P := fun t => CHc ch t ∧ ∃ v, v < 6 ∧ T1t A (7 * (t / 7) + v) ∧ WTt τ (7 * (t / 7) + v)) (Q := fun t => ((CHc ch t ∧ T1t A t) ∧ ¬ ∃ b, ACC τ A ρ B t b) ∧ ¬ gdq τ ρ t = 1) (s := 7 * r0) (7 * n) (fun t t1 t2 q => by
    obtain ⟨a, b, c⟩ := tr t t1 t2 q.1 q.2
    exact ⟨⟨⟨q.1, a⟩, b⟩, c⟩)
  have d1 := CH_n hc (P := fun r => ¬ NDk L s0 τ A B r ∧ ∃ v, v < 6 ∧ T1t A (7 * r + v) ∧ WTt τ (7 * r + v)) (r0 := r0) (n := n)
  have d2 := ctq_mo (P := fun t => CHc ch t ∧ (¬ NDk L s0 τ A B (t / 7) ∧ ∃ v, v < 6 ∧ T1t A (7 * (t / 7) + v) ∧ WTt τ (7 * (t / 7) + v))) (Q := fun t => ((CHk L s0 τ A B ch t ∧ T1t A t) ∧ ¬ ∃ b, ACC τ A ρ B t b) ∧ ¬ gdq τ ρ t = 1) (s := 7 * r0) (7 * n) (fun t t1 t2 q => by
    obtain ⟨a, b, c⟩ := tr t t1 t2 q.1 q.2.2
    exact ⟨⟨⟨⟨q.1, q.2.1⟩, a⟩, b⟩, c⟩)
  omega

