theorem ROOT2 {L s0 : Nat} {τ : Nat → qS} (hR : RNN L τ) {A : Nat → List (Ms × Nat × Nat)} {ρ : Nat → qS × qS × qS} {B : Nat → List (Ms × Nat × Nat) × List (Ms × Nat × Nat) × List (Ms × Nat × Nat)} (h : ANC L s0 τ A ρ B) {v : Nat} (hv : v < 6) {s1 Λ y : Nat} (hs : s0 ≤ s1) (hy : RUNL L τ v y) (hL : ∀ t b, s1 < b → t < 7 * L → t % 7 = v → ACC τ A ρ B t b → t ≤ b + Λ) : ∀ a, s1 < a → a ≤ y → ATk τ v a → ∃ r, s1 < r ∧ r ≤ a ∧ ATk τ v r ∧ PThh τ A ρ B v r a ∧ RTk τ A ρ B v s1 r ∧ a ≤ r + Λ * ctq (SPk τ v) r (a - r) := fun a => by
  induction a using Nat.strongRecOn with
  | _ a ih =>
    intro h1 h2 ha
    by_cases c : ∃ b, s1 < b ∧ ATk τ v b ∧ EDG τ A ρ B v b a
    · obtain ⟨b, b1, b2, b3⟩ := c
      have yl := hy.1
      have e1 := EDG_s hR h hv (by omega) (by omega) b3
      have b3' := b3
      obtain ⟨ba, -, t, t1, t2, t3, t4, t5⟩ := b3'
      have tl := hy.2 a t h2 ha t3
      have li := hL t b b1 tl t1 t4
      obtain ⟨r, r1, r2, r3, r4, r5, r6⟩ := ih b ba b1 (by omega) b2
      refine ⟨r, r1, by omega, r3, PThh_e r4 b3, r5, ?_⟩
      have jn := ctq_jn (P := SPk τ v) (s := r) (b - r) (a - b)
      rw [show b - r + (a - b) = a - r by omega, show r + (b - r) = b by omega] at jn
      rw [jn, Nat.mul_add]
      have m : Λ * 1 ≤ Λ * ctq (SPk τ v) b (a - b) := Nat.mul_le_mul_left Λ e1
      omega
    · exact ⟨a, h1, Nat.le_refl _, ha, PThh_r v a, c, by omega⟩
theorem plc_of {L : Nat} {τ : Nat → qS} (hR : RNN L τ) {v : Nat} (hv : v < 6) {u w : Nat} (hu : u ≤ 7 * L) (hw : w ≤ 7 * L) (h1 : 38 ≤ τ u 62 (v : Int)) (h2 : 38 ≤ τ w 62 (v : Int)) (ht : τ u 62 (v : Int) = τ w 62 (v : Int)) (hc : cd (τ u) v = cd (τ w) v) : plc (τ u) (v : Int) = plc (τ w) (v : Int) := by
  have g1 := hR.1 u hu
  have g2 := hR.1 w hw
  have p1 := (WR_rk g1.1.1 (rd_P2 g1.1 (by omega) (g1.2.2.1 (v : Int) (by omega) (by omega)) h1).1).1
  have p2 := (WR_rk g2.1.1 (rd_P2 g2.1 (by omega) (g2.2.2.1 (v : Int) (by omega) (by omega)) h2).1).1
  unfold cd at hc
  have e1 : τ u 64 (v : Int) = τ w 64 (v : Int) := by omega
  have e2 : ps (τ u) (v : Int) = ps (τ w) (v : Int) := by omega
  unfold plc
  rw [ht, e1, e2]
theorem LVT {L : Nat} {τ : Nat → qS} (hR : RNN L τ) {v : Nat} (hv : v < 6) {r : Nat} (hr : 38 ≤ τ r 62 (v : Int)) : ∀ k, r + k ≤ 7 * L → STY τ v r (r + k) ∨ ∃ t, r ≤ t ∧ t < r + k ∧ t % 7 = v ∧ STY τ v r t ∧ (τ (t + 1) 62 (v : Int) < 38 ∨ τ (t + 1) 62 (v : Int) ≠ τ t 62 (v : Int) ∨ cd (τ (t + 1)) v ≠ cd (τ t) v)
  | 0, _ => Or.inl (fun u h1 h2 => by
      have e : u = r := by omega
      subst e
      exact ⟨hr, rfl, rfl⟩)
  | k + 1, hl => by
    rcases LVT hR hv hr k (by omega) with q | ⟨t, t1, t2, t3⟩
    · obtain ⟨q1, q2, q3⟩ := q (r + k) (by omega) (Nat.le_refl _)
      by_cases c : τ (r + k + 1) 62 (v : Int) < 38 ∨ τ (r + k + 1) 62 (v : Int) ≠ τ (r + k) 62 (v : Int) ∨ cd (τ (r + k + 1)) v ≠ cd (τ (r + k)) v
      · right
        refine ⟨r + k, by omega, by omega, ?_, q, c⟩
        by_cases e : (r + k) % 7 = v
        · exact e
        · exfalso
          have hs := hR.2 (r + k) (by omega)
          have ne : (((r + k) % 7 : Nat) : Int) ≠ (v : Int) := by omega
          have k1 := STP_w hs ne (by omega)
          have et : τ (r + k + 1) 62 (v : Int) = τ (r + k) 62 (v : Int) := k1 _ (by decide)
          have st := (rd_st hR (by omega) hv q1).1
          have k2 := fa_s hs (v := (v : Int)) (j := τ (r + k) 64 v) (by omega) ne st
          rcases c with c | c | c
          · omega
          · exact c et
          · apply c
            unfold cd ps
            rw [k1 75 (by decide), k1 64 (by decide), k2]
      · left
        simp only [not_or, Decidable.not_not] at c
        intro u u1 u2
        by_cases e : u = r + (k + 1)
        · subst e
          refine ⟨by have := c.1; rw [show r + (k + 1) = r + k + 1 by omega]; omega, ?_, ?_⟩
          · rw [show r + (k + 1) = r + k + 1 by omega, c.2.1, q2]
          · rw [show r + (k + 1) = r + k + 1 by omega, c.2.2, q3]
        · exact q u u1 (by omega)
    · exact Or.inr ⟨t, t1, by omega, t3⟩
def TOb (τ : Nat → qS) (v b : Nat) : Prop := (b - 1) % 7 = v ∧ fe (τ b) (v : Int) = 1 ∧ ¬ CHG τ v (b - 1)
def RTt (τ : Nat → qS) (A : Nat → List (Ms × Nat × Nat)) (ρ : Nat → qS × qS × qS) (B : Nat → List (Ms × Nat × Nat) × List (Ms × Nat × Nat) × List (Ms × Nat × Nat)) (v s1 t : Nat) : Prop := τ (t + 1) 62 (v : Int) < 38 ∨ ∃ b, ACC τ A ρ B t b ∧ (b ≤ s1 ∨ TOb τ v b)
theorem RTY {L s0 : Nat} {τ : Nat → qS} (hR : RNN L τ) {A : Nat → List (Ms × Nat × Nat)} {ρ : Nat → qS × qS × qS} {B : Nat → List (Ms × Nat × Nat) × List (Ms × Nat × Nat) × List (Ms × Nat × Nat)} (h : ANC L s0 τ A ρ B) {v : Nat} (hv : v < 6) {s1 r y : Nat} (hs : s0 ≤ s1) (hr : s1 < r) (hy : r ≤ y) (hl : y ≤ 7 * L) (ha : ATk τ v r) (hrt : RTk τ A ρ B v s1 r) (hn : ∀ t, r ≤ t → t < y → STY τ v r t → ¬ ACC τ A ρ B t r) : STY τ v r y ∨ ∃ t, r ≤ t ∧ t < y ∧ t % 7 = v ∧ STY τ v r t ∧ 38 ≤ τ t 62 (v : Int) ∧ RTt τ A ρ B v s1 t := by
  have rr := fe_r ha.2.2.1
  obtain ⟨k, ek⟩ : ∃ k, y = r + k := ⟨y - r, by omega⟩
  rcases LVT hR hv rr.1 k (by omega) with q | ⟨t, t1, t2, t3, t4, t5⟩
  · rw [← ek] at q; exact Or.inl q
  · right
    have s38 := (t4 t t1 (Nat.le_refl _)).1
    refine ⟨t, t1, by omega, t3, t4, s38, ?_⟩
    rcases LEAVE h (t := t) (by omega) (by omega) hv t3 s38 with c | ⟨c1, c2⟩ | ⟨b, b1, b2⟩
    · exact Or.inl c
    · rcases t5 with q | q | q
      · exact Or.inl q
      · exact absurd c1 q
      · exact absurd c2 q
    · right
      refine ⟨b, b1, ?_⟩
      by_cases bs : b ≤ s1
      · exact Or.inl bs
      · right
        obtain ⟨w, w1, w2, w3, w4, w5, -⟩ := ACC_tk h (by omega : s0 < b) (by omega) (by omega) b1
        have wv : w = v := by omega
        subst wv
        refine ⟨w2, w4, fun cg => ?_⟩
        have atb : ATk τ w b := ⟨w2, by omega, w4, cg⟩
        rcases Nat.lt_trichotomy b r with q | q | q
        · obtain ⟨z1, z2, z3⟩ := t4 t t1 (Nat.le_refl _)
          have pl := plc_of hR hv (u := t) (w := r) (by omega) (by omega) z1 rr.1 z2 z3
          exact hrt ⟨b, by omega, atb, q, ha, t, t3, t1, t4, b1, (b2 (by omega)).trans pl⟩
        · subst q
          exact hn t t1 (by omega) t4 b1
        · exact sty_1 atb t4 q w5

