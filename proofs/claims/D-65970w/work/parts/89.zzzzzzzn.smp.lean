-- coverage of a sample: b's ticks before the FETCH is read, the waiter's ticks two rounds after it
def rdY (A : Nat → List (Ms × Nat × Nat)) (B : Nat → List (Ms × Nat × Nat) × List (Ms × Nat × Nat) × List (Ms × Nat × Nat)) (T : Nat) (y : Ms × Nat × Nat) : Prop := T % 7 < 6 ∧ ∃ i, i < 3 ∧ hdA ((T % 7 : Nat) : Int) (stA A B T i) y
def PRk (w : Int) (s T : Nat) (A : List (Ms × Nat × Nat)) (m : Nat) : Prop := ∃ y : Ms × Nat × Nat, KA y A m ∧ y.2.2 = s ∧ y.2.1 = T + 1 ∧ xw y.1 0 = 6 ∧ y.1.1 = w
theorem TKR {L s0 : Nat} {τ : Nat → qS} (hR : RNN L τ) {A : Nat → List (Ms × Nat × Nat)} {ρ : Nat → qS × qS × qS} {B : Nat → List (Ms × Nat × Nat) × List (Ms × Nat × Nat) × List (Ms × Nat × Nat)} (h : ANC2 L s0 τ A ρ B) (h7 : 224 ≤ s0) {w : Nat} (hw : w < 6) {t : Nat} (ht : t % 7 = w) (h1 : 7 * 145 ≤ t) (h2 : t + 1 ≤ 7 * L) (hl : LKs (τ (t + 1)) w) {j : Nat} (j1 : 1 ≤ j) (j2 : j ≤ 143) {s m : Nat} (es : s = t + 1 - 7 * j) (js : s0 < s) {y : Ms × Nat × Nat} (y5 : xw y.1 0 = 5) (yw : xw y.1 5 = (w : Int)) (yb : y.2.2 = s) {T : Nat} (T1 : s ≤ T) (T2 : T ≤ t) (l6 : T % 7 < 6) (h0 : KA y (A T) m) (hm : m + ow (τ (T + 1)) ((T % 7 : Nat) : Int) ≤ 93) : (¬ rdY A B T y ∧ KA y (A (T + 1)) (m + ow (τ (T + 1)) ((T % 7 : Nat) : Int))) ∨ (rdY A B T y ∧ PRk (w : Int) s T (A (T + 1)) (m + ow (τ (T + 1)) ((T % 7 : Nat) : Int))) := by
  obtain ⟨qe, ye⟩ := st_er hR h.1 (by omega : 224 ≤ T) (by omega) (by omega) l6
  have st : ∀ i, i ≤ 3 → (KA y (stA A B T i) m ∧ ∀ i', i' < i → ¬ hdA ((T % 7 : Nat) : Int) (stA A B T i') y) ∨ (rdY A B T y ∧ PRk (w : Int) s T (stA A B T i) m) := fun i => by
    induction i with
    | zero => intro _; exact Or.inl ⟨h0, fun i' q => by omega⟩
    | succ i hi =>
      intro q
      have r := st_rd h.1 (by omega : s0 ≤ T) (by omega) l6 (i := i) (by omega)
      rcases hi (by omega) with ⟨k1, k2⟩ | ⟨k0, z, z1, z2, z3, z6, zw⟩
      · have yr := ye i (by omega) y (KA_mem k1)
        by_cases c : hdA ((T % 7 : Nat) : Int) (stA A B T i) y
        · right
          refine ⟨⟨l6, i, by omega, c⟩, ?_⟩
          have k1' := k1
          obtain ⟨i0, a, b⟩ := c
          rcases r with ⟨d, -⟩ | ⟨j0, y', d1, d2, d⟩
          · rw [a] at d; cases d
          · have ey : y = y' := hdA_u ⟨i0, a, b⟩ ⟨j0, d1, d2⟩
            subst ey
            rcases d with ⟨d, -⟩ | ⟨-, -, z, g1, g2, -, -, -, -, d⟩
            · exfalso
              rcases d with d | d
              · exact d (by rw [yr, qe i (by omega)])
              · exact d y5
            · refine ⟨(z, T + 1, y.2.2), ⟨tlA ((stA A B T i).eraseIdx j0), [], d, ?_⟩, yb, rfl, g2, by rw [← yw]; exact g1⟩
              have q1 := cpA_tl (fun z : Ms × Nat × Nat => t5 z.1) ((stA A B T i).eraseIdx j0)
              have q2 := cpA_er (fun z : Ms × Nat × Nat => t5 z.1) (stA A B T i) j0 y d2
              rw [if_pos ((t5_i y.1).mpr y5)] at q2
              have q3 := KA_f5 k1'
              unfold f5A at q3
              rw [List.length_nil]
              omega
        · left
          rcases ka_RD k1 r (by omega) with g | g
          · exact absurd g c
          · refine ⟨g, fun i' hi' => ?_⟩
            by_cases e : i' = i
            · rw [e]; exact c
            · exact k2 i' (by omega)
      · right
        refine ⟨k0, z, ?_, z2, z3, z6, zw⟩
        rcases ka_RD z1 r (by omega) with g | g
        · exfalso
          exact NRD hR h.1 h7 hw ht h1 h2 hl j1 j2 (by omega) (T := T) (by omega) (by omega) l6 (i := i) (by omega) g z6 (by rw [z2, es])
        · exact g
  obtain ⟨q, q1, q2, -⟩ := h.2 T (by omega) (by omega) l6
  rcases st 3 (by omega) with ⟨k1, k2⟩ | ⟨k0, z, z1, z2⟩
  · exact Or.inl ⟨fun ⟨_, i, hi, c⟩ => k2 i hi c, KA_mo (ka_AC k1 q1 (by omega)) (by omega)⟩
  · exact Or.inr ⟨k0, z, KA_mo (ka_AC z1 q1 (by omega)) (by omega), z2⟩
theorem SMPs {L s0 : Nat} {τ : Nat → qS} (hR : RNN L τ) {A : Nat → List (Ms × Nat × Nat)} {ρ : Nat → qS × qS × qS} {B : Nat → List (Ms × Nat × Nat) × List (Ms × Nat × Nat) × List (Ms × Nat × Nat)} (h : ANC2 L s0 τ A ρ B) (h7 : 224 ≤ s0) {w : Nat} (hw : w < 6) {t : Nat} (ht : t % 7 = w) (h1 : 7 * 145 ≤ t) (h2 : t + 1 ≤ 7 * L) (hl : LKs (τ (t + 1)) w) {j : Nat} (j1 : 1 ≤ j) (j2 : j ≤ 143) {s m : Nat} (es : s = t + 1 - 7 * j) (js : s0 < s) {y : Ms × Nat × Nat} (y5 : xw y.1 0 = 5) (yw : xw y.1 5 = (w : Int)) (yb : y.2.2 = s) (y6 : y.1.1 ≠ 6) (h0 : KA y (A s) m) : ∀ k, s + k ≤ t + 1 → m + osm false τ s k ≤ 93 → ((∀ i, i < k → ¬ rdY A B (s + i) y) ∧ KA y (A (s + k)) (m + osm false τ s k)) ∨ ∃ k0, k0 < k ∧ (∀ i, i < k0 → ¬ rdY A B (s + i) y) ∧ rdY A B (s + k0) y ∧ PRk (w : Int) s (s + k0) (A (s + k)) (m + osm false τ s k)
  | 0, _, _ => Or.inl ⟨fun i q => by omega, by simpa [osm] using h0⟩
  | k + 1, hk, hm => by
    have hm' := osm_m false τ s k 1
    have ih := SMPs hR h h7 hw ht h1 h2 hl j1 j2 es js y5 yw yb y6 h0 k (by omega) (by omega)
    rw [show s + (k + 1) = s + k + 1 by omega]
    simp only [osm] at hm ⊢
    by_cases e6 : (s + k) % 7 = 6
    · rw [if_pos e6] at hm ⊢
      have e3 : mi false = 3 := rfl
      rw [e3] at hm ⊢
      rcases h.1.1.2.2 (s + k) (by omega) (by omega) with ⟨e, -⟩ | ⟨-, σ1, σ2, A1, A2, -, -, -, -, n1, n2, n3⟩
      · omega
      · rcases ih with ⟨i1, i2⟩ | ⟨k0, i1, i2, i3, z, z1, z2, z3, z4, z5⟩
        · refine Or.inl ⟨fun i q => ?_, KA_mo (ka_HR (ka_HR (ka_HR i2 n1 y6 (by omega)) n2 y6 (by omega)) n3 y6 (by omega)) (by omega)⟩
          by_cases e : i = k
          · rw [e]; exact fun c => by have := c.1; omega
          · exact i1 i (by omega)
        · have z6 : z.1.1 ≠ 6 := by rw [z5]; omega
          exact Or.inr ⟨k0, by omega, i2, i3, z, KA_mo (ka_HR (ka_HR (ka_HR z1 n1 z6 (by omega)) n2 z6 (by omega)) n3 z6 (by omega)) (by omega), z2, z3, z4, z5⟩
    · rw [if_neg e6] at hm ⊢
      have l6 : (s + k) % 7 < 6 := by omega
      rcases ih with ⟨i1, i2⟩ | ⟨k0, i1, i2, i3, z, z1, z2, z3, z4, z5⟩
      · rcases TKR hR h h7 hw ht h1 h2 hl j1 j2 es js y5 yw yb (T := s + k) (by omega) (by omega) l6 i2 (by omega) with ⟨g1, g2⟩ | ⟨g1, g2⟩
        · refine Or.inl ⟨fun i q => ?_, KA_mo g2 (by omega)⟩
          by_cases e : i = k
          · rw [e]; exact g1
          · exact i1 i (by omega)
        · obtain ⟨z, z1, z2⟩ := g2
          exact Or.inr ⟨k, by omega, i1, g1, z, KA_mo z1 (by omega), z2⟩
      · right
        refine ⟨k0, by omega, i2, i3, z, ?_, z2, z3, z4, z5⟩
        have z6 : z.1.1 ≠ 6 := by rw [z5]; omega
        obtain ⟨-, -, r1, r2, r3, -⟩ := h.1.2 (s + k) (by omega) (by omega) l6
        obtain ⟨q, q1, q2, -⟩ := h.2 (s + k) (by omega) (by omega) l6
        have nr : ∀ i, i < 3 → ¬ hdA (((s + k) % 7 : Nat) : Int) (stA A B (s + k) i) z := fun i hi g => NRD hR h.1 h7 hw ht h1 h2 hl j1 j2 (by omega) (T := s + k) (by omega) (by omega) l6 hi g z4 (by rw [z2, es])
        rcases ka_RD z1 r1 (by omega) with g | k1
        · exact absurd g (nr 0 (by omega))
        rcases ka_RD k1 r2 (by omega) with g | k2
        · exact absurd g (nr 1 (by omega))
        rcases ka_RD k2 r3 (by omega) with g | k3
        · exact absurd g (nr 2 (by omega))
        exact KA_mo (ka_AC k3 q1 (by omega)) (by omega)

