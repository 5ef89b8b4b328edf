-- the token of a FETCH tick: FETCH or PAIRS, kept as long as the line cannot drop it
def f5A (A : List (Ms × Nat × Nat)) : Nat := A.countP (fun z => t5 z.1)
theorem f5_pr (A : List (Ms × Nat × Nat)) : f5A A = (prA A).countP t5 := by
  unfold f5A prA
  rw [List.countP_map]
  rfl
theorem KA_f5 {y : Ms × Nat × Nat} {A : List (Ms × Nat × Nat)} {m : Nat} (h : KA y A m) : f5A A ≤ m + 1 := by
  obtain ⟨p, n, e, h2⟩ := h
  unfold f5A
  rw [e, List.countP_append, List.countP_cons]
  have := List.countP_le_length (p := fun z : Ms × Nat × Nat => t5 z.1) (l := n)
  split <;> omega
theorem KA_nw {y : Ms × Nat × Nat} {A p n : List (Ms × Nat × Nat)} (e : A = p ++ y :: n) (hn : n.length ≤ 1) (h5 : t5 y.1 = true) : KA y A (f5A A) := by
  refine ⟨p, n, e, ?_⟩
  unfold f5A
  rw [e, List.countP_append, List.countP_cons, if_pos h5]
  omega
theorem ka_RDf {w e : Int} {t : Nat} {y : Ms × Nat × Nat} {A A' : List (Ms × Nat × Nat)} {m : Nat} (h : KA y A m) (h5 : xw y.1 0 = 5) (he : xw y.1 1 = e) (r : RDn w e t A A') (hm : m ≤ 93) : KA y A' m ∨ (hdA w A y ∧ ∃ z : Ms, z.1 = xw y.1 5 ∧ xw z 0 = 6 ∧ KA (z, t + 1, y.2.2) A' m) := by
  by_cases c : hdA w A y
  · right
    refine ⟨c, ?_⟩
    obtain ⟨i, a, b⟩ := c
    rcases r with ⟨d, -⟩ | ⟨j, y', d1, d2, d⟩
    · rw [a] at d; cases d
    · have ey : y = y' := hdA_u ⟨i, a, b⟩ ⟨j, d1, d2⟩
      subst ey
      rcases d with ⟨d, -⟩ | ⟨-, -, z, z1, z2, -, -, -, -, d⟩
      · exfalso
        rcases d with d | d
        · exact d he
        · exact d h5
      · refine ⟨z, z1, z2, tlA (A.eraseIdx j), [], d, ?_⟩
        have q1 := cpA_tl (fun z : Ms × Nat × Nat => t5 z.1) (A.eraseIdx j)
        have q2 := cpA_er (fun z : Ms × Nat × Nat => t5 z.1) A j y d2
        rw [if_pos ((t5_i y.1).mpr h5)] at q2
        have q3 := KA_f5 h
        unfold f5A at q3
        rw [List.length_nil]
        omega
  · rcases ka_RD h r hm with g | g
    · exact absurd g c
    · exact Or.inl g
theorem BIRTH2 {L s0 : Nat} {τ : Nat → qS} {A : Nat → List (Ms × Nat × Nat)} {ρ : Nat → qS × qS × qS} {B : Nat → List (Ms × Nat × Nat) × List (Ms × Nat × Nat) × List (Ms × Nat × Nat)} (h : ANC2 L s0 τ A ρ B) {u : Nat} (h1 : s0 ≤ u) (h2 : u < 7 * L) (h6 : u % 7 < 6) (hf : fe (τ (u + 1)) ((u % 7 : Nat) : Int) = 1) : ∃ y : Ms × Nat × Nat, KA y (A (u + 1)) ((ln (τ (u + 1))).countP t5) ∧ xw y.1 0 = 5 ∧ xw y.1 5 = ((u % 7 : Nat) : Int) ∧ y.1.1 = τ (u + 1) 33 (τ (u + 1) 64 ((u % 7 : Nat) : Int)) ∧ y.2.1 = u + 1 ∧ y.2.2 = u + 1 := by
  obtain ⟨s, a, -, b⟩ := h.2 u h1 h2 h6
  obtain ⟨z, r, e, z5, z1, zw⟩ := b hf
  have e0 := h.1.1.2.1 (u + 1) (by omega) (by omega)
  have fe' : f5A (A (u + 1)) = (ln (τ (u + 1))).countP t5 := by rw [f5_pr, e0]
  rw [← fe']
  have t := (t5_i z).mpr z5
  refine ⟨(z, u + 1, u + 1), ?_, z5, zw, z1, rfl, rfl⟩
  rcases a with ⟨-, q⟩ | ⟨x, d, q⟩ | ⟨x, x', d, q⟩
  · rw [e] at q; cases q
  · rw [e] at q
    have ez : z = x := (List.cons.inj q).1
    subst ez
    exact KA_nw d (Nat.zero_le _) t
  · rw [e] at q
    have ez : z = x := (List.cons.inj q).1
    subst ez
    have : ∃ p, tlA (tlA (B u).2.2 ++ [(z, u + 1, u + 1)]) = p ++ [(z, u + 1, u + 1)] := by
      generalize tlA (B u).2.2 = C
      unfold tlA
      split
      · rename_i c95
        cases C with
        | nil => simp at c95
        | cons x C => exact ⟨C, rfl⟩
      · exact ⟨C, rfl⟩
    obtain ⟨p, hp⟩ := this
    rw [hp, List.append_assoc] at d
    exact KA_nw d (Nat.le_refl _) t
def KT (w b : Int) (s u : Nat) (A : List (Ms × Nat × Nat)) (m : Nat) : Prop := ∃ y : Ms × Nat × Nat, KA y A m ∧ y.2.2 = s ∧ y.2.1 ≤ u ∧ ((xw y.1 0 = 5 ∧ xw y.1 5 = w ∧ y.1.1 = b ∧ y.2.1 = s) ∨ (xw y.1 0 = 6 ∧ y.1.1 = w))
theorem keepT {L s0 : Nat} {τ : Nat → qS} (hR : RNN L τ) {A : Nat → List (Ms × Nat × Nat)} {ρ : Nat → qS × qS × qS} {B : Nat → List (Ms × Nat × Nat) × List (Ms × Nat × Nat) × List (Ms × Nat × Nat)} (h : ANC2 L s0 τ A ρ B) (h7 : 224 ≤ s0) {w : Nat} (hw : w < 6) {t : Nat} (ht : t % 7 = w) (h1 : 7 * 145 ≤ t) (h2 : t + 1 ≤ 7 * L) (hl : LKs (τ (t + 1)) w) {j : Nat} (j1 : 1 ≤ j) (j2 : j ≤ 143) {s m : Nat} (es : s = t + 1 - 7 * j) (js : s0 < s) {b : Int} (hb : b ≠ 6) (h0 : KT (w : Int) b s s (A s) m) : ∀ k, s + k ≤ t + 1 → m + osm false τ s k ≤ 93 → KT (w : Int) b s (s + k) (A (s + k)) (m + osm false τ s k)
  | 0, _, _ => by simpa [osm] using h0
  | k + 1, hk, hm => by
    have hm' := osm_m false τ s k 1
    have ih := keepT hR h h7 hw ht h1 h2 hl j1 j2 es js hb h0 k (by omega) (by omega)
    rw [show s + (k + 1) = s + k + 1 by omega]
    simp only [osm] at hm ⊢
    by_cases e6 : (s + k) % 7 = 6
    · rw [if_pos e6] at hm ⊢
      have e3 : mi false = 3 := rfl
      rw [e3] at hm ⊢
      obtain ⟨y, y1, y2, y3, y4⟩ := ih
      have y6 : y.1.1 ≠ 6 := by
        rcases y4 with ⟨-, -, q, -⟩ | ⟨-, q⟩
        · rw [q]; exact hb
        · rw [q]; omega
      rcases h.1.1.2.2 (s + k) (by omega) (by omega) with ⟨e, -⟩ | ⟨-, σ1, σ2, A1, A2, -, -, -, -, n1, n2, n3⟩
      · omega
      · exact ⟨y, KA_mo (ka_HR (ka_HR (ka_HR y1 n1 y6 (by omega)) n2 y6 (by omega)) n3 y6 (by omega)) (by omega), y2, by omega, y4⟩
    · rw [if_neg e6] at hm ⊢
      have l6 : (s + k) % 7 < 6 := by omega
      obtain ⟨qe, ye⟩ := st_er hR h.1 (by omega : 224 ≤ s + k) (by omega) (by omega) l6
      have st : ∀ i, i ≤ 3 → KT (w : Int) b s (s + k + 1) (stA A B (s + k) i) (m + osm false τ s k) := fun i => by
        induction i with
        | zero =>
          intro _
          obtain ⟨y, y1, y2, y3, y4⟩ := ih
          exact ⟨y, y1, y2, by omega, y4⟩
        | succ i hi =>
          intro q
          obtain ⟨y, y1, y2, y3, y4⟩ := hi (by omega)
          have r := st_rd h.1 (by omega : s0 ≤ s + k) (by omega) l6 (i := i) (by omega)
          have ym := KA_mem y1
          have yr := ye i (by omega) y ym
          rcases y4 with ⟨z5, zw, zb, zs⟩ | ⟨z6, zw⟩
          · rcases ka_RDf y1 z5 (by rw [yr, qe i (by omega)]) r (by omega) with g | ⟨-, z, g1, g2, g3⟩
            · exact ⟨y, g, y2, y3, Or.inl ⟨z5, zw, zb, zs⟩⟩
            · exact ⟨(z, s + k + 1, y.2.2), g3, y2, Nat.le_refl _, Or.inr ⟨g2, by rw [← zw]; exact g1⟩⟩
          · rcases ka_RD y1 r (by omega) with g | g
            · exfalso
              exact NRD hR h.1 h7 hw ht h1 h2 hl j1 j2 (by omega) (T := s + k) (by omega) (by omega) l6 (i := i) (by omega) g z6 (by rw [y2, es])
            · exact ⟨y, g, y2, y3, Or.inr ⟨z6, zw⟩⟩
      obtain ⟨y, y1, y2, y3, y4⟩ := st 3 (by omega)
      obtain ⟨q, q1, q2, -⟩ := h.2 (s + k) (by omega) (by omega) l6
      exact ⟨y, KA_mo (ka_AC y1 q1 (by omega)) (by omega), y2, y3, y4⟩

