-- the token of a sample without budget: it is alive or it was dropped
theorem UQ_t {s : Nat} {C : List (Ms × Nat × Nat)} (h : tbc s C ≤ 1) {y x : Ms × Nat × Nat} (hy : y ∈ C) (hx : x ∈ C) (ty : tokb y = true) (tx : tokb x = true) (yb : y.2.2 = s) (xb : x.2.2 = s) : x = y := by
  obtain ⟨p, q, e⟩ := List.append_of_mem hy
  have py : (tokb y && decide (y.2.2 = s)) = true := by rw [ty, decide_eq_true yb]; rfl
  have px : (tokb x && decide (x.2.2 = s)) = true := by rw [tx, decide_eq_true xb]; rfl
  unfold tbc at h
  rw [e, List.countP_append, List.countP_cons, if_pos py] at h
  rw [e, List.mem_append, List.mem_cons] at hx
  rcases hx with hx | hx | hx
  · have := List.countP_pos_iff (p := fun x : Ms × Nat × Nat => tokb x && decide (x.2.2 = s)) |>.mpr ⟨x, hx, px⟩
    omega
  · exact hx
  · have := List.countP_pos_iff (p := fun x : Ms × Nat × Nat => tokb x && decide (x.2.2 = s)) |>.mpr ⟨x, hx, px⟩
    omega
theorem tb_0 {s : Nat} {C : List (Ms × Nat × Nat)} (h : ∀ x ∈ C, tokb x = true → x.2.2 ≠ s) : tbc s C = 0 := by
  unfold tbc
  rw [List.countP_eq_zero]
  intro x hx q
  rw [Bool.and_eq_true] at q
  exact h x hx q.1 (of_decide_eq_true q.2)
theorem AC_al {t s : Nat} {C A' : List (Ms × Nat × Nat)} {q : List Ms} (r : ACn t C A' q) (h : tbc s C ≤ 1) (hs : s ≠ t + 1) {y : Ms × Nat × Nat} (hy : y ∈ C) (ty : tokb y = true) (yb : y.2.2 = s) : y ∈ A' ∨ tbc s A' = 0 := by
  by_cases c : y ∈ A'
  · exact Or.inl c
  · right
    refine tb_0 (fun x hx tx xb => ?_)
    have xC : x ∈ C := by
      rcases r with ⟨e, -⟩ | ⟨z, e, -⟩ | ⟨z, z', e, -⟩
      · rw [← e]; exact hx
      · rw [e, List.mem_append, List.mem_singleton] at hx
        rcases hx with hx | hx
        · exact (tlA_sub C).subset hx
        · exfalso; apply hs; rw [← xb, hx]
      · rw [e, List.mem_append, List.mem_singleton] at hx
        rcases hx with hx | hx
        · have hx := (tlA_sub _).subset hx
          rw [List.mem_append, List.mem_singleton] at hx
          rcases hx with hx | hx
          · exact (tlA_sub C).subset hx
          · exfalso; apply hs; rw [← xb, hx]
        · exfalso; apply hs; rw [← xb, hx]
    rw [UQ_t h hy xC ty tx yb xb] at hx
    exact c hx
def PRm (w : Int) (s T : Nat) (C : List (Ms × Nat × Nat)) : Prop := ∃ z : Ms × Nat × Nat, z ∈ C ∧ z.2.2 = s ∧ z.2.1 = T + 1 ∧ xw z.1 0 = 6 ∧ z.1.1 = w
theorem st_tb1 {L s0 : Nat} {τ : Nat → qS} (hR : RNN L τ) {A : Nat → List (Ms × Nat × Nat)} {ρ : Nat → qS × qS × qS} {B : Nat → List (Ms × Nat × Nat) × List (Ms × Nat × Nat) × List (Ms × Nat × Nat)} (h : ANC2 L s0 τ A ρ B) {T s : Nat} (T0 : s0 ≤ T) (T2 : T < 7 * L) (l6 : T % 7 < 6) (js : s0 < s) : ∀ i, i ≤ 3 → tbc s (stA A B T i) ≤ 1 := fun i => by
  induction i with
  | zero =>
    intro _
    have t1 := ANR_tb h.1.1 (b := s) js (T - s0) (by omega)
    rw [show s0 + (T - s0) = T by omega] at t1
    show tbc s (A T) ≤ 1
    split at t1 <;> omega
  | succ i ih =>
    intro q
    have a := RDn_tb (st_rd h.1 T0 T2 l6 (i := i) (by omega)) s
    exact Nat.le_trans a (ih (by omega))
theorem TKRm {L s0 : Nat} {τ : Nat → qS} (hR : RNN L τ) {A : Nat → List (Ms × Nat × Nat)} {ρ : Nat → qS × qS × qS} {B : Nat → List (Ms × Nat × Nat) × List (Ms × Nat × Nat) × List (Ms × Nat × Nat)} (h : ANC2 L s0 τ A ρ B) (h7 : 224 ≤ s0) {w : Nat} (hw : w < 6) {t : Nat} (ht : t % 7 = w) (h1 : 7 * 145 ≤ t) (h2 : t + 1 ≤ 7 * L) (hl : LKs (τ (t + 1)) w) {j : Nat} (j1 : 1 ≤ j) (j2 : j ≤ 143) {s : Nat} (es : s = t + 1 - 7 * j) (js : s0 < s) {y : Ms × Nat × Nat} (y5 : xw y.1 0 = 5) (yw : xw y.1 5 = (w : Int)) (yb : y.2.2 = s) {T : Nat} (T1 : s ≤ T) (T2 : T ≤ t) (l6 : T % 7 < 6) (h0 : y ∈ A T) : (¬ rdY A B T y ∧ (y ∈ A (T + 1) ∨ tbc s (A (T + 1)) = 0)) ∨ (rdY A B T y ∧ (PRm (w : Int) s T (A (T + 1)) ∨ tbc s (A (T + 1)) = 0)) := by
  obtain ⟨qe, ye⟩ := st_er hR h.1 (by omega : 224 ≤ T) (by omega) (by omega) l6
  have ty : tokb y = true := (tokb_i y).mpr (Or.inl y5)
  have st : ∀ i, i ≤ 3 → (y ∈ stA A B T i ∧ ∀ i', i' < i → ¬ hdA ((T % 7 : Nat) : Int) (stA A B T i') y) ∨ (rdY A B T y ∧ PRm (w : Int) s T (stA A B T i)) := fun i => by
    induction i with
    | zero => intro _; exact Or.inl ⟨h0, fun i' q => by omega⟩
    | succ i hi =>
      intro q
      have r := st_rd h.1 (by omega : s0 ≤ T) (by omega) l6 (i := i) (by omega)
      have l95 := st_95 hR h.1 (by omega : 224 ≤ T) (by omega) (by omega) l6 i (by omega)
      rcases hi (by omega) with ⟨k1, k2⟩ | ⟨k0, z, z1, z2, z3, z6, zw⟩
      · have yr := ye i (by omega) y k1
        by_cases c : hdA ((T % 7 : Nat) : Int) (stA A B T i) y
        · right
          refine ⟨⟨l6, i, by omega, c⟩, ?_⟩
          obtain ⟨i0, a, b⟩ := c
          rcases r with ⟨d, -⟩ | ⟨j0, y', d1, d2, d⟩
          · rw [a] at d; cases d
          · have ey : y = y' := hdA_u ⟨i0, a, b⟩ ⟨j0, d1, d2⟩
            subst ey
            rcases d with ⟨d, -⟩ | ⟨-, -, z, g1, g2, -, -, -, -, d⟩
            · exfalso
              rcases d with d | d
              · exact d (by rw [yr, qe i (by omega)])
              · exact d y5
            · exact ⟨(z, T + 1, y.2.2), by rw [d]; exact List.mem_append_right _ (List.mem_singleton.mpr rfl), yb, rfl, g2, by rw [← yw]; exact g1⟩
        · left
          refine ⟨?_, fun i' hi' => ?_⟩
          · apply Classical.byContradiction
            intro n
            exact c (RDn_lv r l95 k1 n)
          · by_cases e : i' = i
            · rw [e]; exact c
            · exact k2 i' (by omega)
      · right
        refine ⟨k0, z, ?_, z2, z3, z6, zw⟩
        apply Classical.byContradiction
        intro n
        exact NRD hR h.1 h7 hw ht h1 h2 hl j1 j2 (by omega) (T := T) (by omega) (by omega) l6 (i := i) (by omega) (RDn_lv r l95 z1 n) z6 (by rw [z2, es])
  have u3 := st_tb1 hR h (T := T) (s := s) (by omega) (by omega) l6 js 3 (Nat.le_refl _)
  obtain ⟨q, q1, -, -⟩ := h.2 T (by omega) (by omega) l6
  rcases st 3 (by omega) with ⟨k1, k2⟩ | ⟨k0, z, z1, z2, z3, z6, zw⟩
  · exact Or.inl ⟨fun ⟨_, i, hi, c⟩ => k2 i hi c, AC_al q1 u3 (by omega) k1 ty yb⟩
  · right
    refine ⟨k0, ?_⟩
    rcases AC_al q1 u3 (by omega) z1 ((tokb_i z).mpr (Or.inr z6)) z2 with g | g
    · exact Or.inl ⟨z, g, z2, z3, z6, zw⟩
    · exact Or.inr g
theorem HRn_lv {t : Nat} {A A' : List (Ms × Nat × Nat)} (r : HRn t A A') (hl : A.length ≤ 95) {y : Ms × Nat × Nat} (hy : y ∈ A) (h6 : y.1.1 ≠ 6) : y ∈ A' ∧ A'.length ≤ 95 := by
  rcases r with ⟨-, e⟩ | ⟨i, z, c1, c2, c⟩
  · rw [e]; exact ⟨hy, hl⟩
  · have ez : z ≠ y := fun ez => by
      obtain ⟨i0, i1, -⟩ := List.findIdx?_eq_some_iff_getElem.mp c1
      have q : (prA A)[i]? = some z.1 := by
        unfold prA
        rw [List.getElem?_map, c2]
        rfl
      obtain ⟨i0', q'⟩ := List.getElem?_eq_some_iff.mp q
      rw [q'] at i1
      apply h6
      rw [← ez]
      simpa using i1
    have il : i < A.length := (List.getElem?_eq_some_iff.mp c2).1
    have le : (A.eraseIdx i).length + 1 = A.length := by rw [List.length_eraseIdx, if_pos il]; omega
    have ye : y ∈ A.eraseIdx i := by
      obtain ⟨n, hn⟩ := List.getElem?_of_mem hy
      rw [List.mem_eraseIdx_iff_getElem?]
      refine ⟨n, fun e => ?_, hn⟩
      rw [e, c2] at hn
      exact ez (Option.some.inj hn)
    rcases c with e | ⟨z', -, e⟩
    · rw [e]; exact ⟨ye, by omega⟩
    · have tl : tlA (A.eraseIdx i) = A.eraseIdx i := by unfold tlA; exact if_neg (by omega)
      rw [e, tl, List.length_append]
      exact ⟨List.mem_append_left _ ye, by show _ + 1 ≤ 95; omega⟩
theorem tb_dn {L s0 : Nat} {τ : Nat → qS} (hR : RNN L τ) {A : Nat → List (Ms × Nat × Nat)} {ρ : Nat → qS × qS × qS} {B : Nat → List (Ms × Nat × Nat) × List (Ms × Nat × Nat) × List (Ms × Nat × Nat)} (h : ANC2 L s0 τ A ρ B) {T s : Nat} (T0 : s0 ≤ T) (T2 : T < 7 * L) (hs : s ≤ T) (h0 : tbc s (A T) = 0) : tbc s (A (T + 1)) = 0 := by
  rcases h.1.1.2.2 T T0 T2 with ⟨l6, -⟩ | ⟨-, σ1, σ2, A1, A2, -, -, -, -, n1, n2, n3⟩
  · obtain ⟨-, -, r1, r2, r3, q, q1, q2⟩ := h.1.2 T T0 T2 l6
    have a1 := RDn_tb r1 s
    have a2 := RDn_tb r2 s
    have a3 := RDn_tb r3 s
    have a4 := ACn_tb q1 q2 s
    rw [if_neg (by omega)] at a4
    omega
  · have a1 := HRn_tb n1 s
    have a2 := HRn_tb n2 s
    have a3 := HRn_tb n3 s
    omega
theorem st_l95 {L s0 : Nat} {τ : Nat → qS} (hR : RNN L τ) {A : Nat → List (Ms × Nat × Nat)} {ρ : Nat → qS × qS × qS} {B : Nat → List (Ms × Nat × Nat) × List (Ms × Nat × Nat) × List (Ms × Nat × Nat)} (h : ANC2 L s0 τ A ρ B) {T : Nat} (h7 : 7 ≤ T) (T0 : s0 ≤ T) (T2 : T ≤ 7 * L) : (A T).length ≤ 95 := by
  have q := run_95 hR (by omega) h7 T2
  rw [← h.1.1.2.1 T T0 T2] at q
  unfold prA at q
  rw [List.length_map] at q
  exact q
-- the life of the token of a sample
theorem SMPm {L s0 : Nat} {τ : Nat → qS} (hR : RNN L τ) {A : Nat → List (Ms × Nat × Nat)} {ρ : Nat → qS × qS × qS} {B : Nat → List (Ms × Nat × Nat) × List (Ms × Nat × Nat) × List (Ms × Nat × Nat)} (h : ANC2 L s0 τ A ρ B) (h7 : 224 ≤ s0) {w : Nat} (hw : w < 6) {t : Nat} (ht : t % 7 = w) (h1 : 7 * 145 ≤ t) (h2 : t + 1 ≤ 7 * L) (hl : LKs (τ (t + 1)) w) {j : Nat} (j1 : 1 ≤ j) (j2 : j ≤ 143) {s : Nat} (es : s = t + 1 - 7 * j) (js : s0 < s) {y : Ms × Nat × Nat} (y5 : xw y.1 0 = 5) (yw : xw y.1 5 = (w : Int)) (yb : y.2.2 = s) (y6 : y.1.1 ≠ 6) (h0 : y ∈ A s) : ∀ k, s + k ≤ t + 1 → ((∀ i, i < k → ¬ rdY A B (s + i) y) ∧ y ∈ A (s + k)) ∨ (∃ k0, k0 < k ∧ (∀ i, i < k0 → ¬ rdY A B (s + i) y) ∧ rdY A B (s + k0) y ∧ PRm (w : Int) s (s + k0) (A (s + k))) ∨ tbc s (A (s + k)) = 0
  | 0, _ => Or.inl ⟨fun i q => by omega, h0⟩
  | k + 1, hk => by
    have ih := SMPm hR h h7 hw ht h1 h2 hl j1 j2 es js y5 yw yb y6 h0 k (by omega)
    rw [show s + (k + 1) = s + k + 1 by omega]
    rcases ih with ⟨i1, i2⟩ | ⟨k0, i1, i2, i3, z, z1, z2, z3, z4, z5⟩ | g
    · by_cases e6 : (s + k) % 7 = 6
      · left
        refine ⟨fun i q => ?_, ?_⟩
        · by_cases e : i = k
          · rw [e]; exact fun c => by have := c.1; omega
          · exact i1 i (by omega)
        · rcases h.1.1.2.2 (s + k) (by omega) (by omega) with ⟨e, -⟩ | ⟨-, σ1, σ2, A1, A2, -, -, -, -, n1, n2, n3⟩
          · omega
          · have l95 := st_l95 hR h (T := s + k) (by omega) (by omega) (by omega)
            obtain ⟨a1, b1⟩ := HRn_lv n1 l95 i2 y6
            obtain ⟨a2, b2⟩ := HRn_lv n2 b1 a1 y6
            exact (HRn_lv n3 b2 a2 y6).1
      · rcases TKRm hR h h7 hw ht h1 h2 hl j1 j2 es js y5 yw yb (T := s + k) (by omega) (by omega) (by omega) i2 with ⟨g1, g2⟩ | ⟨g1, g2⟩
        · rcases g2 with g2 | g2
          · refine Or.inl ⟨fun i q => ?_, g2⟩
            by_cases e : i = k
            · rw [e]; exact g1
            · exact i1 i (by omega)
          · exact Or.inr (Or.inr g2)
        · rcases g2 with g2 | g2
          · exact Or.inr (Or.inl ⟨k, by omega, i1, g1, g2⟩)
          · exact Or.inr (Or.inr g2)
    · have z6 : z.1.1 ≠ 6 := by rw [z5]; omega
      by_cases e6 : (s + k) % 7 = 6
      · right; left
        refine ⟨k0, by omega, i2, i3, z, ?_, z2, z3, z4, z5⟩
        rcases h.1.1.2.2 (s + k) (by omega) (by omega) with ⟨e, -⟩ | ⟨-, σ1, σ2, A1, A2, -, -, -, -, n1, n2, n3⟩
        · omega
        · have l95 := st_l95 hR h (T := s + k) (by omega) (by omega) (by omega)
          obtain ⟨a1, b1⟩ := HRn_lv n1 l95 z1 z6
          obtain ⟨a2, b2⟩ := HRn_lv n2 b1 a1 z6
          exact (HRn_lv n3 b2 a2 z6).1
      · have l6 : (s + k) % 7 < 6 := by omega
        have st : ∀ i, i ≤ 3 → z ∈ stA A B (s + k) i := fun i => by
          induction i with
          | zero => intro _; exact z1
          | succ i hi =>
            intro q
            have m := hi (by omega)
            apply Classical.byContradiction
            intro n
            exact NRD hR h.1 h7 hw ht h1 h2 hl j1 j2 (by omega) (T := s + k) (by omega) (by omega) l6 (i := i) (by omega) (RDn_lv (st_rd h.1 (by omega : s0 ≤ s + k) (by omega) l6 (i := i) (by omega)) (st_95 hR h.1 (by omega : 224 ≤ s + k) (by omega) (by omega) l6 i (by omega)) m n) z4 (by rw [z2, es])
        have u3 := st_tb1 hR h (T := s + k) (s := s) (by omega) (by omega) l6 js 3 (Nat.le_refl _)
        obtain ⟨q, q1, -, -⟩ := h.2 (s + k) (by omega) (by omega) l6
        rcases AC_al q1 u3 (by omega) (st 3 (Nat.le_refl _)) ((tokb_i z).mpr (Or.inr z4)) z2 with g | g
        · exact Or.inr (Or.inl ⟨k0, by omega, i2, i3, z, g, z2, z3, z4, z5⟩)
        · exact Or.inr (Or.inr g)
    · exact Or.inr (Or.inr (tb_dn hR h (T := s + k) (by omega) (by omega) (by omega) g))

