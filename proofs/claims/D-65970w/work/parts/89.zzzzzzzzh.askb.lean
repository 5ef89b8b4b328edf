-- the coverage of a sample with the budget of FETCH and ASK letters: a GIVE takes the place of its ASK
theorem qa_5 {x : Ms} (h : xw x 0 = 5) : qa true x = true := by unfold qa t5; rw [h]; simp
def zQ (σ : qS) : Nat := (ln σ).countP (qa true)
def KQ (y : Ms × Nat × Nat) (A : List (Ms × Nat × Nat)) (m : Nat) : Prop := ∃ p n, A = p ++ y :: n ∧ n.length + p.countP (fun z => qa true z.1) ≤ m
theorem KQ_mo {y : Ms × Nat × Nat} {A : List (Ms × Nat × Nat)} {m m' : Nat} (h : KQ y A m) (hm : m ≤ m') : KQ y A m' := by
  obtain ⟨p, n, e, h2⟩ := h
  exact ⟨p, n, e, by omega⟩
theorem KQ_mem {y : Ms × Nat × Nat} {A : List (Ms × Nat × Nat)} {m : Nat} (h : KQ y A m) : y ∈ A := by
  obtain ⟨p, n, e, h2⟩ := h
  rw [e]
  exact List.mem_append_right p List.mem_cons_self
theorem kQ_tl {y : Ms × Nat × Nat} {A : List (Ms × Nat × Nat)} {m : Nat} (h : KQ y A m) (hm : m ≤ 93) : KQ y (tlA A) m := by
  obtain ⟨p, n, e, h2⟩ := h
  subst e
  unfold tlA
  split
  · rename_i c95
    cases p with
    | nil => simp at c95; simp at h2; omega
    | cons b p =>
      have s := List.sublist_cons_self b p
      have f2 := s.countP_le (p := fun z : Ms × Nat × Nat => qa true z.1)
      exact ⟨p, n, rfl, by omega⟩
  · exact ⟨p, n, rfl, h2⟩
theorem kq_ap {y z : Ms × Nat × Nat} {A : List (Ms × Nat × Nat)} {m : Nat} (h : KQ y A m) : KQ y (A ++ [z]) (m + 1) := by
  obtain ⟨p, n, e, h2⟩ := h
  exact ⟨p, n ++ [z], by rw [e, List.append_assoc]; rfl, by rw [List.length_append, List.length_singleton]; omega⟩
theorem kq_er {y z : Ms × Nat × Nat} {A : List (Ms × Nat × Nat)} {m i : Nat} (h : KQ y A m) (hz : A[i]? = some z) (hn : z ≠ y) : KQ y (A.eraseIdx i) m ∧ (qa true z.1 = true → 1 ≤ m ∧ KQ y (A.eraseIdx i) (m - 1)) := by
  obtain ⟨p, n, e, h2⟩ := h
  subst e
  obtain ⟨i0, hzi⟩ := List.getElem?_eq_some_iff.mp hz
  by_cases c1 : i < p.length
  · have hp : p[i]? = some z := by rw [List.getElem?_append_left c1] at hz; exact hz
    have hc1 := cpA_er (fun z => qa true z.1) p i z hp
    refine ⟨⟨p.eraseIdx i, n, List.eraseIdx_append_of_lt_length c1 _, by omega⟩, fun t => ?_⟩
    rw [if_pos t] at hc1
    exact ⟨by omega, ⟨p.eraseIdx i, n, List.eraseIdx_append_of_lt_length c1 _, by omega⟩⟩
  · by_cases c2 : i = p.length
    · exfalso
      apply hn
      subst c2
      rw [← hzi, List.getElem_append_right (Nat.le_refl _)]
      simp
    · have hlt : i - p.length - 1 < n.length := by simp at i0; omega
      have hlen := List.length_eraseIdx_of_lt hlt
      have he : (p ++ y :: n).eraseIdx i = p ++ y :: n.eraseIdx (i - p.length - 1) := by
        rw [List.eraseIdx_append_of_length_le (by omega)]
        obtain ⟨k, hk⟩ : ∃ k, i - p.length = k + 1 := ⟨i - p.length - 1, by omega⟩
        rw [hk, List.eraseIdx_cons_succ]
        rfl
      exact ⟨⟨p, _, he, by omega⟩, fun _ => ⟨by omega, p, _, he, by omega⟩⟩
theorem kq_RD {w e : Int} {t : Nat} {y : Ms × Nat × Nat} {A A' : List (Ms × Nat × Nat)} {m : Nat} (h : KQ y A m) (r : RDn w e t A A') (hm : m ≤ 93) : hdA w A y ∨ KQ y A' m := by
  rcases r with ⟨-, e⟩ | ⟨i, z, c1, c2, c⟩
  · rw [e]; exact Or.inr h
  · by_cases ez : z = y
    · rw [ez] at c2
      exact Or.inl ⟨i, c1, c2⟩
    · obtain ⟨k1, k2⟩ := kq_er h c2 ez
      right
      rcases c with ⟨-, e⟩ | ⟨-, d5, z', -, -, -, -, -, -, e⟩
      · rw [e]; exact k1
      · have t : qa true z.1 = true := qa_5 d5
        obtain ⟨f1, f2⟩ := k2 t
        rw [e]
        exact KQ_mo (kq_ap (kQ_tl f2 (by omega))) (by omega)
theorem kq_HR {t : Nat} {y : Ms × Nat × Nat} {A A' : List (Ms × Nat × Nat)} {m : Nat} {σ σ' : qS} (h : KQ y A m) (r : HRn t A A') (hr : HR σ σ') (e0 : prA A = ln σ) (e1 : prA A' = ln σ') (hA : A.length ≤ 95) (h6 : y.1.1 ≠ 6) (hm : m ≤ 93) : KQ y A' m ∧ A'.length ≤ 95 := by
  rcases r with ⟨-, e⟩ | ⟨i, z, c1, c2, c⟩
  · rw [e]; exact ⟨h, hA⟩
  · have qz : (prA A)[i]? = some z.1 := by
      unfold prA
      rw [List.getElem?_map, c2]
      rfl
    have ez : z ≠ y := fun ez => by
      obtain ⟨i0, i1, -⟩ := List.findIdx?_eq_some_iff_getElem.mp c1
      obtain ⟨i0', q'⟩ := List.getElem?_eq_some_iff.mp qz
      rw [q'] at i1
      apply h6
      rw [← ez]
      simpa using i1
    obtain ⟨k1, k2⟩ := kq_er h c2 ez
    have il : i < A.length := (List.getElem?_eq_some_iff.mp c2).1
    have le : (A.eraseIdx i).length + 1 = A.length := by rw [List.length_eraseIdx, if_pos il]; omega
    have lA : A.length = (ln σ).length := by rw [← e0]; unfold prA; rw [List.length_map]
    have lA' : A'.length = (ln σ').length := by rw [← e1]; unfold prA; rw [List.length_map]
    rcases c with e | ⟨z', -, e⟩
    · rw [e]; exact ⟨k1, by omega⟩
    · have tl : tlA (A.eraseIdx i) = A.eraseIdx i := by unfold tlA; exact if_neg (by omega)
      have l1 : A'.length = A.length := by
        rw [e, tl, List.length_append]
        exact le
      have lx : ((ln σ).eraseIdx i).length + 1 = (ln σ).length := by rw [List.length_eraseIdx, if_pos (by omega)]; omega
      have ask : qa true z.1 = true := by
        obtain ⟨-, -, d⟩ := hr
        rcases d with ⟨d1, d2, -⟩ | ⟨j, x, d1, d2, d⟩
        · rw [← e0, c1] at d1
          cases d1
        · rw [← e0, c1] at d1
          have ej : i = j := Option.some.inj d1
          subst ej
          rw [← e0, qz] at d2
          have ex : z.1 = x := Option.some.inj d2
          rcases d with ⟨-, d, -⟩ | ⟨-, d1', -⟩ | ⟨-, -, d, -⟩ | ⟨-, -, d, -⟩
          · rw [d] at lA'; omega
          · rw [ex]; unfold qa t1; rw [d1']; rfl
          · rw [d] at lA'; omega
          · rw [d] at lA'; omega
      obtain ⟨f1, f2⟩ := k2 ask
      refine ⟨?_, by omega⟩
      rw [e]
      exact KQ_mo (kq_ap (kQ_tl f2 (by omega))) (by omega)
theorem kq_MT {t : Nat} {y : Ms × Nat × Nat} {A A' : List (Ms × Nat × Nat)} {m : Nat} {σ σ' : qS} (h : KQ y A m) (r : MTn t σ σ' A A') (hA : A.length ≤ 95) (h6 : y.1.1 ≠ 6) (hm : m ≤ 93) : KQ y A' m := by
  obtain ⟨σ1, σ2, A1, A2, r1, r2, r3, ⟨p0, p1, p2, p3⟩, n1, n2, n3⟩ := r
  obtain ⟨a1, b1⟩ := kq_HR h n1 r1 (by rw [l_clk]; exact p0) p1 hA h6 hm
  obtain ⟨a2, b2⟩ := kq_HR a1 n2 r2 p1 p2 b1 h6 hm
  exact (kq_HR a2 n3 r3 p2 p3 b2 h6 hm).1
theorem kq_AC {t : Nat} {y : Ms × Nat × Nat} {A A' : List (Ms × Nat × Nat)} {s : List Ms} {m : Nat} (h : KQ y A m) (r : ACn t A A' s) (hm : m + s.length ≤ 94) : KQ y A' (m + s.length) := by
  rcases r with ⟨e, rfl⟩ | ⟨z, e, rfl⟩ | ⟨z, z', e, rfl⟩
  · rw [e]; exact h
  · rw [List.length_singleton] at hm ⊢
    rw [e]
    exact kq_ap (kQ_tl h (by omega))
  · have e2 : [z, z'].length = 2 := rfl
    rw [e2] at hm ⊢
    rw [e]
    exact kq_ap (kQ_tl (kq_ap (kQ_tl h (by omega))) (by omega))
def f15A (A : List (Ms × Nat × Nat)) : Nat := A.countP (fun z => qa true z.1)
theorem f15_pr (A : List (Ms × Nat × Nat)) : f15A A = (prA A).countP (qa true) := by
  unfold f15A prA
  rw [List.countP_map]
  rfl
theorem KQ_f5 {y : Ms × Nat × Nat} {A : List (Ms × Nat × Nat)} {m : Nat} (h : KQ y A m) : f15A A ≤ m + 1 := by
  obtain ⟨p, n, e, h2⟩ := h
  unfold f15A
  rw [e, List.countP_append, List.countP_cons]
  have := List.countP_le_length (p := fun z : Ms × Nat × Nat => qa true z.1) (l := n)
  split <;> omega
theorem KQ_nw {y : Ms × Nat × Nat} {A p n : List (Ms × Nat × Nat)} (e : A = p ++ y :: n) (hn : n.length ≤ 1) (h5 : qa true y.1 = true) : KQ y A (f15A A) := by
  refine ⟨p, n, e, ?_⟩
  unfold f15A
  rw [e, List.countP_append, List.countP_cons, if_pos h5]
  omega
theorem BIRTH3 {L s0 : Nat} {τ : Nat → qS} {A : Nat → List (Ms × Nat × Nat)} {ρ : Nat → qS × qS × qS} {B : Nat → List (Ms × Nat × Nat) × List (Ms × Nat × Nat) × List (Ms × Nat × Nat)} (h : ANC2 L s0 τ A ρ B) {u : Nat} (h1 : s0 ≤ u) (h2 : u < 7 * L) (h6 : u % 7 < 6) (hf : fe (τ (u + 1)) ((u % 7 : Nat) : Int) = 1) : ∃ y : Ms × Nat × Nat, KQ y (A (u + 1)) ((ln (τ (u + 1))).countP (qa true)) ∧ xw y.1 0 = 5 ∧ xw y.1 5 = ((u % 7 : Nat) : Int) ∧ y.1.1 = τ (u + 1) 33 (τ (u + 1) 64 ((u % 7 : Nat) : Int)) ∧ y.2.1 = u + 1 ∧ y.2.2 = u + 1 := by
  obtain ⟨s, a, -, b⟩ := h.2 u h1 h2 h6
  obtain ⟨z, r, e, z5, z1, zw⟩ := b hf
  have e0 := h.1.1.2.1 (u + 1) (by omega) (by omega)
  have fe' : f15A (A (u + 1)) = (ln (τ (u + 1))).countP (qa true) := by rw [f15_pr, e0]
  rw [← fe']
  have t := qa_5 z5
  refine ⟨(z, u + 1, u + 1), ?_, z5, zw, z1, rfl, rfl⟩
  rcases a with ⟨-, q⟩ | ⟨x, d, q⟩ | ⟨x, x', d, q⟩
  · rw [e] at q; cases q
  · rw [e] at q
    have ez : z = x := (List.cons.inj q).1
    subst ez
    exact KQ_nw d (Nat.zero_le _) t
  · rw [e] at q
    have ez : z = x := (List.cons.inj q).1
    subst ez
    have : ∃ p, tlA (tlA (B u).2.2 ++ [(z, u + 1, u + 1)]) = p ++ [(z, u + 1, u + 1)] := by
      generalize tlA (B u).2.2 = C
      unfold tlA
      split
      · rename_i c95
        cases C with
        | nil => simp at c95
        | cons x C => exact ⟨C, rfl⟩
      · exact ⟨C, rfl⟩
    obtain ⟨p, hp⟩ := this
    rw [hp, List.append_assoc] at d
    exact KQ_nw d (Nat.le_refl _) t
def PRq (w : Int) (s T : Nat) (A : List (Ms × Nat × Nat)) (m : Nat) : Prop := ∃ y : Ms × Nat × Nat, KQ y A m ∧ y.2.2 = s ∧ y.2.1 = T + 1 ∧ xw y.1 0 = 6 ∧ y.1.1 = w
theorem TKRq {L s0 : Nat} {τ : Nat → qS} (hR : RNN L τ) {A : Nat → List (Ms × Nat × Nat)} {ρ : Nat → qS × qS × qS} {B : Nat → List (Ms × Nat × Nat) × List (Ms × Nat × Nat) × List (Ms × Nat × Nat)} (h : ANC2 L s0 τ A ρ B) (h7 : 224 ≤ s0) {w : Nat} (hw : w < 6) {t : Nat} (ht : t % 7 = w) (h1 : 7 * 145 ≤ t) (h2 : t + 1 ≤ 7 * L) (hl : LKs (τ (t + 1)) w) {j : Nat} (j1 : 1 ≤ j) (j2 : j ≤ 143) {s m : Nat} (es : s = t + 1 - 7 * j) (js : s0 < s) {y : Ms × Nat × Nat} (y5 : xw y.1 0 = 5) (yw : xw y.1 5 = (w : Int)) (yb : y.2.2 = s) {T : Nat} (T1 : s ≤ T) (T2 : T ≤ t) (l6 : T % 7 < 6) (h0 : KQ y (A T) m) (hm : m + ow (τ (T + 1)) ((T % 7 : Nat) : Int) ≤ 93) : (¬ rdY A B T y ∧ KQ y (A (T + 1)) (m + ow (τ (T + 1)) ((T % 7 : Nat) : Int))) ∨ (rdY A B T y ∧ PRq (w : Int) s T (A (T + 1)) (m + ow (τ (T + 1)) ((T % 7 : Nat) : Int))) := by
  obtain ⟨qe, ye⟩ := st_er hR h.1 (by omega : 224 ≤ T) (by omega) (by omega) l6
  have st : ∀ i, i ≤ 3 → (KQ y (stA A B T i) m ∧ ∀ i', i' < i → ¬ hdA ((T % 7 : Nat) : Int) (stA A B T i') y) ∨ (rdY A B T y ∧ PRq (w : Int) s T (stA A B T i) m) := fun i => by
    induction i with
    | zero => intro _; exact Or.inl ⟨h0, fun i' q => by omega⟩
    | succ i hi =>
      intro q
      have r := st_rd h.1 (by omega : s0 ≤ T) (by omega) l6 (i := i) (by omega)
      rcases hi (by omega) with ⟨k1, k2⟩ | ⟨k0, z, z1, z2, z3, z6, zw⟩
      · have yr := ye i (by omega) y (KQ_mem k1)
        by_cases c : hdA ((T % 7 : Nat) : Int) (stA A B T i) y
        · right
          refine ⟨⟨l6, i, by omega, c⟩, ?_⟩
          have k1' := k1
          obtain ⟨i0, a, b⟩ := c
          rcases r with ⟨d, -⟩ | ⟨j0, y', d1, d2, d⟩
          · rw [a] at d; cases d
          · have ey : y = y' := hdA_u ⟨i0, a, b⟩ ⟨j0, d1, d2⟩
            subst ey
            rcases d with ⟨d, -⟩ | ⟨-, -, z, g1, g2, -, -, -, -, d⟩
            · exfalso
              rcases d with d | d
              · exact d (by rw [yr, qe i (by omega)])
              · exact d y5
            · refine ⟨(z, T + 1, y.2.2), ⟨tlA ((stA A B T i).eraseIdx j0), [], d, ?_⟩, yb, rfl, g2, by rw [← yw]; exact g1⟩
              have q1 := cpA_tl (fun z : Ms × Nat × Nat => qa true z.1) ((stA A B T i).eraseIdx j0)
              have q2 := cpA_er (fun z : Ms × Nat × Nat => qa true z.1) (stA A B T i) j0 y d2
              rw [if_pos (qa_5 y5)] at q2
              have q3 := KQ_f5 k1'
              unfold f15A at q3
              rw [List.length_nil]
              omega
        · left
          rcases kq_RD k1 r (by omega) with g | g
          · exact absurd g c
          · refine ⟨g, fun i' hi' => ?_⟩
            by_cases e : i' = i
            · rw [e]; exact c
            · exact k2 i' (by omega)
      · right
        refine ⟨k0, z, ?_, z2, z3, z6, zw⟩
        rcases kq_RD z1 r (by omega) with g | g
        · exfalso
          exact NRD hR h.1 h7 hw ht h1 h2 hl j1 j2 (by omega) (T := T) (by omega) (by omega) l6 (i := i) (by omega) g z6 (by rw [z2, es])
        · exact g
  obtain ⟨q, q1, q2, -⟩ := h.2 T (by omega) (by omega) l6
  rcases st 3 (by omega) with ⟨k1, k2⟩ | ⟨k0, z, z1, z2⟩
  · exact Or.inl ⟨fun ⟨_, i, hi, c⟩ => k2 i hi c, KQ_mo (kq_AC k1 q1 (by omega)) (by omega)⟩
  · exact Or.inr ⟨k0, z, KQ_mo (kq_AC z1 q1 (by omega)) (by omega), z2⟩
theorem SMPsq {L s0 : Nat} {τ : Nat → qS} (hR : RNN L τ) {A : Nat → List (Ms × Nat × Nat)} {ρ : Nat → qS × qS × qS} {B : Nat → List (Ms × Nat × Nat) × List (Ms × Nat × Nat) × List (Ms × Nat × Nat)} (h : ANC2 L s0 τ A ρ B) (h7 : 224 ≤ s0) {w : Nat} (hw : w < 6) {t : Nat} (ht : t % 7 = w) (h1 : 7 * 145 ≤ t) (h2 : t + 1 ≤ 7 * L) (hl : LKs (τ (t + 1)) w) {j : Nat} (j1 : 1 ≤ j) (j2 : j ≤ 143) {s m : Nat} (es : s = t + 1 - 7 * j) (js : s0 < s) {y : Ms × Nat × Nat} (y5 : xw y.1 0 = 5) (yw : xw y.1 5 = (w : Int)) (yb : y.2.2 = s) (y6 : y.1.1 ≠ 6) (h0 : KQ y (A s) m) : ∀ k, s + k ≤ t + 1 → m + osm true τ s k ≤ 93 → ((∀ i, i < k → ¬ rdY A B (s + i) y) ∧ KQ y (A (s + k)) (m + osm true τ s k)) ∨ ∃ k0, k0 < k ∧ (∀ i, i < k0 → ¬ rdY A B (s + i) y) ∧ rdY A B (s + k0) y ∧ PRq (w : Int) s (s + k0) (A (s + k)) (m + osm true τ s k)
  | 0, _, _ => Or.inl ⟨fun i q => by omega, by simpa [osm] using h0⟩
  | k + 1, hk, hm => by
    have hm' := osm_m true τ s k 1
    have ih := SMPsq hR h h7 hw ht h1 h2 hl j1 j2 es js y5 yw yb y6 h0 k (by omega) (by omega)
    rw [show s + (k + 1) = s + k + 1 by omega]
    simp only [osm] at hm ⊢
    by_cases e6 : (s + k) % 7 = 6
    · rw [if_pos e6] at hm ⊢
      have e3 : mi true = 0 := rfl
      rw [e3] at hm ⊢
      have l95 : (A (s + k)).length ≤ 95 := by
        have q := run_95 hR (by omega) (by omega : 7 ≤ s + k) (by omega)
        rw [← h.1.1.2.1 (s + k) (by omega) (by omega)] at q
        unfold prA at q
        rw [List.length_map] at q
        exact q
      rcases h.1.1.2.2 (s + k) (by omega) (by omega) with ⟨e, -⟩ | ⟨-, mt⟩
      · omega
      · rcases ih with ⟨i1, i2⟩ | ⟨k0, i1, i2, i3, z, z1, z2, z3, z4, z5⟩
        · refine Or.inl ⟨fun i q => ?_, KQ_mo (kq_MT i2 mt l95 y6 (by omega)) (by omega)⟩
          by_cases e : i = k
          · rw [e]; exact fun c => by have := c.1; omega
          · exact i1 i (by omega)
        · have z6 : z.1.1 ≠ 6 := by rw [z5]; omega
          exact Or.inr ⟨k0, by omega, i2, i3, z, KQ_mo (kq_MT z1 mt l95 z6 (by omega)) (by omega), z2, z3, z4, z5⟩
    · rw [if_neg e6] at hm ⊢
      have l6 : (s + k) % 7 < 6 := by omega
      rcases ih with ⟨i1, i2⟩ | ⟨k0, i1, i2, i3, z, z1, z2, z3, z4, z5⟩
      · rcases TKRq hR h h7 hw ht h1 h2 hl j1 j2 es js y5 yw yb (T := s + k) (by omega) (by omega) l6 i2 (by omega) with ⟨g1, g2⟩ | ⟨g1, g2⟩
        · refine Or.inl ⟨fun i q => ?_, KQ_mo g2 (by omega)⟩
          by_cases e : i = k
          · rw [e]; exact g1
          · exact i1 i (by omega)
        · obtain ⟨z, z1, z2⟩ := g2
          exact Or.inr ⟨k, by omega, i1, g1, z, KQ_mo z1 (by omega), z2⟩
      · right
        refine ⟨k0, by omega, i2, i3, z, ?_, z2, z3, z4, z5⟩
        have z6 : z.1.1 ≠ 6 := by rw [z5]; omega
        obtain ⟨-, -, r1, r2, r3, -⟩ := h.1.2 (s + k) (by omega) (by omega) l6
        obtain ⟨q, q1, q2, -⟩ := h.2 (s + k) (by omega) (by omega) l6
        have nr : ∀ i, i < 3 → ¬ hdA (((s + k) % 7 : Nat) : Int) (stA A B (s + k) i) z := fun i hi g => NRD hR h.1 h7 hw ht h1 h2 hl j1 j2 (by omega) (T := s + k) (by omega) (by omega) l6 hi g z4 (by rw [z2, es])
        rcases kq_RD z1 r1 (by omega) with g | k1
        · exact absurd g (nr 0 (by omega))
        rcases kq_RD k1 r2 (by omega) with g | k2
        · exact absurd g (nr 1 (by omega))
        rcases kq_RD k2 r3 (by omega) with g | k3
        · exact absurd g (nr 2 (by omega))
        exact KQ_mo (kq_AC k3 q1 (by omega)) (by omega)
-- coverage of a sample of a LACKS wait
theorem SMPq {L s0 : Nat} {τ : Nat → qS} (hR : RNN L τ) {A : Nat → List (Ms × Nat × Nat)} {ρ : Nat → qS × qS × qS} {B : Nat → List (Ms × Nat × Nat) × List (Ms × Nat × Nat) × List (Ms × Nat × Nat)} (h : ANC2 L s0 τ A ρ B) (h7 : 224 ≤ s0) {w : Nat} (hw : w < 6) {t : Nat} (ht : t % 7 = w) (h1 : 7 * 145 ≤ t) (h2 : t + 1 ≤ 7 * L) (hl : LKs (τ (t + 1)) w) {j : Nat} (j1 : 1 ≤ j) (j2 : j ≤ 143) {s : Nat} (es : s = t + 1 - 7 * j) (js : s0 < s) (ha : τ s 65 (w : Int) = 1) {K : Nat} (hK : s + K ≤ t + 1) (hF : zQ (τ s) + osm true τ s K ≤ 93) : ∃ b k0 : Nat, b < 6 ∧ τ s 33 (τ s 64 (w : Int)) = (b : Int) ∧ (∀ k, 14 ≤ k → k < K → k < k0 → (s + k) % 7 = b → T1t A (s + k)) ∧ ∀ k, k0 + 15 ≤ k → k < K → (s + k) % 7 = w → T1t A (s + k) := by
  obtain ⟨-, v1, -⟩ := lk_wait hR hw ht h1 h2 hl (j - 1) (by omega)
  rw [show j - 1 + 1 = j by omega, ← es] at v1
  obtain ⟨u, eu⟩ : ∃ u, s = u + 1 := ⟨s - 1, by omega⟩
  have u7 : u % 7 = w := by omega
  have fe1 : fe (τ s) (w : Int) = 1 := by unfold fe; exact if_pos ⟨v1, ha⟩
  obtain ⟨y, y1, y5, yw, ya, ys, yb⟩ := BIRTH3 h (u := u) (by omega) (by omega) (by omega) (by rw [u7, ← eu]; exact fe1)
  rw [u7] at yw ya
  rw [← eu] at y1 ya ys yb
  have e0 := h.1.1.2.1 s (by omega) (by omega)
  have ym : y.1 ∈ ln (τ s) := by rw [← e0]; exact List.mem_map_of_mem (KQ_mem y1)
  obtain ⟨b1, b2⟩ := lt5_b hR (by omega) (by omega) ym y5
  have hbn : ((y.1.1).toNat : Int) = y.1.1 := Int.toNat_of_nonneg b1
  have y6 : y.1.1 ≠ 6 := by omega
  have sm := fun k a b => SMPsq hR h h7 hw ht h1 h2 hl j1 j2 es js y5 yw yb y6 y1 k a b
  have mo : ∀ k, k ≤ K → zQ (τ s) + osm true τ s k ≤ 93 := fun k hk => by
    have := osm_m true τ s k (K - k)
    rw [show k + (K - k) = K by omega] at this
    omega
  have cv : ∀ k, 14 ≤ k → k < K → (∀ i, i ≤ k → ¬ rdY A B (s + i) y) → (s + k) % 7 = (y.1.1).toNat → T1t A (s + k) := fun k k14 kK nr kb => by
    rcases sm k (by omega) (mo k (by omega)) with ⟨-, g⟩ | ⟨k0, g1, -, g3, -⟩
    · refine COV hR h.1 (by omega) (by omega) (by omega) (by omega) (KQ_mem g) (by rw [kb, hbn]) (by omega) (fun i hi c => nr k (Nat.le_refl _) ⟨by omega, i, hi, c⟩)
    · exact absurd g3 (nr k0 (by omega))
  by_cases c : ∃ k, k < K ∧ rdY A B (s + k) y
  · obtain ⟨k0, c3⟩ : ∃ k0, (k0 < K ∧ rdY A B (s + k0) y) ∧ ∀ i, i < k0 → ¬ (i < K ∧ rdY A B (s + i) y) := by
      obtain ⟨k, c1, c2⟩ := c
      obtain ⟨q, -, q2, q3, q4⟩ := fst_P (P := fun k => rdY A B (s + k) y) (a := 0) K ⟨k, by omega, by omega, c2⟩
      exact ⟨q, ⟨by omega, q3⟩, fun i hi p => q4 i (by omega) hi p.2⟩
    obtain ⟨⟨c1, c2⟩, c3⟩ := c3
    refine ⟨(y.1.1).toNat, k0, by omega, by rw [hbn, ya], fun k k14 kK kk kb => cv k k14 kK (fun i hi q => ?_) kb, fun k kk kK kw => ?_⟩
    · exact c3 i (by omega) ⟨by omega, q⟩
    · rcases sm k (by omega) (mo k (by omega)) with ⟨g, -⟩ | ⟨k1, g1, g2, g3, z, z1, z2, z3, z4, z5⟩
      · exact absurd c2 (g k0 (by omega))
      · have e : k1 = k0 := by
          rcases (by omega : k1 < k0 ∨ k1 = k0 ∨ k0 < k1) with q | q | q
          · exact absurd ⟨by omega, g3⟩ (c3 k1 q)
          · exact q
          · exact absurd c2 (g2 k0 q)
        subst e
        exact COV hR h.1 (by omega) (by omega) (by omega) (by omega) (KQ_mem z1) (by rw [kw, z5]) (by omega) (fun i hi q => NRD hR h.1 h7 hw ht h1 h2 hl j1 j2 (by omega) (T := s + k) (by omega) (by omega) (by omega) hi q z4 (by rw [z2, es]))
  · refine ⟨(y.1.1).toNat, K, by omega, by rw [hbn, ya], fun k k14 kK _ kb => cv k k14 kK (fun i hi q => c ⟨i, by omega, q⟩) kb, fun k kk kK _ => by omega⟩
theorem SMPrq {L s0 : Nat} {τ : Nat → qS} (hR : RNN L τ) {A : Nat → List (Ms × Nat × Nat)} {ρ : Nat → qS × qS × qS} {B : Nat → List (Ms × Nat × Nat) × List (Ms × Nat × Nat) × List (Ms × Nat × Nat)} (h : ANC2 L s0 τ A ρ B) (h7 : 224 ≤ s0) {w : Nat} (hw : w < 6) {t : Nat} (ht : t % 7 = w) (h1 : 7 * 145 ≤ t) (h2 : t + 1 ≤ 7 * L) (hl : LKs (τ (t + 1)) w) {j : Nat} (j1 : 1 ≤ j) (j2 : j ≤ 143) {s : Nat} (es : s = t + 1 - 7 * j) (js : s0 < s) (ha : τ s 65 (w : Int) = 1) {n K : Nat} (eK : K = 7 * n + 6) (hK : s + K ≤ t + 1) (hF : zQ (τ s) + osm true τ s K ≤ 93) {q : Nat} (eq : q = s / 7) : ∃ r1, ∀ r, q + 3 ≤ r → r ≤ q + n → (r < r1 ∨ r1 + 3 ≤ r) → CVr A r := by
  obtain ⟨b, k0, b6, -, c1, c2⟩ := SMPq hR h h7 hw ht h1 h2 hl j1 j2 es js ha hK hF
  have e7 : s % 7 = w + 1 := by omega
  refine ⟨(s + k0) / 7, fun r r1 r2 r3 => ?_⟩
  rcases r3 with r3 | r3
  · obtain ⟨k, ek⟩ : ∃ k, s + k = 7 * r + b := ⟨7 * r + b - s, by omega⟩
    exact ⟨b, b6, by rw [← ek]; exact c1 k (by omega) (by omega) (by omega) (by omega)⟩
  · obtain ⟨k, ek⟩ : ∃ k, s + k = 7 * r + w := ⟨7 * r + w - s, by omega⟩
    exact ⟨w, hw, by rw [← ek]; exact c2 k (by omega) (by omega) (by omega)⟩
theorem SMPcq {L s0 : Nat} {τ : Nat → qS} (hR : RNN L τ) {A : Nat → List (Ms × Nat × Nat)} {ρ : Nat → qS × qS × qS} {B : Nat → List (Ms × Nat × Nat) × List (Ms × Nat × Nat) × List (Ms × Nat × Nat)} (h : ANC2 L s0 τ A ρ B) (h7 : 224 ≤ s0) {w : Nat} (hw : w < 6) {t : Nat} (ht : t % 7 = w) (h1 : 7 * 145 ≤ t) (h2 : t + 1 ≤ 7 * L) (hl : LKs (τ (t + 1)) w) {j : Nat} (j1 : 1 ≤ j) (j2 : j ≤ 143) {s : Nat} (es : s = t + 1 - 7 * j) (js : s0 < s) (ha : τ s 65 (w : Int) = 1) {n K : Nat} (eK : K = 7 * n + 6) (hK : s + K ≤ t + 1) (hF : zQ (τ s) + osm true τ s K ≤ 93) : n ≤ ctq (CVr A) (s / 7 + 1) n + 5 := by
  obtain ⟨r1, c⟩ := SMPrq hR h h7 hw ht h1 h2 hl j1 j2 es js ha eK hK hF rfl
  exact ctq_gap c
theorem osm_c1 (τ : Nat → qS) (s : Nat) : ∀ k, osm true τ s k ≤ ctq (OWt τ) s k + ctq (LKt τ) s k
  | 0 => by simp [osm]
  | k + 1 => by
    have ih := osm_c1 τ s k
    have j2 := ctq_jn (P := OWt τ) (s := s) k 1
    have j3 := ctq_jn (P := LKt τ) (s := s) k 1
    rw [j2, j3]
    simp only [osm]
    by_cases c : (s + k) % 7 = 6
    · rw [if_pos c]
      have e3 : mi true = 0 := rfl
      omega
    · rw [if_neg c]
      have o2 := ow_2 (τ (s + k + 1)) (((s + k) % 7 : Nat) : Int)
      by_cases d : LKs (τ (s + k + 1)) (((s + k) % 7 : Nat) : Int)
      · have p := ctq_pt (P := LKt τ) (s := s + k) (x := s + k) 1 (by omega) (by omega) ⟨by omega, d⟩
        by_cases e : 1 ≤ ow (τ (s + k + 1)) (((s + k) % 7 : Nat) : Int)
        · have q := ctq_pt (P := OWt τ) (s := s + k) (x := s + k) 1 (by omega) (by omega) ⟨by omega, e⟩
          omega
        · omega
      · have o1 := ow_1 d
        by_cases e : 1 ≤ ow (τ (s + k + 1)) (((s + k) % 7 : Nat) : Int)
        · have q := ctq_pt (P := OWt τ) (s := s + k) (x := s + k) 1 (by omega) (by omega) ⟨by omega, e⟩
          omega
        · omega
theorem osm_7 (τ : Nat → qS) (s n : Nat) : osm true τ s (7 * n) ≤ (ctq (OWv τ 0) s (7 * n) + ctq (OWv τ 1) s (7 * n) + ctq (OWv τ 2) s (7 * n) + ctq (OWv τ 3) s (7 * n) + ctq (OWv τ 4) s (7 * n) + ctq (OWv τ 5) s (7 * n)) + ctq (LKt τ) s (7 * n) := by
  have a := osm_c1 τ s (7 * n)
  have b := ctq_m7 (v := 6) (s := s) (by omega) n
  have c := ctq_six (P := OWt τ) (s := s) (k := 7 * n) (fun t q => q.1)
  have c' : ctq (OWt τ) s (7 * n) ≤ ctq (OWv τ 0) s (7 * n) + ctq (OWv τ 1) s (7 * n) + ctq (OWv τ 2) s (7 * n) + ctq (OWv τ 3) s (7 * n) + ctq (OWv τ 4) s (7 * n) + ctq (OWv τ 5) s (7 * n) := c
  omega
theorem SMPdq {L s0 : Nat} {τ : Nat → qS} (hR : RNN L τ) {A : Nat → List (Ms × Nat × Nat)} {ρ : Nat → qS × qS × qS} {B : Nat → List (Ms × Nat × Nat) × List (Ms × Nat × Nat) × List (Ms × Nat × Nat)} (h : ANC2 L s0 τ A ρ B) (h7 : 224 ≤ s0) {w : Nat} (hw : w < 6) {t : Nat} (ht : t % 7 = w) (h1 : 7 * 145 ≤ t) (h2 : t + 1 ≤ 7 * L) (hl : LKs (τ (t + 1)) w) {i s : Nat} (i1 : 1 ≤ i) (i2 : i ≤ 11) (es : s = t + 1 - 91 * i) (js : s0 < s) {n m : Nat} (em : m = n + 1) (hn : n ≤ 12) : n ≤ ctq (CVr A) (s / 7 + 1) n + 5 ∨ 94 ≤ zQ (τ s) + (ctq (OWv τ 0) s (7 * m) + ctq (OWv τ 1) s (7 * m) + ctq (OWv τ 2) s (7 * m) + ctq (OWv τ 3) s (7 * m) + ctq (OWv τ 4) s (7 * m) + ctq (OWv τ 5) s (7 * m)) + ctq (LKt τ) s (7 * m) := by
  by_cases c : zQ (τ s) + osm true τ s (7 * n + 6) ≤ 93
  · left
    exact SMPcq hR h h7 hw ht h1 h2 hl (j := 13 * i) (by omega) (by omega) (by omega) js (by rw [es]; exact lk_age hR hw ht h1 h2 hl i1 i2) rfl (by omega) c
  · right
    have a := osm_7 τ s m
    have b := osm_m true τ s (7 * n + 6) 1
    rw [show 7 * n + 6 + 1 = 7 * m by omega] at b
    omega

