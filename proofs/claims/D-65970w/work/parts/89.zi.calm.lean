theorem wk_x {L : Nat} {τ : Nat → qS} (h : RNN L τ) {x : Ms} (hx : x.1 = 6) {r i c m : Nat} (hl : r < L) : ∀ j, i + j ≤ 6 → m + 5 * j ≤ 94 → DX x (ln (τ (7 * r + i))) c m → DX x (ln (τ (7 * r + i + j))) c (m + 5 * j)
  | 0, _, _, hd => hd
  | j + 1, hj, hm, hd => by
    have ih := wk_x h hx hl j (by omega) (by omega) hd
    have hs := h.2 (7 * r + i + j) (by omega)
    rw [show (7 * r + i + j) % 7 = i + j by omega] at hs
    obtain ⟨s, hs⟩ := STP_ts hs
    have := ts_x ih (by omega) hs (by omega)
    rw [show 7 * r + i + (j + 1) = 7 * r + i + j + 1 by omega, show m + 5 * (j + 1) = m + 5 * j + 5 by omega]
    exact this
theorem SHc {L : Nat} {τ : Nat → qS} (h : RNN L τ) {r v : Nat} (hv : v < 6) (h1 : 1 ≤ r) (hl : r + 3 ≤ L) {x : Ms} {M : List Ms} (hx : x.1 = 6) (hm : mq M = mq (ln (τ (7 * r + v)))) (h6 : (mq (ln (τ (7 * r + v)))).length ≤ 6) (he : ln (τ (7 * r + v + 1)) = tl95 M ++ [x]) : ∃ r', r ≤ r' ∧ r' < r + 3 ∧ HD3 x (ln (τ (7 * r' + 6))) := by
  apply Classical.byContradiction
  intro hn
  have no : ∀ r', r ≤ r' → r' < r + 3 → ¬ HD3 x (ln (τ (7 * r' + 6))) := fun r' a b c => hn ⟨r', a, b, c⟩
  have d0 : DX x (ln (τ (7 * r + (v + 1)))) 6 0 := by
    refine ⟨tl95 M, [], he, ?_, by simp⟩
    rcases mq_tl M with e | ⟨-, e⟩
    · rw [e, hm]; exact h6
    · rw [e, hm, List.length_drop]; omega
  have d1 := wk_x h hx (r := r) (i := v + 1) (by omega) (5 - v) (by omega) (by omega) d0
  rw [show 7 * r + (v + 1) + (5 - v) = 7 * r + 6 by omega] at d1
  have d2 := ms_x (c := 3) (DX_mo d1 (m' := 25) (by omega)) hx (stp_mtk h (by omega)) (no r (by omega) (by omega)) (run_95 h (by omega) (by omega) (by omega)) (by omega)
  rw [show 7 * r + 7 = 7 * (r + 1) + 0 by omega] at d2
  have d3 := wk_x h hx (r := r + 1) (i := 0) (by omega) 6 (by omega) (by omega) d2
  have d4 := ms_x (c := 0) d3 hx (stp_mtk h (r := r + 1) (by omega)) (no (r + 1) (by omega) (by omega)) (run_95 h (by omega) (by omega) (by omega)) (by omega)
  rw [show 7 * (r + 1) + 7 = 7 * (r + 2) + 0 by omega] at d4
  have d5 := wk_x h hx (r := r + 2) (i := 0) (by omega) 6 (by omega) (by omega) d4
  obtain ⟨j, j1, j2⟩ := DX_h d5 hx
  exact no (r + 2) (by omega) (by omega) ⟨j, by omega, j2⟩
def ai (σ : qS) (v : Int) : Nat := if σ 62 v = -1 ∧ σ 65 v = 1 then 1 else 0
theorem ai_1 (σ : qS) (v : Int) : ai σ v ≤ 1 := by unfold ai; split <;> omega
theorem ai_z {σ : qS} {v : Int} (h : ¬ idl σ v 1) : ai σ v = 0 := by unfold ai; exact if_neg h
theorem ai_i {σ : qS} {v : Int} (h : idl σ v 1) : ai σ v = 1 := by unfold ai; exact if_pos h
theorem ai_k {σ σ' : qS} {v : Int} (h1 : σ' 62 v = σ 62 v) (h2 : σ' 65 v = σ 65 v) : ai σ' v = ai σ v := by unfold ai; rw [h1, h2]
def aks (σ : qS) : Nat := ai σ 0 + ai σ 1 + ai σ 2 + ai σ 3 + ai σ 4 + ai σ 5
def tN (w : Int) (σ σ' : qS) : Prop := ∃ L, mq L = mq (ln σ) ∧ L.length ≤ (ln σ).length ∧ (tA w σ σ' L ∨ tI w σ σ' L ∨ tF w σ σ' L ∨ tB w σ σ' L)
def RG (τ : Nat → qS) (a b : Nat) : Prop := (∀ r, a ≤ r → r < b → ∀ x, HD3 x (ln (τ (7 * r + 6))) → isK x = true) ∧ ∀ t, 7 * a ≤ t → t < 7 * b → QK τ t
theorem tl_l (L : List Ms) : (mq (tl95 L)).length ≤ (mq L).length := by
  rcases mq_tl L with e | ⟨-, e⟩
  · rw [e]; exact Nat.le_refl _
  · rw [e, List.length_drop]; omega
theorem rg_t {L : Nat} {τ : Nat → qS} (h : RNN L τ) {a b : Nat} (hg : RG τ a b) (hb : b ≤ L) {r v : Nat} (hv : v < 6) (h1 : 1 ≤ a) (h2 : a ≤ r) (h3 : r + 3 ≤ b) (h6 : (mq (ln (τ (7 * r + v)))).length ≤ 6) : tN v (τ (7 * r + v)) (τ (7 * r + v + 1)) ∧ (mq (ln (τ (7 * r + v + 1)))).length ≤ (mq (ln (τ (7 * r + v)))).length + ai (τ (7 * r + 7)) v ∧ ai (τ (7 * r)) v + ai (τ (7 * r + 7)) v ≤ 1 := by
  have k1 := keep_w (r := r) h hv v (by omega) (by omega)
  have k2 := keep_a h (r := r) hv (j := 7) (by omega) (by omega) (by omega)
  rw [ai_k (k2 _ (by decide)) (k2 _ (by decide)), ← ai_k (k1 _ (by decide)) (k1 _ (by decide))]
  have gs := h.1 (7 * r + v) (by omega)
  have hq := hg.2 (7 * r + v) (by omega) (by omega) (by omega)
  rw [show (7 * r + v) % 7 = v by omega] at hq
  obtain ⟨M, m1, m2, c⟩ := WTK_q gs.1 (by omega) (run_95 h (by omega) (by omega) (by omega)) (stp_wtk h hv (by omega))
  have lM : (mq M).length = (mq (ln (τ (7 * r + v)))).length := by rw [m1]
  have b1 := ai_1 (τ (7 * r + v)) v
  have b2 := ai_1 (τ (7 * r + v + 1)) v
  have l1 := tl_l M
  rcases c with c | c | c | c | c
  · refine ⟨⟨M, m1, m2, Or.inl c⟩, ?_⟩
    obtain ⟨c1, c2, x, x1, -, c3⟩ := c
    rw [ai_z (fun e => idl_n1 e c1), ai_i c2, c3, mq_app, List.length_append, mq_1 x1, List.length_singleton]
    omega
  · refine ⟨⟨M, m1, m2, Or.inr (Or.inl c)⟩, ?_⟩
    obtain ⟨c1, c2, c3, c4⟩ := c
    refine ⟨by rw [c4]; omega, ?_⟩
    by_cases e : idl (τ (7 * r + v)) v 1
    · have : ¬ idl (τ (7 * r + v + 1)) v 1 := fun e2 => by
        have a1 := c3.2
        rw [e.2, e2.2] at a1
        exact absurd a1 (by decide)
      rw [ai_z this]; omega
    · rw [ai_z e]; omega
  · exfalso
    obtain ⟨-, -, x, x1, x2, c3⟩ := c
    obtain ⟨r', e1, e2, e3⟩ := SHc h hv (by omega) (by omega) x1 m1 h6 c3
    have := hg.1 r' (by omega) (by omega) x e3
    rw [isK_f (by omega)] at this
    cases this
  · refine ⟨⟨M, m1, m2, Or.inr (Or.inr (Or.inl c))⟩, ?_⟩
    obtain ⟨c1, c2, -⟩ := c
    have : ¬ idl (τ (7 * r + v + 1)) v 1 := fun e => idl_n1 e c1
    rw [ai_z this, c2]
    omega
  · refine ⟨⟨M, m1, m2, Or.inr (Or.inr (Or.inr c))⟩, ?_⟩
    obtain ⟨c1, c2⟩ := c
    have : ¬ idl (τ (7 * r + v + 1)) v 1 := fun e => by have := e.1; omega
    rw [ai_z this]
    rcases c2 with c2 | ⟨x, x1, c2⟩ | c2
    · rw [c2]; omega
    · rw [c2, mq_app, mq_0 x1, List.append_nil]; omega
    · exact absurd c2 hq.1
theorem rg_r {L : Nat} {τ : Nat → qS} (h : RNN L τ) {a b : Nat} (hg : RG τ a b) (hb : b ≤ L) {r : Nat} (h1 : 1 ≤ a) (h2 : a ≤ r) (h3 : r + 3 ≤ b) (hm : (mq (ln (τ (7 * r)))).length ≤ aks (τ (7 * r)) - 3) : (∀ v : Nat, v < 6 → tN v (τ (7 * r + v)) (τ (7 * r + v + 1)) ∧ (mq (ln (τ (7 * r + v)))).length ≤ 6) ∧ (mq (ln (τ (7 * (r + 1))))).length ≤ aks (τ (7 * (r + 1))) - 3 := by
  have f := fun v => ai_1 (τ (7 * r)) v
  have f0 := f 0
  have f1 := f 1
  have f2 := f 2
  have f3 := f 3
  have f4 := f 4
  have f5 := f 5
  unfold aks at hm
  have e0 : (mq (ln (τ (7 * r + 0)))).length ≤ 6 := by rw [Nat.add_zero]; omega
  obtain ⟨t0, u0, w0⟩ := rg_t h hg hb (v := 0) (by omega) h1 h2 h3 e0
  simp only [Nat.add_zero, Int.natCast_zero, Int.cast_ofNat_Int] at u0 w0
  have e1 : (mq (ln (τ (7 * r + 1)))).length ≤ 6 := by omega
  obtain ⟨t1, u1, w1⟩ := rg_t h hg hb (v := 1) (by omega) h1 h2 h3 e1
  simp only [Nat.add_assoc, Nat.reduceAdd, Int.cast_ofNat_Int] at u1 w1
  have e2 : (mq (ln (τ (7 * r + 2)))).length ≤ 6 := by omega
  obtain ⟨t2, u2, w2⟩ := rg_t h hg hb (v := 2) (by omega) h1 h2 h3 e2
  simp only [Nat.add_assoc, Nat.reduceAdd, Int.cast_ofNat_Int] at u2 w2
  have e3 : (mq (ln (τ (7 * r + 3)))).length ≤ 6 := by omega
  obtain ⟨t3, u3, w3⟩ := rg_t h hg hb (v := 3) (by omega) h1 h2 h3 e3
  simp only [Nat.add_assoc, Nat.reduceAdd, Int.cast_ofNat_Int] at u3 w3
  have e4 : (mq (ln (τ (7 * r + 4)))).length ≤ 6 := by omega
  obtain ⟨t4, u4, w4⟩ := rg_t h hg hb (v := 4) (by omega) h1 h2 h3 e4
  simp only [Nat.add_assoc, Nat.reduceAdd, Int.cast_ofNat_Int] at u4 w4
  have e5 : (mq (ln (τ (7 * r + 5)))).length ≤ 6 := by omega
  obtain ⟨t5, u5, w5⟩ := rg_t h hg hb (v := 5) (by omega) h1 h2 h3 e5
  simp only [Nat.add_assoc, Nat.reduceAdd, Int.cast_ofNat_Int] at u5 w5
  refine ⟨fun v hv => ?_, ?_⟩
  · have hc : v = 0 ∨ v = 1 ∨ v = 2 ∨ v = 3 ∨ v = 4 ∨ v = 5 := by omega
    rcases hc with rfl | rfl | rfl | rfl | rfl | rfl
    · exact ⟨t0, e0⟩
    · exact ⟨t1, e1⟩
    · exact ⟨t2, e2⟩
    · exact ⟨t3, e3⟩
    · exact ⟨t4, e4⟩
    · exact ⟨t5, e5⟩
  · have hq := (MT_q (run_95 h (by omega) (by omega) (by omega)) (stp_mtk h (r := r) (by omega))).1
    rw [show 7 * (r + 1) = 7 * r + 7 by omega, hq, List.length_drop]
    unfold aks
    omega
theorem rg_all {L : Nat} {τ : Nat → qS} (h : RNN L τ) {a b : Nat} (hg : RG τ a b) (hb : b ≤ L) (h1 : 1 ≤ a) (h0 : mq (ln (τ (7 * a))) = []) : ∀ k, a + k + 2 ≤ b → (mq (ln (τ (7 * (a + k))))).length ≤ aks (τ (7 * (a + k))) - 3
  | 0, _ => by rw [Nat.add_zero, h0]; exact Nat.zero_le _
  | k + 1, hk => by
    have ih := rg_all h hg hb h1 h0 k (by omega)
    exact (rg_r h hg hb h1 (by omega) (by omega) ih).2
theorem rg_tN {L : Nat} {τ : Nat → qS} (h : RNN L τ) {a b : Nat} (hg : RG τ a b) (hb : b ≤ L) (h1 : 1 ≤ a) (h0 : mq (ln (τ (7 * a))) = []) {r v : Nat} (hv : v < 6) (h2 : a ≤ r) (h3 : r + 3 ≤ b) : tN v (τ (7 * r + v)) (τ (7 * r + v + 1)) ∧ (mq (ln (τ (7 * r + v)))).length ≤ 6 := by
  have := rg_all h hg hb h1 h0 (r - a) (by omega)
  rw [show a + (r - a) = r by omega] at this
  exact (rg_r h hg hb h1 h2 h3 this).1 v hv

