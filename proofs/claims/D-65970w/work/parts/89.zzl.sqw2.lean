def RH (τ : Nat → qS) (a b : Nat) : Prop := (∀ r, a ≤ r → r < b → ∀ x, HD3 x (ln (τ (7 * r + 6))) → isK x = true) ∧ ∀ t, 7 * a ≤ t → t < 7 * b → QG τ t
theorem rh_t {L : Nat} {τ : Nat → qS} (h : RNN L τ) {a b : Nat} (hg : RH τ a b) (hb : b ≤ L) {r v : Nat} (hv : v < 6) (h1 : 1 ≤ a) (h2 : a ≤ r) (h3 : r + 3 ≤ b) (h6 : (mq (ln (τ (7 * r + v)))).length ≤ 6) : ¬ LKs (τ (7 * r + v + 1)) v ∧ (mq (ln (τ (7 * r + v + 1)))).length ≤ (mq (ln (τ (7 * r + v)))).length + ai (τ (7 * r + 7)) v ∧ ai (τ (7 * r)) v + ai (τ (7 * r + 7)) v ≤ 1 := by
  have k1 := keep_w (r := r) h hv v (by omega) (by omega)
  have k2 := keep_a h (r := r) hv (j := 7) (by omega) (by omega) (by omega)
  rw [ai_k (k2 _ (by decide)) (k2 _ (by decide)), ← ai_k (k1 _ (by decide)) (k1 _ (by decide))]
  have gs := h.1 (7 * r + v) (by omega)
  have hq : ¬ LKs (τ (7 * r + v + 1)) v := fun hk => by
    obtain ⟨L', x, y, m1, m2, x1, y1, y2, e⟩ := LK_ln gs.1 (by omega) (run_95 h (by omega) (by omega) (by omega)) (stp_wtk h hv (by omega)) hk
    have k := (mq_lk e x1 y1).1
    rw [m1] at k
    obtain ⟨r', e1, e2, e3⟩ := SH2 h hv (by omega) (by omega) y1 (by omega) e
    have := hg.1 r' (by omega) (by omega) y e3
    rw [isK_f (by omega)] at this
    cases this
  obtain ⟨M, m1, m2, c⟩ := WTK_q gs.1 (by omega) (run_95 h (by omega) (by omega) (by omega)) (stp_wtk h hv (by omega))
  have lM : (mq M).length = (mq (ln (τ (7 * r + v)))).length := by rw [m1]
  have b1 := ai_1 (τ (7 * r + v)) v
  have b2 := ai_1 (τ (7 * r + v + 1)) v
  have l1 := tl_l M
  rcases c with c | c | c | c | c
  · refine ⟨hq, ?_⟩
    obtain ⟨c1, c2, x, x1, -, c3⟩ := c
    rw [ai_z (fun e => idl_n1 e c1), ai_i c2, c3, mq_app, List.length_append, mq_1 x1, List.length_singleton]
    omega
  · refine ⟨hq, ?_⟩
    obtain ⟨c1, c2, c3, c4⟩ := c
    refine ⟨by rw [c4]; omega, ?_⟩
    by_cases e : idl (τ (7 * r + v)) v 1
    · have : ¬ idl (τ (7 * r + v + 1)) v 1 := fun e2 => by
        have a1 := c3.2
        rw [e.2, e2.2] at a1
        exact absurd a1 (by decide)
      rw [ai_z this]; omega
    · rw [ai_z e]; omega
  · exfalso
    obtain ⟨-, -, x, x1, x2, c3⟩ := c
    obtain ⟨r', e1, e2, e3⟩ := SHc h hv (by omega) (by omega) x1 m1 h6 c3
    have := hg.1 r' (by omega) (by omega) x e3
    rw [isK_f (by omega)] at this
    cases this
  · refine ⟨hq, ?_⟩
    obtain ⟨c1, c2, -⟩ := c
    have : ¬ idl (τ (7 * r + v + 1)) v 1 := fun e => idl_n1 e c1
    rw [ai_z this, c2]
    omega
  · refine ⟨hq, ?_⟩
    obtain ⟨c1, c2⟩ := c
    have : ¬ idl (τ (7 * r + v + 1)) v 1 := fun e => by have := e.1; omega
    rw [ai_z this]
    rcases c2 with c2 | ⟨x, x1, c2⟩ | c2
    · rw [c2]; omega
    · rw [c2, mq_app, mq_0 x1, List.append_nil]; omega
    · exact absurd c2 hq
theorem rh_r {L : Nat} {τ : Nat → qS} (h : RNN L τ) {a b : Nat} (hg : RH τ a b) (hb : b ≤ L) {r : Nat} (h1 : 1 ≤ a) (h2 : a ≤ r) (h3 : r + 3 ≤ b) (hm : (mq (ln (τ (7 * r)))).length ≤ aks (τ (7 * r)) - 3) : (∀ v : Nat, v < 6 → ¬ LKs (τ (7 * r + v + 1)) v ∧ (mq (ln (τ (7 * r + v)))).length ≤ 6) ∧ (mq (ln (τ (7 * (r + 1))))).length ≤ aks (τ (7 * (r + 1))) - 3 := by
  have f := fun v => ai_1 (τ (7 * r)) v
  have f0 := f 0
  have f1 := f 1
  have f2 := f 2
  have f3 := f 3
  have f4 := f 4
  have f5 := f 5
  unfold aks at hm
  have e0 : (mq (ln (τ (7 * r + 0)))).length ≤ 6 := by rw [Nat.add_zero]; omega
  obtain ⟨t0, u0, w0⟩ := rh_t h hg hb (v := 0) (by omega) h1 h2 h3 e0
  simp only [Nat.add_zero, Int.natCast_zero, Int.cast_ofNat_Int] at u0 w0
  have e1 : (mq (ln (τ (7 * r + 1)))).length ≤ 6 := by omega
  obtain ⟨t1, u1, w1⟩ := rh_t h hg hb (v := 1) (by omega) h1 h2 h3 e1
  simp only [Nat.add_assoc, Nat.reduceAdd, Int.cast_ofNat_Int] at u1 w1
  have e2 : (mq (ln (τ (7 * r + 2)))).length ≤ 6 := by omega
  obtain ⟨t2, u2, w2⟩ := rh_t h hg hb (v := 2) (by omega) h1 h2 h3 e2
  simp only [Nat.add_assoc, Nat.reduceAdd, Int.cast_ofNat_Int] at u2 w2
  have e3 : (mq (ln (τ (7 * r + 3)))).length ≤ 6 := by omega
  obtain ⟨t3, u3, w3⟩ := rh_t h hg hb (v := 3) (by omega) h1 h2 h3 e3
  simp only [Nat.add_assoc, Nat.reduceAdd, Int.cast_ofNat_Int] at u3 w3
  have e4 : (mq (ln (τ (7 * r + 4)))).length ≤ 6 := by omega
  obtain ⟨t4, u4, w4⟩ := rh_t h hg hb (v := 4) (by omega) h1 h2 h3 e4
  simp only [Nat.add_assoc, Nat.reduceAdd, Int.cast_ofNat_Int] at u4 w4
  have e5 : (mq (ln (τ (7 * r + 5)))).length ≤ 6 := by omega
  obtain ⟨t5, u5, w5⟩ := rh_t h hg hb (v := 5) (by omega) h1 h2 h3 e5
  simp only [Nat.add_assoc, Nat.reduceAdd, Int.cast_ofNat_Int] at u5 w5
  refine ⟨fun v hv => ?_, ?_⟩
  · have hc : v = 0 ∨ v = 1 ∨ v = 2 ∨ v = 3 ∨ v = 4 ∨ v = 5 := by omega
    rcases hc with rfl | rfl | rfl | rfl | rfl | rfl
    · exact ⟨t0, e0⟩
    · exact ⟨t1, e1⟩
    · exact ⟨t2, e2⟩
    · exact ⟨t3, e3⟩
    · exact ⟨t4, e4⟩
    · exact ⟨t5, e5⟩
  · have hq := (MT_q (run_95 h (by omega) (by omega) (by omega)) (stp_mtk h (r := r) (by omega))).1
    rw [show 7 * (r + 1) = 7 * r + 7 by omega, hq, List.length_drop]
    unfold aks
    omega
theorem rh_all {L : Nat} {τ : Nat → qS} (h : RNN L τ) {a b : Nat} (hg : RH τ a b) (hb : b ≤ L) (h1 : 1 ≤ a) (h0 : mq (ln (τ (7 * a))) = []) : ∀ k, a + k + 2 ≤ b → (mq (ln (τ (7 * (a + k))))).length ≤ aks (τ (7 * (a + k))) - 3
  | 0, _ => by rw [Nat.add_zero, h0]; exact Nat.zero_le _
  | k + 1, hk => by
    have ih := rh_all h hg hb h1 h0 k (by omega)
    exact (rh_r h hg hb h1 (by omega) (by omega) ih).2
theorem rh_tN {L : Nat} {τ : Nat → qS} (h : RNN L τ) {a b : Nat} (hg : RH τ a b) (hb : b ≤ L) (h1 : 1 ≤ a) (h0 : mq (ln (τ (7 * a))) = []) {r v : Nat} (hv : v < 6) (h2 : a ≤ r) (h3 : r + 3 ≤ b) : ¬ LKs (τ (7 * r + v + 1)) v ∧ (mq (ln (τ (7 * r + v)))).length ≤ 6 := by
  have := rh_all h hg hb h1 h0 (r - a) (by omega)
  rw [show a + (r - a) = r by omega] at this
  exact (rh_r h hg hb h1 h2 h3 this).1 v hv
theorem QWa2 {L : Nat} {τ : Nat → qS} (h : RNN L τ) {a b : Nat} (h1 : 32 ≤ a) (hb : b ≤ L) (hab : a + 4400000003 ≤ b) (hg : RH τ a b) (hc : MC τ a b) : False := by
  have hK : K2 = 15400300 := rfl
  have hex : ∃ r, a ≤ r ∧ r < a + 39400 ∧ cn 6 (ln (τ (7 * r + 6))) < 3 := by
    apply Classical.byContradiction
    intro hn
    refine QC2 h h1 (by omega) (fun t t1 t2 => hg.2 t (by omega) (by omega)) (fun r r1 r2 => ⟨?_, fun j hj x hx => hg.1 r (by omega) (by omega) x ⟨j, hj, hx⟩⟩)
    apply Classical.byContradiction
    intro hc
    exact hn ⟨r, r1, r2, by omega⟩
  obtain ⟨r, r1, r2, r3⟩ := hex
  have hq := (MT_q (run_95 h (by omega) (by omega) (by omega)) (stp_mtk h (r := r) (by omega))).1
  rw [← mq_len] at r3
  have hz : mq (ln (τ (7 * (r + 1)))) = [] := by
    rw [show 7 * (r + 1) = 7 * r + 7 by omega, hq]
    exact List.drop_eq_nil_of_le (by omega)
  have hg' : RH τ (r + 1) b := ⟨fun r' a1 a2 => hg.1 r' (by omega) a2, fun t a1 a2 => hg.2 t (by omega) a2⟩
  have ca : CA τ (r + 1) (b - 3) := ⟨⟨fun r' a1 a2 => hg.1 r' (by omega) (by omega), fun t a1 a2 a3 => ⟨?_, hg.2 t (by omega) (by omega) a3⟩⟩, fun t t' a1 a2 a3 a4 => hc t t' (by omega) (by omega) (by omega) (by omega), by omega, hz⟩
  · have cb := CB_of h ca (by omega) (c := r + 1 + K2) (e := b - 3 - K2 - 4) rfl (by omega)
    exact CBf h cb (by omega) (by omega)
  · have := (rh_tN h hg' hb (by omega) hz (r := t / 7) (v := t % 7) a3 (by omega) (by omega)).1
    rw [show 7 * (t / 7) + t % 7 = t by omega] at this
    exact this

