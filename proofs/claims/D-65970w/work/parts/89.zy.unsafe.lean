theorem pre_w {L : Nat} {τ : Nat → qS} (h : RNN L τ) {w : Nat} (hw : w < 6) {t : Nat} (ht : t % 7 = w) (h1 : 7 * 145 ≤ t) (h2 : t + 1 ≤ 7 * L) (hl : LKs (τ (t + 1)) w) {j : Nat} (hj : j ≤ 142) : 38 ≤ τ (t - 7 * j) 62 w ∧ τ (t - 7 * j) 62 w = τ (t + 1) 62 w ∧ τ (t - 7 * j) 64 w = τ (t + 1) 64 w ∧ ps (τ (t - 7 * j)) w = ps (τ (t + 1)) w := by
  obtain ⟨-, a1, a2, a3, a4, -⟩ := lk_wait h hw ht h1 h2 hl j hj
  rw [show t + 1 - 7 * (j + 1) = t - 7 * (j + 1) + 1 by omega] at a1 a2 a3 a4
  have rk := run_w h hw (t := t - 7 * (j + 1)) (by omega) 6 (by omega) (by omega)
  have rp := run_ps h hw (t := t - 7 * (j + 1)) (by omega) a1 6 (by omega) (by omega)
  rw [show t - 7 * (j + 1) + 1 + 6 = t - 7 * j by omega] at rk rp
  exact ⟨by rw [rk 62 (by decide)]; exact a1, by rw [rk 62 (by decide)]; exact a2, by rw [rk 64 (by decide)]; exact a3, by rw [rp]; exact a4⟩
theorem nof_x {L : Nat} {τ : Nat → qS} (h : RNN L τ) {w : Nat} (hw : w < 6) {t : Nat} (ht : t % 7 = w) (h1 : 7 * 145 ≤ t) (h2 : t + 1 ≤ 7 * L) (hl : LKs (τ (t + 1)) w) {j : Nat} (hj : j ≤ 142) {y : Ms} (y0 : xw y 0 = 6) (y1 : xw y 1 = τ 0 31 0) (y2 : xw y 2 = τ (t + 1) 64 w) (y3 : xw y 3 = ps (τ (t + 1)) w) (y5 : xw y 5 = τ (t + 1) 62 w - 38) : ¬ rdT w y (τ (t - 7 * j)) (τ (t - 7 * j + 1)) := fun hr => by
  obtain ⟨σ1, σ2, σ3, wd, hr⟩ := hr
  obtain ⟨nf, -⟩ := lk_wait h hw ht h1 h2 hl j hj
  obtain ⟨s1, s2, s3, f1, f2, f3⟩ := nf σ1 σ2 σ3 wd
  obtain ⟨p1, p2, p3, p4⟩ := pre_w h hw ht h1 h2 hl hj
  have he : τ (t - 7 * j) 31 = τ 0 31 := run_era h (by omega)
  have e1 : σ1 31 = τ 0 31 := (wd.1.2.2.1 _ (by decide)).trans he
  have e2 : σ2 31 = τ 0 31 := (wd.2.1.2.2.1 _ (by decide)).trans e1
  have ft : ∀ σ : qS, σ 62 w = τ (t - 7 * j) 62 w → σ 64 w = τ (t - 7 * j) 64 w → ps σ w = ps (τ (t - 7 * j)) w → fits w σ y := fun σ q1 q2 q3 => by
    refine ⟨by rw [q1]; exact p1, ?_, ?_, ?_⟩
    · rw [y5, q1, p2]
    · rw [y2, q2, p3]
    · rw [y3, q3, p4]
  rcases hr with hr | hr | hr
  · exact f1 y hr (by rw [y1, he]) y0 (ft _ rfl rfl rfl)
  · exact f2 y hr (by rw [y1, e1]) y0 (ft _ s1.1 s1.2.1 s1.2.2.2.2)
  · exact f3 y hr (by rw [y1, e2]) y0 (ft _ (by rw [s2.1, s1.1]) (by rw [s2.2.1, s1.2.1]) (by rw [s2.2.2.2.2, s1.2.2.2.2]))
theorem ft_x {L : Nat} {τ : Nat → qS} (h : RNN L τ) {w : Nat} (hw : w < 6) {t : Nat} (ht : t % 7 = w) (h1 : 7 * 145 ≤ t) (h2 : t + 1 ≤ 7 * L) (hl : LKs (τ (t + 1)) w) {j : Nat} (j1 : 1 ≤ j) (hj : j ≤ 142) (ha : τ (t + 1 - 7 * j) 65 w = 1) (a : Bool) : ∃ (b : Nat) (x : Ms), b < 6 ∧ x.1 = b ∧ τ (t + 1 - 7 * j) 33 (τ (t + 1) 64 w) = b ∧ xw x 0 = 5 ∧ xw x 1 = τ 0 31 0 ∧ xw x 2 = τ (t + 1) 64 w ∧ xw x 3 = τ (t + 1) 62 w - 38 ∧ xw x 4 = ps (τ (t + 1)) w ∧ xw x 5 = w ∧ KX a x (ln (τ (t + 1 - 7 * j))) (cn b (ln (τ (t + 1 - 7 * j))) - 1) ((ln (τ (t + 1 - 7 * j))).countP (qa a) - 1) := by
  obtain ⟨-, a1, a2, a3, a4, a5, a6, a7, a8⟩ := lk_wait h hw ht h1 h2 hl (j - 1) (by omega)
  rw [show j - 1 + 1 = j by omega] at a1 a2 a3 a4 a5 a6 a7 a8
  have es : t + 1 - 7 * j = t - 7 * j + 1 := by omega
  rw [es] at ha a1 a2 a3 a4 a8 ⊢
  have gs := h.1 (t - 7 * j + 1) (by omega)
  have hs := h.2 (t - 7 * j) (by omega)
  rw [show (t - 7 * j) % 7 = w by omega] at hs
  rcases hs with ⟨wi, hs⟩ | ⟨e, -⟩
  · obtain ⟨σ1, σ2, σ3, r1, r2, r3, ac, ⟨q1, q2, q3, q4⟩, b1, b2, b3, b4⟩ := hs
    have he : τ (t - 7 * j) 31 = τ 0 31 := run_era h (by omega)
    have e3 : σ3 31 = τ 0 31 := (r3.2.2.1 _ (by decide)).trans ((r2.2.2.1 _ (by decide)).trans ((r1.2.2.1 _ (by decide)).trans he))
    have hsp := spl_b q3.1
    obtain ⟨-, -, hk, c⟩ := ac
    have hsb : τ (t - 7 * j + 1) 33 = σ3 33 := hk _ (by decide)
    have key : 38 ≤ σ3 62 w ∧ τ (t - 7 * j + 1) 62 w = σ3 62 w ∧ τ (t - 7 * j + 1) 64 w = σ3 64 w ∧ ps (τ (t - 7 * j + 1)) w = ps σ3 w ∧ TL (σ3 33 (σ3 64 w)) 5 (σ3 64 w) (σ3 62 w - 38) (ps σ3 w) w σ3 (τ (t - 7 * j + 1)) := by
      rcases c with ⟨-, -, c, -⟩ | ⟨c0, c⟩ | ⟨c0, c⟩
      · omega
      · rcases c with ⟨-, -, f, -⟩ | ⟨-, f, -⟩ | ⟨-, -, f, -⟩ | ⟨-, -, c, -⟩
        · have := f.1; omega
        · have := f.1; omega
        · have := f.1; omega
        · omega
      · have hr := hr_of q3 wi b3 (RD_AT r3 (RD_AT r2 (RD_AT r1 (run_AT7 h hw (by omega) (by omega))))) c0
        rcases c with ⟨-, -, f, -⟩ | ⟨-, -, -, -, f, -⟩ | ⟨-, -, -, c4, -, -, c5, c6, c7, c8, c9⟩ | ⟨-, -, -, c4, -, c5, c6, c8, c9, c⟩ | ⟨-, -, f, -⟩
        · have := f.1; omega
        · have := f.1; omega
        · omega
        · rcases c with ⟨d1, d2, d3⟩ | ⟨d1, d2, -⟩
          · exact ⟨c0, c5, c6, c8, d3⟩
          · omega
        · have := f.1; omega
    obtain ⟨k1, k2, k3, k4, kv, k5⟩ := key
    have hm : ((σ3 33 (σ3 64 w), [5, σ3 31 0, σ3 64 w, σ3 62 w - 38, ps σ3 w, (w : Int)], kv) : Ms) ∈ ln (τ (t - 7 * j + 1)) := by rw [k5]; exact List.mem_append_right _ (List.mem_singleton.mpr rfl)
    have he' : τ (t - 7 * j + 1) 31 = τ 0 31 := run_era h (by omega)
    have hL := (gs.1.2.2.2.2.2.2.2.1 _ hm).2 (show σ3 31 0 = _ by rw [e3, he'])
    have hb : 0 ≤ σ3 33 (σ3 64 w) ∧ σ3 33 (σ3 64 w) < 6 := by
      rcases hL with ⟨-, g⟩ | ⟨g0, -⟩
      · have e5 : xw ((σ3 33 (σ3 64 w), [5, σ3 31 0, σ3 64 w, σ3 62 w - 38, ps σ3 w, (w : Int)], kv) : Ms) 0 = 5 := rfl
        rcases g with ⟨g, -⟩ | ⟨g, -⟩ | ⟨g, -⟩ | ⟨g, -⟩ <;> omega
      · exact g0
    have hbn : ((σ3 33 (σ3 64 w)).toNat : Int) = σ3 33 (σ3 64 w) := Int.toNat_of_nonneg hb.1
    refine ⟨(σ3 33 (σ3 64 w)).toNat, (σ3 33 (σ3 64 w), [5, σ3 31 0, σ3 64 w, σ3 62 w - 38, ps σ3 w, (w : Int)], kv), by omega, hbn.symm, by rw [hsb, ← a3, k3, hbn], (rfl : (5 : Int) = 5), (show σ3 31 0 = _ by rw [e3]), (show σ3 64 w = _ by rw [← k3]; exact a3), (show σ3 62 w - 38 = _ by rw [← k2, a2]), (show ps σ3 w = _ by rw [← k4]; exact a4), (rfl : (w : Int) = w), ⟨tl95 (ln σ3), [], k5, ?_, ?_⟩⟩
    · show cn (σ3 33 (σ3 64 w)) _ ≤ _
      rw [hbn, k5]
      unfold cn
      rw [List.countP_append, List.countP_cons, List.countP_nil, if_pos (show toW (σ3 33 (σ3 64 w)) (σ3 33 (σ3 64 w), [5, σ3 31 0, σ3 64 w, σ3 62 w - 38, ps σ3 w, (w : Int)], kv) = true from beq_self_eq_true _)]
      omega
    · have q5 : qa a ((σ3 33 (σ3 64 w), [5, σ3 31 0, σ3 64 w, σ3 62 w - 38, ps σ3 w, (w : Int)], kv) : Ms) = true := by cases a <;> rfl
      rw [k5, List.countP_append, List.countP_cons, List.countP_nil, if_pos q5]
      simp
  · omega
theorem cp_tl' (p : Ms → Bool) (L : List Ms) : (tl95 L).countP p ≤ L.countP p := cp_tl p L
theorem qa_6 {a : Bool} {x : Ms} (h : xw x 0 = 6) : qa a x = false := by
  unfold qa t1 t5; rw [h]; cases a <;> rfl
theorem RD_cq {b : Int} {σ σ' : qS} (h : RD b σ σ') (a : Bool) : (ln σ').countP (qa a) ≤ (ln σ).countP (qa a) ∧ ∀ v, cn v (ln σ') ≤ cn v (ln σ) + 1 := by
  obtain ⟨-, -, -, c⟩ := h
  rcases c with ⟨-, c, -⟩ | ⟨i, z, -, c2, c⟩
  · rw [c]; exact ⟨Nat.le_refl _, fun v => Nat.le_succ _⟩
  · have sb := List.eraseIdx_sublist (ln σ) i
    have e1 := sb.countP_le (p := qa a)
    have e2 : ∀ v, cn v ((ln σ).eraseIdx i) ≤ cn v (ln σ) := fun v => sb.countP_le
    rcases c with ⟨-, d, -⟩ | ⟨-, -, d, -⟩ | ⟨-, -, -, cc, kv, d⟩ | ⟨-, -, d, -⟩
    · rw [d]; exact ⟨e1, fun v => by have := e2 v; omega⟩
    · rw [d]; exact ⟨e1, fun v => by have := e2 v; omega⟩
    · have f := cp_tl (qa a) ((ln σ).eraseIdx i)
      have q6 : qa a ((xw z 5, [6, σ 31 0, xw z 2, xw z 4, cc, xw z 3], kv) : Ms) = false := qa_6 rfl
      rw [d]
      refine ⟨?_, fun v => ?_⟩
      · rw [List.countP_append, List.countP_cons, List.countP_nil, q6]
        simp only [Bool.false_eq_true, if_false]
        omega
      · have g := cp_tl (toW v) ((ln σ).eraseIdx i)
        have g2 := e2 v
        unfold cn at g2 ⊢
        rw [List.countP_append, List.countP_cons, List.countP_nil]
        split <;> omega
    · rw [d]; exact ⟨e1, fun v => by have := e2 v; omega⟩
def YF (x y : Ms) (e : Int) : Prop := y.1 = xw x 5 ∧ xw y 0 = 6 ∧ xw y 1 = e ∧ xw y 2 = xw x 2 ∧ xw y 3 = xw x 4 ∧ xw y 5 = xw x 3
theorem rd_Y1 {b : Int} {x : Ms} {σ σ' : qS} (h : RD b σ σ') (hx : rdX b x (ln σ)) (x0 : xw x 0 = 5) (x1 : xw x 1 = σ 31 0) (a : Bool) : ∃ y : Ms, YF x y (σ 31 0) ∧ KX a y (ln σ') (cn y.1 (ln σ)) ((ln σ).countP (qa a)) := by
  obtain ⟨-, -, -, c⟩ := h
  obtain ⟨-, i, hi, hi'⟩ := hx
  rcases c with ⟨c1, -, -⟩ | ⟨i', z, c1, c2, c⟩
  · rw [c1] at hi; exact absurd hi (by simp)
  · have ei : i' = i := by rw [c1] at hi; exact Option.some.inj hi
    subst ei
    have ez : z = x := by rw [c2] at hi'; exact Option.some.inj hi'
    subst ez
    rcases c with ⟨d, -⟩ | ⟨-, d, -⟩ | ⟨-, -, -, cc, kv, d⟩ | ⟨-, d, -⟩
    · exact absurd x1 d
    · omega
    · have sb := List.eraseIdx_sublist (ln σ) i'
      refine ⟨(xw z 5, [6, σ 31 0, xw z 2, xw z 4, cc, xw z 3], kv), ⟨rfl, rfl, rfl, rfl, rfl, rfl⟩, tl95 ((ln σ).eraseIdx i'), [], d, ?_, ?_⟩
      · have g := cp_tl (toW (xw z 5)) ((ln σ).eraseIdx i')
        have g2 := sb.countP_le (p := toW (xw z 5))
        show cn (xw z 5) _ ≤ cn (xw z 5) _
        unfold cn
        omega
      · have g := cp_tl (qa a) ((ln σ).eraseIdx i')
        have g2 := sb.countP_le (p := qa a)
        simp
        omega
    · omega
theorem rd_Y {b : Int} {x : Ms} {σ σ' : qS} (hw : 0 ≤ b ∧ b < 6) (hat : AT σ b) (h : rdT b x σ σ') (x0 : xw x 0 = 5) (x1 : xw x 1 = σ 31 0) (a : Bool) (hm : (ln σ).countP (qa a) + 2 ≤ 93) : ∃ y : Ms, YF x y (σ 31 0) ∧ (rdT b y σ σ' ∨ KX a y (ln σ') (cn y.1 (ln σ) + 2) ((ln σ).countP (qa a) + 2)) := by
  obtain ⟨σ1, σ2, σ3, wd, hr⟩ := h
  obtain ⟨r1, r2, r3, ac, ⟨j1, j2, j3, j4⟩, a1, a2, a3, a4⟩ := id wd
  have e1 : σ1 31 = σ 31 := r1.2.2.1 _ (by decide)
  have e2 : σ2 31 = σ 31 := (r2.2.2.1 _ (by decide)).trans e1
  obtain ⟨m1, n1⟩ := RD_cq r1 a
  obtain ⟨m2, n2⟩ := RD_cq r2 a
  obtain ⟨s, s1, s2⟩ := ACT_ow j3.1 (hr_of j3 hw a3 (RD_AT r3 (RD_AT r2 (RD_AT r1 hat)))) ac
  have so := ow_2 σ' b
  have fin : ∀ {y : Ms} {c m : Nat}, KX a y (ln σ3) c m → c ≤ cn y.1 (ln σ) + 2 → m ≤ (ln σ).countP (qa a) → KX a y (ln σ') (cn y.1 (ln σ) + 2) ((ln σ).countP (qa a) + 2) := fun k hc hm' => KX_mo (kx_ac k s1 (by omega)) hc (by omega)
  rcases hr with hr | hr | hr
  · obtain ⟨y, y1, k1⟩ := rd_Y1 r1 hr x0 x1 a
    refine ⟨y, y1, ?_⟩
    rcases kx_RD r2 k1 (by omega) with g | ⟨c2, -, d2, k2⟩
    · exact Or.inl ⟨σ1, σ2, σ3, wd, Or.inr (Or.inl g)⟩
    · rcases kx_RD r3 k2 (by omega) with g | ⟨c3, -, d3, k3⟩
      · exact Or.inl ⟨σ1, σ2, σ3, wd, Or.inr (Or.inr g)⟩
      · exact Or.inr (fin k3 (by omega) (by omega))
  · obtain ⟨y, y1, k1⟩ := rd_Y1 r2 hr x0 (by rw [e1]; exact x1) a
    rw [e1] at y1
    refine ⟨y, y1, ?_⟩
    have := n1 y.1
    rcases kx_RD r3 k1 (by omega) with g | ⟨c3, -, d3, k3⟩
    · exact Or.inl ⟨σ1, σ2, σ3, wd, Or.inr (Or.inr g)⟩
    · exact Or.inr (fin k3 (by omega) (by omega))
  · obtain ⟨y, y1, k1⟩ := rd_Y1 r3 hr x0 (by rw [e2]; exact x1) a
    rw [e2] at y1
    refine ⟨y, y1, ?_⟩
    have := n1 y.1
    have := n2 y.1
    exact Or.inr (fin k1 (by omega) (by omega))
theorem unsf {L : Nat} {τ : Nat → qS} (h : RNN L τ) {w : Nat} (hw : w < 6) {t : Nat} (ht : t % 7 = w) (h1 : 7 * 145 ≤ t) (h2 : t + 1 ≤ 7 * L) (hl : LKs (τ (t + 1)) w) {j : Nat} (j1 : 1 ≤ j) (hj : j ≤ 142) (ha : τ (t + 1 - 7 * j) 65 w = 1) (a : Bool) {s kF kP : Nat} (hs : s = t + 1 - 7 * j) (hk : kF + kP + 1 ≤ 7 * j) (hF : (ln (τ s)).countP (qa a) + osm a τ s kF ≤ 93) (hFb : ∀ b : Nat, b < 6 → τ s 33 (τ (t + 1) 64 w) = b → cn b (ln (τ s)) ≤ 3 * ntk b s kF ∧ 1 ≤ ntk b s kF) (hP : ∀ i, i < kF → (ln (τ (s + i))).countP (qa a) + 2 + osm a τ (s + i + 1) kP ≤ 93 ∧ cn w (ln (τ (s + i))) + 3 ≤ 3 * ntk w (s + i + 1) kP) : False := by
  obtain ⟨b, x, b6, xb, xs, x0, x1, x2, x3, x4, x5, hx⟩ := ft_x h hw ht h1 h2 hl j1 hj ha a
  rw [← hs] at xs hx
  obtain ⟨f1, f2⟩ := hFb b b6 xs
  have tk : ∀ T, T % 7 = w → s ≤ T → T ≤ t → ∃ j', j' ≤ 142 ∧ T = t - 7 * j' := fun T e1 e2 e3 => ⟨(t - T) / 7, by omega, by omega⟩
  rcases keep h b6 xb (by omega) hx kF (by omega) (by omega) with ⟨i, i1, i2, i3⟩ | ⟨g, -⟩
  · obtain ⟨p1, p2⟩ := hP i i1
    have he : τ (s + i) 31 = τ 0 31 := run_era h (by omega)
    obtain ⟨y, ⟨y1, y0, ye, y2, y3, y5⟩, hy⟩ := rd_Y (b := (b : Int)) (by omega) (run_AT7 h b6 (by omega) (by omega)) i3 x0 (by rw [x1, he]) a (by omega)
    have nx : ∀ T, T % 7 = w → s ≤ T → T ≤ t → ¬ rdT w y (τ T) (τ (T + 1)) := fun T e1 e2 e3 => by
      obtain ⟨j', q1, q2⟩ := tk T e1 e2 e3
      rw [q2]
      exact nof_x h hw ht h1 h2 hl q1 y0 (by rw [ye, he]) (by rw [y2, x2]) (by rw [y3, x4]) (by rw [y5, x3])
    rcases hy with hy | hy
    · have eb : (b : Int) = w := by
        obtain ⟨_, _, _, _, gg⟩ := hy
        have : y.1 = (b : Int) := by rcases gg with gg | gg | gg <;> exact gg.1
        rw [← this, y1, x5]
      rw [eb] at hy
      exact nx (s + i) (by omega) (by omega) (by omega) hy
    · have yw : y.1 = (w : Int) := by rw [y1, x5]
      rw [yw] at hy
      rcases keep h hw yw (by omega) hy kP (by omega) (by omega) with ⟨i', q1, q2, q3⟩ | ⟨g, -⟩
      · exact nx (s + i + 1 + i') q2 (by omega) (by omega) q3
      · omega
  · omega

