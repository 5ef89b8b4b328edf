def rk (σ : qS) (w : Int) : Int := (σ 64 w * 2000 + ps σ w) * 200 + 14 * σ 66 w + σ 65 w
theorem WR_rk {σ : qS} {w : Int} (hj : jobok σ) (h : WRd σ w) : (0 ≤ ps σ w ∧ ps σ w ≤ 1000) ∧ 0 ≤ rk σ w ∧ rk σ w ≤ 15400200 := by
  have hb := WR_b hj h
  have hsp := spl_b hj
  obtain ⟨a1, a2, a3, a4, st, f, b1, b2, b3, b4, b5, b6, b7⟩ := h
  have h1 := b5 st (by omega)
  have hp : ps σ w = f := by
    unfold ps
    rw [b1, h1, b6]
    omega
  have hf : (f : Int) ≤ 1000 := by
    have := hb.2.2.2
    rw [b6] at this
    omega
  unfold rk
  rw [hp]
  omega
theorem rk_same {w : Int} {σ σ' : qS} (h : same w σ σ') : rk σ' w = rk σ w := by
  unfold rk; rw [h.2.1, h.2.2.1, h.2.2.2.1, h.2.2.2.2]
theorem RD_rk {w : Int} {σ σ' : qS} (hJ : JI False (-1) σ) (hw : 0 ≤ w ∧ w < 6) (ha : AW σ w) (h : RD w σ σ') (ht : 0 ≤ σ 62 w) : σ' 62 w = σ 62 w ∧ (σ 62 w < 38 → σ' 64 w = σ 64 w) ∧ (38 ≤ σ 62 w → rk σ w ≤ rk σ' w) := by
  obtain ⟨-, -, -, c⟩ := h
  have sm : same w σ σ' → σ' 62 w = σ 62 w ∧ (σ 62 w < 38 → σ' 64 w = σ 64 w) ∧ (38 ≤ σ 62 w → rk σ w ≤ rk σ' w) := fun s => ⟨s.1, fun _ => s.2.1, fun _ => by rw [rk_same s]; omega⟩
  rcases c with ⟨-, -, c⟩ | ⟨i, x, -, -, c⟩
  · exact sm c
  · rcases c with ⟨-, -, c⟩ | ⟨-, -, -, c⟩ | ⟨-, -, c, -⟩ | ⟨-, -, -, c⟩
    · exact sm c
    · rcases c with ⟨e, -⟩ | ⟨-, c⟩
      · omega
      · exact sm c
    · exact sm c
    · rcases c with ⟨-, c⟩ | ⟨f, c1, c2, c3, c4⟩
      · exact sm c
      · refine ⟨c1, fun e => by have := f.1; omega, fun e => ?_⟩
        have hr := (rd_P2 hJ hw ha e).1
        obtain ⟨p1, p2⟩ := WR_rk hJ.1 hr
        have t1 := hr.2.2.1
        have t2 := hr.2.2.2.1
        unfold rk
        rw [c2, c3]
        rcases c4 with ⟨c4, c5⟩ | ⟨c4, c5⟩
        · rw [c4, c5]; omega
        · rw [c4, c5]; omega
theorem WTK_rk {w : Int} {σ σ' : qS} (hJ : JI False (-1) σ) (hw : 0 ≤ w ∧ w < 6) (ha : AW σ w) (h : WTK w σ σ') (hk : ¬ LKs σ' w) (ht : 0 ≤ σ 62 w) (ht' : 0 ≤ σ' 62 w) : σ' 62 w = σ 62 w ∧ (σ 62 w < 38 → σ' 64 w = σ 64 w + 1 ∧ σ 64 w < 16) ∧ (38 ≤ σ 62 w → rk σ w + 1 ≤ rk σ' w) := by
  obtain ⟨σ1, σ2, σ3, r1, r2, r3, a, ⟨j1, j2, j3, j4⟩, a1, a2, a3, -⟩ := h
  obtain ⟨e1, f1, g1⟩ := RD_rk hJ hw ha r1 ht
  obtain ⟨e2, f2, g2⟩ := RD_rk j1 hw a1 r2 (by omega)
  obtain ⟨e3, f3, g3⟩ := RD_rk j2 hw a2 r3 (by omega)
  have hsp := spl_b j3.1
  have fz : fgo w σ' → False := fun f => by have := f.1; omega
  obtain ⟨-, -, -, c⟩ := a
  rcases c with ⟨c, -⟩ | ⟨c0, c⟩ | ⟨c0, c⟩
  · omega
  · rcases c with ⟨-, -, f, -⟩ | ⟨-, f, -⟩ | ⟨-, -, f, -⟩ | ⟨-, -, c1, c2, c3, -⟩
    · exact (fz f).elim
    · exact (fz f).elim
    · exact (fz f).elim
    · refine ⟨by omega, fun e => ?_, fun e => by omega⟩
      have := f1 e
      have := f2 (by omega)
      have := f3 (by omega)
      omega
  · have hr := (rd_P2 j3 hw a3 c0).1
    rcases c with ⟨-, -, f, -⟩ | ⟨-, -, -, -, f, -⟩ | ⟨-, -, -, -, -, -, c1, c2, c3, c4, c5⟩ | ⟨-, -, -, c6, -, c1, c2, c4, c5, c⟩ | ⟨-, -, f, -⟩
    · exact (fz f).elim
    · exact (fz f).elim
    · refine ⟨by omega, fun e => by omega, fun e => ?_⟩
      have := g1 (by omega)
      have := g2 (by omega)
      have := g3 (by omega)
      have : rk σ' w = rk σ3 w + 1 := by unfold rk; rw [c2, c3, c4, c5]; omega
      omega
    · rcases c with ⟨-, c, -⟩ | ⟨-, c, -⟩
      · refine ⟨by omega, fun e => by omega, fun e => ?_⟩
        have := g1 (by omega)
        have := g2 (by omega)
        have := g3 (by omega)
        have : rk σ3 w + 1 ≤ rk σ' w := by
          unfold rk; rw [c2, c4, c5, c]
          rcases c6 with c6 | c6 <;> rw [c6] <;> omega
        omega
      · exact absurd ⟨by omega, c5, c⟩ hk
    · exact (fz f).elim
theorem WTK_tk {w : Int} {σ σ' : qS} (hJ : JI False (-1) σ) (hw : 0 ≤ w ∧ w < 6) (hl : (ln σ).length ≤ 95) (h : WTK w σ σ') (ht : σ 62 w = -1) (ht' : 0 ≤ σ' 62 w) : ∃ x ∈ ln σ, xw x 0 = 2 ∧ xw x 2 = σ' 62 w := by
  obtain ⟨σ1, σ2, σ3, r1, r2, r3, a, ⟨j1, j2, j3, j4⟩, -⟩ := h
  have q1 := RD_q hJ hw hl r1
  have q2 := RD_q j1 hw (by have := q1.2.1; omega) r2
  have q3 := RD_q j2 hw (by have := q1.2.1; have := q2.2.1; omega) r3
  obtain ⟨-, -, m3, -⟩ := (q1.tr q2).tr q3
  have fz : fgo w σ' → False := fun f => by have := f.1; omega
  have key : σ' 62 w = σ3 62 w := by
    obtain ⟨-, -, -, c⟩ := a
    rcases c with ⟨-, -, c, -⟩ | ⟨-, c⟩ | ⟨-, c⟩
    · omega
    · rcases c with ⟨-, -, f, -⟩ | ⟨-, f, -⟩ | ⟨-, -, f, -⟩ | ⟨-, -, c1, -⟩
      · exact (fz f).elim
      · exact (fz f).elim
      · exact (fz f).elim
      · exact c1
    · rcases c with ⟨-, -, f, -⟩ | ⟨-, -, -, -, f, -⟩ | ⟨-, -, -, -, -, -, c1, -⟩ | ⟨-, -, -, -, -, c1, -⟩ | ⟨-, -, f, -⟩
      · exact (fz f).elim
      · exact (fz f).elim
      · exact c1
      · exact c1
      · exact (fz f).elim
  rcases m3 with ⟨m3, -⟩ | ⟨-, -, -, x, x1, x2, x3⟩
  · omega
  · exact ⟨x, x1, x2, by omega⟩
def UD (σ : qS) : Prop := ∃ k, 0 ≤ k ∧ k < spl σ ∧ σ 33 k = -1
def K2 : Nat := 15400300
theorem fa_s {u : Int} {σ σ' : qS} (h : STP u σ σ') {v j : Int} (hv : 0 ≤ v ∧ v < 6) (hu : u ≠ v) (hj : 0 ≤ j ∧ j < 39) : σ' 76 (v * 39 + j) = σ 76 (v * 39 + j) := by
  rcases h with ⟨h0, h⟩ | ⟨-, h⟩
  · exact (WTK_o h).1.2.1 _ (by omega)
  · rw [MTK_k h 76 (by decide) (by decide)]
theorem fa_w {L : Nat} {τ : Nat → qS} (h : RNN L τ) {r v : Nat} (hv : v < 6) {j : Int} (hj : 0 ≤ j ∧ j < 39) : ∀ i, i ≤ v → 7 * r + i ≤ 7 * L → τ (7 * r + i) 76 (v * 39 + j) = τ (7 * r) 76 (v * 39 + j)
  | 0, _, _ => rfl
  | i + 1, hi, hl => by
    have ih := fa_w (r := r) h hv hj i (by omega) (by omega)
    have hs := h.2 (7 * r + i) (by omega)
    have := fa_s hs (v := (v : Int)) (by omega) (by omega) hj
    rw [show 7 * r + (i + 1) = 7 * r + i + 1 by omega, this, ih]
theorem fa_a {L : Nat} {τ : Nat → qS} (h : RNN L τ) {r v : Nat} (hv : v < 6) {j : Int} (hj : 0 ≤ j ∧ j < 39) : ∀ i, v + 1 + i ≤ 7 → 7 * r + v + 1 + i ≤ 7 * L → τ (7 * r + v + 1 + i) 76 (v * 39 + j) = τ (7 * r + v + 1) 76 (v * 39 + j)
  | 0, _, _ => rfl
  | i + 1, hi, hl => by
    have ih := fa_a (r := r) h hv hj i (by omega) (by omega)
    have hs := h.2 (7 * r + v + 1 + i) (by omega)
    have := fa_s hs (v := (v : Int)) (by omega) (by omega) hj
    rw [show 7 * r + v + 1 + (i + 1) = 7 * r + v + 1 + i + 1 by omega, this, ih]
theorem rk_w {L : Nat} {τ : Nat → qS} (h : RNN L τ) {r v : Nat} (hv : v < 6) (hl : r < L) (hs : 0 ≤ τ (7 * r) 64 v ∧ τ (7 * r) 64 v < 39) : rk (τ (7 * r + v)) v = rk (τ (7 * r)) v := by
  have k := keep_w (r := r) h hv v (by omega) (by omega)
  have f := fa_w (r := r) h hv hs v (by omega) (by omega)
  unfold rk ps
  rw [k 64 (by decide), k 66 (by decide), k 65 (by decide), k 75 (by decide), f]
theorem rk_a {L : Nat} {τ : Nat → qS} (h : RNN L τ) {r v : Nat} (hv : v < 6) (hl : r < L) (hs : 0 ≤ τ (7 * r + v + 1) 64 v ∧ τ (7 * r + v + 1) 64 v < 39) : rk (τ (7 * (r + 1))) v = rk (τ (7 * r + v + 1)) v := by
  have k := keep_a h (r := r) hv (j := 7) (by omega) (by omega) (by omega)
  have f := fa_a (r := r) h hv hs (6 - v) (by omega) (by omega)
  rw [show 7 * r + v + 1 + (6 - v) = 7 * (r + 1) by omega] at f
  rw [show 7 * r + 7 = 7 * (r + 1) by omega] at k
  unfold rk ps
  rw [k 64 (by decide), k 66 (by decide), k 65 (by decide), k 75 (by decide), f]
theorem rd_st {L : Nat} {τ : Nat → qS} (h : RNN L τ) {t : Nat} (hl : t ≤ 7 * L) {v : Nat} (hv : v < 6) (ht : 38 ≤ τ t 62 v) : (0 ≤ τ t 64 v ∧ τ t 64 v < 39) ∧ rk (τ t) v ≤ 15400200 ∧ 0 ≤ rk (τ t) v := by
  have gs := h.1 t hl
  have hr := (rd_P2 gs.1 (w := (v : Int)) (by omega) (gs.2.2.1 v (by omega) (by omega)) ht).1
  have hb := (WR_b gs.1.1 hr).1
  have hsp := spl_b gs.1.1
  have := (WR_rk gs.1.1 hr).2
  omega
theorem bz_k {L : Nat} {τ : Nat → qS} (h : RNN L τ) {a b : Nat} (hg : RG τ a b) (hb : b ≤ L) (h1 : 1 ≤ a) (h0 : mq (ln (τ (7 * a))) = []) {r v : Nat} (hv : v < 6) (h2 : a ≤ r) (ht : 0 ≤ τ (7 * r) 62 v) : ∀ k, r + k + 3 ≤ b → (∃ i, i < k ∧ 38 ≤ τ (7 * r) 62 v ∧ UD (τ (7 * (r + i) + v + 1)) ∧ τ (7 * (r + i + 1)) 62 v = -1) ∨ (τ (7 * (r + k)) 62 v = τ (7 * r) 62 v ∧ (τ (7 * r) 62 v < 38 → τ (7 * (r + k)) 64 v = τ (7 * r) 64 v + k ∧ (1 ≤ k → τ (7 * (r + k)) 64 v ≤ 16)) ∧ (38 ≤ τ (7 * r) 62 v → rk (τ (7 * r)) v + k ≤ rk (τ (7 * (r + k))) v))
  | 0, _ => Or.inr ⟨rfl, fun _ => by rw [Nat.add_zero]; omega, fun _ => by rw [Nat.add_zero]; omega⟩
  | k + 1, hk => by
    rcases bz_k h hg hb h1 h0 hv h2 ht k (by omega) with ⟨i, i1, i2⟩ | ⟨e1, e2, e3⟩
    · exact Or.inl ⟨i, by omega, i2⟩
    · have k1 := keep_w (r := r + k) h hv v (by omega) (by omega)
      have k2 := keep_a h (r := r + k) hv (j := 7) (by omega) (by omega) (by omega)
      have t1 := k1 62 (by decide)
      have t2 := k2 62 (by decide)
      rw [show 7 * (r + k) + 7 = 7 * (r + (k + 1)) by omega] at t2 k2
      have gs := h.1 (7 * (r + k) + v) (by omega)
      obtain ⟨M, -, -, c⟩ := (rg_tN h hg hb h1 h0 hv (r := r + k) (by omega) (by omega)).1
      have hq := (hg.2 (7 * (r + k) + v) (by omega) (by omega) (by omega)).1
      rw [show (7 * (r + k) + v) % 7 = v by omega] at hq
      rcases c with c | c | c | c
      · have := c.1.1; omega
      · have := c.1; omega
      · by_cases c38 : 38 ≤ τ (7 * r) 62 v
        · refine Or.inl ⟨k, by omega, c38, c.2.2.1, ?_⟩
          rw [show r + k + 1 = r + (k + 1) by omega, t2]
          exact c.1.1
        · exfalso
          have hF := (hg.2 (7 * (r + k) + v) (by omega) (by omega) (by omega)).2
          rcases c.2.2.2 with e | e
          · omega
          · exact hF ⟨c.2.2.1, e⟩
      · refine Or.inr ?_
        obtain ⟨b1, b2, b3⟩ := WTK_rk gs.1 (by omega) (gs.2.2.1 v (by omega) (by omega)) (stp_wtk h hv (by omega)) hq (by omega) c.1
        have s1 := k1 64 (by decide)
        have s2 := k2 64 (by decide)
        refine ⟨by omega, fun e => ?_, fun e => ?_⟩
        · have := e2 e
          have := b2 (by omega)
          omega
        · have q1 := e3 e
          have q2 := b3 (by omega)
          have w1 := rk_w h hv (r := r + k) (by omega) (rd_st h (by omega) hv (by omega)).1
          have w2 := rk_a h hv (r := r + k) (by omega) (rd_st h (by omega) hv (by omega)).1
          rw [show r + k + 1 = r + (k + 1) by omega] at w2
          omega
theorem BZ {L : Nat} {τ : Nat → qS} (h : RNN L τ) {a b : Nat} (hg : RG τ a b) (hb : b ≤ L) (h1 : 1 ≤ a) (h0 : mq (ln (τ (7 * a))) = []) {r v : Nat} (hv : v < 6) (h2 : a ≤ r) (hl : r + K2 + 3 ≤ b) (ht : 0 ≤ τ (7 * r) 62 v) : ∃ i, i < K2 ∧ 38 ≤ τ (7 * r) 62 v ∧ UD (τ (7 * (r + i) + v + 1)) ∧ τ (7 * (r + i + 1)) 62 v = -1 := by
  have hK : K2 = 15400300 := rfl
  rcases bz_k h hg hb h1 h0 hv h2 ht K2 hl with e | ⟨e1, e2, e3⟩
  · exact e
  · exfalso
    by_cases c : τ (7 * r) 62 v < 38
    · have hs : 0 ≤ τ (7 * r) 64 v := by
        have gs := h.1 (7 * r) (by omega)
        have ha := gs.2.2.1 v (by omega) (by omega)
        have hW := gs.1.2.2.2.2.2.2.2.2.1 v (by omega) (by omega) (by omega) ha.1
        rcases hW with ⟨e, -, e'⟩ | ⟨e, -, g⟩
        · omega
        · rcases g (ha.2.2 e) with g | g
          · exact g.2.1.1
          · have := g.1; omega
      obtain ⟨u1, u2⟩ := e2 c
      have := u2 (by omega)
      omega
    · have := e3 (by omega)
      have r1 := rd_st h (t := 7 * r) (by omega) hv (by omega)
      have r2 := rd_st h (t := 7 * (r + K2)) (by omega) hv (by omega)
      omega
def MC (τ : Nat → qS) (a b : Nat) : Prop := ∀ t t', 7 * a ≤ t → t ≤ 7 * b → 7 * a ≤ t' → t' ≤ 7 * b → UD (τ t) → UD (τ t')
theorem ID1 {L : Nat} {τ : Nat → qS} (h : RNN L τ) {a b : Nat} (hg : RG τ a b) (hc : MC τ a b) (hb : b ≤ L) (h1 : 1 ≤ a) (h0 : mq (ln (τ (7 * a))) = []) {r v : Nat} (hv : v < 6) (h2 : a ≤ r) (hl : r + K2 + 4 ≤ b) (ht : τ (7 * r) 62 v = -1) : τ (7 * (r + 1)) 62 v = -1 ∧ τ (7 * r + v + 1) 62 v = -1 := by
  have hK : K2 = 15400300 := rfl
  have k1 := keep_w (r := r) h hv v (by omega) (by omega) 62 (by decide)
  have k2 := keep_a h (r := r) hv (j := 7) (by omega) (by omega) (by omega) 62 (by decide)
  rw [show 7 * r + 7 = 7 * (r + 1) by omega] at k2
  rw [k2]
  have key : τ (7 * r + v + 1) 62 v = -1 := by
    obtain ⟨M, -, -, c⟩ := (rg_tN h hg hb h1 h0 hv (r := r) (by omega) (by omega)).1
    rcases c with c | c | c | c
    · exact c.2.1.1
    · exact c.2.2.1.1
    · exact c.1.1
    · exfalso
      have gs := h.1 (7 * r + v) (by omega)
      obtain ⟨x, x1, x2, x3⟩ := WTK_tk gs.1 (by omega) (run_95 h (by omega) (by omega) (by omega)) (stp_wtk h hv (by omega)) (by omega) c.1
      obtain ⟨i, i1, i2, i3, -⟩ := BZ h hg hb h1 h0 hv (r := r + 1) (by omega) (by omega) (by have := c.1; omega)
      have hF := (hg.2 (7 * r + v) (by omega) (by omega) (by omega)).2
      exact hF ⟨hc _ _ (by omega) (by omega) (by omega) (by omega) i3, x, x1, x2, by omega⟩
  exact ⟨key, key⟩
theorem IDk {L : Nat} {τ : Nat → qS} (h : RNN L τ) {a b : Nat} (hg : RG τ a b) (hc : MC τ a b) (hb : b ≤ L) (h1 : 1 ≤ a) (h0 : mq (ln (τ (7 * a))) = []) {r v : Nat} (hv : v < 6) (h2 : a ≤ r) (ht : τ (7 * r) 62 v = -1) : ∀ k, r + k + K2 + 3 ≤ b → τ (7 * (r + k)) 62 v = -1
  | 0, _ => ht
  | k + 1, hk => (ID1 h hg hc hb h1 h0 hv (r := r + k) (by omega) (by omega) (IDk h hg hc hb h1 h0 hv h2 ht k (by omega))).1
theorem IDA {L : Nat} {τ : Nat → qS} (h : RNN L τ) {a b : Nat} (hg : RG τ a b) (hc : MC τ a b) (hb : b ≤ L) (h1 : 1 ≤ a) (h0 : mq (ln (τ (7 * a))) = []) {r v : Nat} (hv : v < 6) (h2 : a + K2 ≤ r) (h3 : r + K2 + 3 ≤ b) : τ (7 * r) 62 v = -1 := by
  have hK : K2 = 15400300 := rfl
  have gs := h.1 (7 * a) (by omega)
  rcases tk_nn gs (w := (v : Int)) (by omega) with e | e
  · have := IDk h hg hc hb h1 h0 hv (r := a) (by omega) e (r - a) (by omega)
    rw [show a + (r - a) = r by omega] at this
    exact this
  · obtain ⟨i, i1, -, -, i4⟩ := BZ h hg hb h1 h0 hv (r := a) (by omega) (by omega) e
    have := IDk h hg hc hb h1 h0 hv (r := a + i + 1) (by omega) i4 (r - (a + i + 1)) (by omega)
    rw [show a + i + 1 + (r - (a + i + 1)) = r by omega] at this
    exact this

