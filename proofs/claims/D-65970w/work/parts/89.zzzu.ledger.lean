theorem RD_ag {w : Int} {σ σ' : qS} (h : RD w σ σ') : same w σ σ' ∨ σ' 65 w = 0 := by
  obtain ⟨-, -, -, q⟩ := h
  rcases q with ⟨-, -, q⟩ | ⟨i, x, -, -, q⟩
  · exact Or.inl q
  · rcases q with ⟨-, -, q⟩ | ⟨-, -, -, q⟩ | ⟨-, -, q, -⟩ | ⟨-, -, -, q⟩
    · exact Or.inl q
    · rcases q with ⟨-, -, -, q, -⟩ | ⟨-, q⟩
      · exact Or.inr q
      · exact Or.inl q
    · exact Or.inl q
    · rcases q with ⟨-, q⟩ | ⟨-, -, q, -⟩
      · exact Or.inl q
      · exact Or.inr q
theorem RD_ag2 {w : Int} {σ σ1 σ' : qS} (h : same w σ σ1 ∨ σ1 65 w = 0) (r : RD w σ1 σ') : same w σ σ' ∨ σ' 65 w = 0 := by
  rcases RD_ag r with q | q
  · rcases h with h | h
    · exact Or.inl (h.tr q)
    · exact Or.inr (by rw [q.2.2.1]; exact h)
  · exact Or.inr q
def pag (σ : qS) (w : Int) : Nat := if 38 ≤ σ 62 w then (σ 65 w - 1).toNat else 0
theorem WTK_pg {w : Int} {σ σ' : qS} (hg : 38 ≤ σ 62 w → 1 ≤ σ 65 w) (h : WTK w σ σ') : pag σ' w ≤ 1 + pag σ w ∧ (fe σ' w = 1 → pag σ' w = 0) ∧ (fto σ σ' w → pag σ w = 12) := by
  obtain ⟨σ1, σ2, σ3, r1, r2, r3, a, ⟨j1, j2, j3, j4⟩, -⟩ := h
  have hsp := spl_b j3.1
  refine ⟨?_, fun f => ?_, fun f => ?_⟩
  · unfold pag
    by_cases c : 38 ≤ σ' 62 w
    · rw [if_pos c]
      have nf : ∀ {P : Prop}, fgo w σ' → P := fun {P} f => by have := f.1; omega
      have e3 := ACT_tk j3.1 a c
      have ag := RD_ag2 (RD_ag2 (RD_ag r1) r2) r3
      obtain ⟨-, -, -, q⟩ := a
      rcases q with ⟨-, -, q, -⟩ | ⟨q0, q⟩ | ⟨-, q⟩
      · omega
      · omega
      · rcases q with ⟨-, -, f, -⟩ | ⟨-, -, -, -, f, -⟩ | ⟨-, -, -, ⟨q1, q2⟩, -, -, -, -, -, -, q3⟩ | ⟨-, -, -, -, -, -, -, -, q3, -⟩ | ⟨-, -, f, -⟩
        · exact nf f
        · exact nf f
        · rcases ag with s | s
          · have e1 := s.1
            have e2 := s.2.2.1
            rw [if_pos (by omega)]
            have := hg (by omega)
            omega
          · exact absurd s q1
        · rw [q3]
          omega
        · exact nf f
    · rw [if_neg c]; omega
  · unfold fe at f
    by_cases d : 38 ≤ σ' 62 w ∧ σ' 65 w = 1
    · unfold pag
      rw [if_pos d.1, d.2]
      rfl
    · rw [if_neg d] at f; omega
  · unfold fto at f
    unfold pag
    rw [if_pos (by omega)]
    omega
noncomputable def lgc (τ : Nat → qS) (t : Nat) : Nat := ffq τ t + gsq τ t + 13 * gtq τ t
noncomputable def lgw (τ : Nat → qS) (w r0 : Nat) : Nat → Nat
  | 0 => 0
  | n + 1 => lgw τ w r0 n + lgc τ (7 * (r0 + n) + w)
theorem lgc_t {L : Nat} {τ : Nat → qS} (h : RNN L τ) {w : Nat} (hw : w < 6) {t : Nat} (h1 : 7 ≤ t) (h2 : t < 7 * L) (ht : t % 7 = w) : lgc τ t + pag (τ (t + 1)) (w : Int) ≤ 1 + pag (τ t) (w : Int) := by
  have s := h.2 t h2
  rw [ht] at s
  rcases s with ⟨-, s⟩ | ⟨e6, -⟩
  · obtain ⟨p1, p2, p3⟩ := WTK_pg (run_g1 h hw h1 (by omega)) s
    have g1 := gq_b τ t
    have g2 := gsq_b τ t
    unfold lgc
    by_cases c : gq τ t = 1
    · have f1 : fe (τ (t + 1)) (w : Int) = 1 := by
        unfold gq at c
        rw [if_pos (by omega), ht] at c
        exact c
      have z := p2 f1
      by_cases d : gtq τ t = 1
      · have ft : fto (τ t) (τ (t + 1)) (w : Int) := by
          unfold gtq at d
          by_cases e : gq τ t = 1 ∧ fto (τ t) (τ (t + 1)) ((t % 7 : Nat) : Int)
          · have := e.2
            rw [ht] at this
            exact this
          · rw [if_neg e] at d; omega
        have := p3 ft
        unfold ffq
        omega
      · unfold ffq
        omega
    · unfold ffq
      omega
  · omega
theorem pag_k {L : Nat} {τ : Nat → qS} (h : RNN L τ) {w : Nat} (hw : w < 6) {t : Nat} (ht : t % 7 = w) (hl : t + 7 ≤ 7 * L) : pag (τ (t + 7)) (w : Int) = pag (τ (t + 1)) (w : Int) := by
  have k := run_w h hw ht 6 (by omega) (by omega)
  rw [show t + 1 + 6 = t + 7 by omega] at k
  unfold pag
  rw [k 62 (by decide), k 65 (by decide)]
theorem lgw_b {L : Nat} {τ : Nat → qS} (h : RNN L τ) {w : Nat} (hw : w < 6) {r0 : Nat} (hr : 1 ≤ r0) : ∀ n, r0 + n < L → lgw τ w r0 n + pag (τ (7 * (r0 + n) + w)) (w : Int) ≤ n + pag (τ (7 * r0 + w)) (w : Int)
  | 0, _ => by simp [lgw]
  | n + 1, hn => by
    have ih := lgw_b h hw hr n (by omega)
    have a := lgc_t h hw (t := 7 * (r0 + n) + w) (by omega) (by omega) (by omega)
    have b := pag_k h hw (t := 7 * (r0 + n) + w) (by omega) (by omega)
    rw [show 7 * (r0 + (n + 1)) + w = 7 * (r0 + n) + w + 7 by omega]
    simp only [lgw]
    omega
theorem pag_b {L : Nat} {τ : Nat → qS} (h : RNN L τ) {w : Nat} (hw : w < 6) {t : Nat} (h2 : t ≤ 7 * L) : pag (τ t) (w : Int) ≤ 12 := by
  unfold pag
  by_cases c : 38 ≤ τ t 62 (w : Int)
  · rw [if_pos c]
    have gs := h.1 t h2
    have wr := (rd_P2 gs.1 (by omega) (gs.2.2.1 (w : Int) (by omega) (by omega)) c).1.2.2.1
    omega
  · rw [if_neg c]; omega
theorem smq_l {L : Nat} {τ : Nat → qS} (h : RNN L τ) {r0 : Nat} (hr : 1 ≤ r0) : ∀ n, r0 + n < L → smq (lgc τ) (7 * r0) (7 * n) ≤ lgw τ 0 r0 n + lgw τ 1 r0 n + lgw τ 2 r0 n + lgw τ 3 r0 n + lgw τ 4 r0 n + lgw τ 5 r0 n
  | 0, _ => by simp [smq, lgw]
  | n + 1, hn => by
    have ih := smq_l h hr n (by omega)
    have k6 := q_6 τ (t := 7 * r0 + (7 * n + 6)) (by omega)
    have z6 : lgc τ (7 * r0 + (7 * n + 6)) = 0 := by unfold lgc; omega
    rw [show 7 * (n + 1) = 7 * n + 6 + 1 by omega]
    simp only [smq, lgw]
    rw [show 7 * r0 + (7 * n + 5) = 7 * (r0 + n) + 5 by omega, show 7 * r0 + (7 * n + 4) = 7 * (r0 + n) + 4 by omega, show 7 * r0 + (7 * n + 3) = 7 * (r0 + n) + 3 by omega, show 7 * r0 + (7 * n + 2) = 7 * (r0 + n) + 2 by omega, show 7 * r0 + (7 * n + 1) = 7 * (r0 + n) + 1 by omega, show 7 * r0 + 7 * n = 7 * (r0 + n) + 0 by omega]
    omega
theorem LEDG {L : Nat} {τ : Nat → qS} (h : RNN L τ) {r0 n : Nat} (hr : 1 ≤ r0) (hn : r0 + n < L) : smq (ffq τ) (7 * r0) (7 * n) + smq (gsq τ) (7 * r0) (7 * n) + smq (fun t => 13 * gtq τ t) (7 * r0) (7 * n) ≤ 6 * n + 72 := by
  have a := smq_l h hr n hn
  have c : ∀ w, w < 6 → lgw τ w r0 n ≤ n + 12 := fun w hw => by
    have b := lgw_b h hw hr n hn
    have p := pag_b h hw (t := 7 * r0 + w) (by omega)
    omega
  have c0 := c 0 (by omega)
  have c1 := c 1 (by omega)
  have c2 := c 2 (by omega)
  have c3 := c 3 (by omega)
  have c4 := c 4 (by omega)
  have c5 := c 5 (by omega)
  have e := smq_add (f := fun t => ffq τ t + gsq τ t) (g := fun t => 13 * gtq τ t) (s := 7 * r0) (7 * n)
  have e' := smq_add (f := ffq τ) (g := gsq τ) (s := 7 * r0) (7 * n)
  have e0 : smq (lgc τ) (7 * r0) (7 * n) = smq (fun t => ffq τ t + gsq τ t + 13 * gtq τ t) (7 * r0) (7 * n) := rfl
  omega

