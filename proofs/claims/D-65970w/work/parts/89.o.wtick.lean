def AT (σ : qS) (w : Int) : Prop := 38 ≤ σ 62 w → σ 65 w = 0 → σ 66 w = 0
theorem AT_same {w : Int} {σ σ' : qS} (h : same w σ σ') (ha : AT σ w) : AT σ' w := by
  unfold AT; rw [h.1, h.2.2.1, h.2.2.2.1]; exact ha
theorem RD_AT {w : Int} {σ σ' : qS} (h : RD w σ σ') (ha : AT σ w) : AT σ' w := by
  obtain ⟨-, -, -, c⟩ := h
  rcases c with ⟨-, -, c⟩ | ⟨i, x, -, -, c⟩
  · exact AT_same c ha
  · rcases c with ⟨-, -, c⟩ | ⟨-, -, -, c⟩ | ⟨-, -, c, -⟩ | ⟨-, -, -, c⟩
    · exact AT_same c ha
    · rcases c with ⟨-, -, -, -, c, -⟩ | ⟨-, c⟩
      · exact fun _ _ => c
      · exact AT_same c ha
    · exact AT_same c ha
    · rcases c with ⟨-, c⟩ | ⟨-, -, -, c, -⟩
      · exact AT_same c ha
      · exact fun _ _ => c
theorem ACT_AT {w : Int} {σ σ' : qS} (hj : jobok σ) (h : ACT w σ σ') (hr : 38 ≤ σ 62 w → 0 ≤ σ 65 w) : AT σ' w := by
  have hsp := spl_b hj
  obtain ⟨-, -, -, c⟩ := h
  intro ht ha
  rcases c with ⟨-, -, c, -⟩ | ⟨c0, c⟩ | ⟨c0, c⟩
  · omega
  · rcases c with ⟨-, -, f, -⟩ | ⟨-, f, -⟩ | ⟨-, -, f, -⟩ | ⟨-, -, c, -⟩
    · have := f.1; omega
    · have := f.1; omega
    · have := f.1; omega
    · omega
  · have := hr c0
    rcases c with ⟨-, -, f, -⟩ | ⟨-, -, -, -, f, -⟩ | ⟨-, -, -, -, -, -, -, -, -, -, c⟩ | ⟨-, -, -, -, -, -, -, -, c, -⟩ | ⟨-, -, f, -⟩
    · have := f.1; omega
    · have := f.1; omega
    · omega
    · omega
    · have := f.1; omega
theorem hr_of {w : Int} {σ : qS} (h : JI False (-1) σ) (hw : 0 ≤ w ∧ w < 6) (ha : AW σ w) (hat : AT σ w) : 38 ≤ σ 62 w → (0 ≤ σ 65 w ∧ σ 65 w ≤ 13) ∧ (0 ≤ σ 66 w ∧ σ 66 w < 12) ∧ (σ 65 w = 0 → σ 66 w = 0) := fun ht => by
  have hr := (rd_P2 h hw ha ht).1
  exact ⟨hr.2.2.1, hr.2.2.2.1, hat ht⟩
theorem WTK_AT {w : Int} {σ σ' : qS} (hw : 0 ≤ w ∧ w < 6) (h : WTK w σ σ') : AT σ' w := by
  obtain ⟨σ1, σ2, σ3, r1, r2, r3, a, ⟨j1, j2, j3, j4⟩, a1, a2, a3, a4⟩ := h
  exact ACT_AT j3.1 a (fun ht => (rd_P2 j3 hw a3 ht).1.2.2.1.1)
theorem W_wk {w : Int} {σ σ' : qS} (hJ : JI False (-1) σ) (hw : 0 ≤ w ∧ w < 6) (hat : AT σ w) (h : WTK w σ σ') : Wp σ' ≤ Wp σ + 1 := by
  obtain ⟨σ1, σ2, σ3, r1, r2, r3, a, ⟨j1, j2, j3, j4⟩, a1, a2, a3, a4⟩ := h
  have h1 := RD_W hJ hw r1
  have h2 := RD_W j1 hw r2
  have h3 := RD_W j2 hw r3
  have h4 := ACT_W j3.1 hw (hr_of j3 hw a3 (RD_AT r3 (RD_AT r2 (RD_AT r1 hat)))) a
  omega
def LKs (σ : qS) (w : Int) : Prop := 38 ≤ σ 62 w ∧ σ 65 w = 1 ∧ σ 66 w = 0
theorem ACT_L {w : Int} {σ σ' : qS} (hj : jobok σ) (hw : 0 ≤ w ∧ w < 6) (hr : 38 ≤ σ 62 w → (0 ≤ σ 65 w ∧ σ 65 w ≤ 13) ∧ (0 ≤ σ 66 w ∧ σ 66 w < 12) ∧ (σ 65 w = 0 → σ 66 w = 0)) (h : ACT w σ σ') (hl : LKs σ' w) : Wp σ' + 140 ≤ Wp σ := by
  have hsp := spl_b hj
  obtain ⟨h0, ho, hk, c⟩ := h
  obtain ⟨l1, l2, l3⟩ := hl
  have he : σ' 31 = σ 31 := hk _ (by decide)
  have hi : ∀ t, isdn σ' t = isdn σ t := isdn_k (hk _ (by decide)) (hk _ (by decide))
  rcases c with ⟨-, -, c, -⟩ | ⟨c0, c⟩ | ⟨c0, c⟩
  · omega
  · rcases c with ⟨-, -, f, -⟩ | ⟨-, f, -⟩ | ⟨-, -, f, -⟩ | ⟨-, -, c, -⟩
    · have := f.1; omega
    · have := f.1; omega
    · have := f.1; omega
    · omega
  · obtain ⟨a1, a2, a3⟩ := hr c0
    rcases c with ⟨-, -, f, -⟩ | ⟨-, -, -, -, f, -⟩ | ⟨-, -, -, a4, -, -, -, -, -, -, c⟩ | ⟨-, -, -, a4, -, c1, -, -, c2, c⟩ | ⟨-, -, f, -⟩
    · have := f.1; omega
    · have := f.1; omega
    · omega
    · rcases c with ⟨t1, t2, c⟩ | ⟨t1, t2, kv, kv', c⟩
      · omega
      · have e13 : σ 65 w = 13 := by
          rcases a4 with a4 | a4
          · have := a3 a4; omega
          · exact a4
        have hl : wl σ (ln σ') ≤ wl σ (ln σ) + 2 := by
          rw [c, wl_app]
          have h1 := wl_tl σ (tl95 (ln σ) ++ [(σ 33 (σ 64 w), [5, σ 31 0, σ 64 w, σ 62 w - 38, ps σ w, w], kv)])
          rw [wl_app] at h1
          have h2 := wl_tl σ (ln σ)
          simp only [wl, wt_5, wt_7] at h1 ⊢
          omega
        have hww : ww σ' w + 142 = ww σ w := by
          unfold ww
          rw [c1, hi, if_neg (fun e => by omega : ¬ (σ 62 w = -1 ∧ _)), if_neg (fun e => by omega : ¬ (σ 62 w = -1 ∧ _)), if_pos c0, if_pos c0, t2, c2, t1, e13]
          have z1 : 13 * ((0 : Int).toNat - 1) + (1 : Int).toNat = 1 := rfl
          have z2 : 13 * ((11 : Int).toNat - 1) + (13 : Int).toNat = 143 := rfl
          rw [z1, z2]
        have := wsum_o (d := 0) hw ho hi (by omega)
        unfold Wp
        rw [wl_k he hi]
        omega
    · have := f.1; omega
theorem W_lk {w : Int} {σ σ' : qS} (hJ : JI False (-1) σ) (hw : 0 ≤ w ∧ w < 6) (hat : AT σ w) (h : WTK w σ σ') (hl : LKs σ' w) : Wp σ' + 140 ≤ Wp σ := by
  obtain ⟨σ1, σ2, σ3, r1, r2, r3, a, ⟨j1, j2, j3, j4⟩, a1, a2, a3, a4⟩ := h
  have h1 := RD_W hJ hw r1
  have h2 := RD_W j1 hw r2
  have h3 := RD_W j2 hw r3
  have h4 := ACT_L j3.1 hw (hr_of j3 hw a3 (RD_AT r3 (RD_AT r2 (RD_AT r1 hat)))) a hl
  omega
theorem run_AT {L : Nat} {τ : Nat → qS} (h : RNN L τ) {w : Nat} (hw : w < 6) {t : Nat} (ht : t % 7 = w) {j : Nat} (hj : j ≤ 6) (hl : t + 1 + j ≤ 7 * L) : AT (τ (t + 1 + j)) w := by
  have hs := h.2 t (by omega)
  rw [ht] at hs
  rcases hs with ⟨hw', hs⟩ | ⟨e, -⟩
  · have h1 := WTK_AT hw' hs
    have hr := run_w h hw ht j hj hl
    unfold AT at h1 ⊢
    rw [hr 62 (by decide), hr 65 (by decide), hr 66 (by decide)]
    exact h1
  · omega
theorem run_AT7 {L : Nat} {τ : Nat → qS} (h : RNN L τ) {w : Nat} (hw : w < 6) {t : Nat} (ht : 7 ≤ t) (hl : t ≤ 7 * L) : AT (τ t) w := by
  have := run_AT h hw (t := t - 1 - ((t - 1 + 7 - w) % 7)) (by omega) (j := (t - 1 + 7 - w) % 7) (by omega) (by omega)
  rw [show t - 1 - ((t - 1 + 7 - w) % 7) + 1 + (t - 1 + 7 - w) % 7 = t by omega] at this
  exact this

