def wK : List Nat := [61, 62, 63, 64, 65, 66, 75, 54]
theorem MTK_k {σ σ' : qS} (h : MTK σ σ') : ∀ k ∈ hrK, k ≠ 39 → σ' k = σ k := by
  obtain ⟨σ1, σ2, r1, r2, r3, -⟩ := h
  intro k m hc
  rw [r3.2.1 k m, r2.2.1 k m, r1.2.1 k m]
  exact clk_k hc
theorem STP_w {v w : Int} {σ σ' : qS} (h : STP v σ σ') (hv : v ≠ w) (hw : 0 ≤ w ∧ w < 6) : ∀ k ∈ wK, σ' k w = σ k w := by
  rcases h with ⟨-, h⟩ | ⟨-, h⟩
  · exact (WTK_o h).1.1 w (fun e => hv e.symm)
  · intro k m
    rw [MTK_k h k ((by decide : ∀ k ∈ wK, k ∈ hrK) k m) ((by decide : ∀ k ∈ wK, k ≠ 39) k m)]
theorem run_w {L : Nat} {τ : Nat → qS} (h : RNN L τ) {w : Nat} (hw : w < 6) {t : Nat} (ht : t % 7 = w) : ∀ j, j ≤ 6 → t + 1 + j ≤ 7 * L → ∀ k ∈ wK, τ (t + 1 + j) k w = τ (t + 1) k w
  | 0, _, _ => fun _ _ => rfl
  | j + 1, hj, hl => fun k m => by
    have ih := run_w h hw ht j (by omega) (by omega) k m
    have hs := h.2 (t + 1 + j) (by omega)
    have := STP_w hs (w := (w : Int)) (by omega) (by omega) k m
    rw [show t + 1 + (j + 1) = t + 1 + j + 1 by omega, this, ih]
theorem GV_nn {σ : qS} (h : JI False (-1) σ) {w : Int} (hw : 0 ≤ w ∧ w < 6) {i : Nat} {x : Ms} (hi : (ln σ).findIdx? (fun m => m.1 == w) = some i) (hx : (ln σ)[i]? = some x) (he : xw x 1 = σ 31 0) (h2 : xw x 0 = 2) : 0 ≤ xw x 2 := by
  have hm : x ∈ ln σ := List.mem_of_getElem? hx
  have hL := (h.2.2.2.2.2.2.2.1 x hm).2 he
  rcases hL with ⟨-, e⟩ | ⟨-, e⟩
  · rcases e with ⟨e, -⟩ | ⟨e, -⟩ | ⟨e, -⟩ | ⟨e, -⟩ <;> omega
  · rcases e with ⟨-, g⟩ | ⟨e, -⟩ | ⟨e, -⟩
    · rcases g with g | g <;> omega
    · omega
    · omega
theorem RD_idle {w : Int} {σ σ' : qS} (hJ : JI False (-1) σ) (hw : 0 ≤ w ∧ w < 6) (h : RD w σ σ') (ht : σ' 62 w = -1) : σ 62 w = -1 ∧ σ' 65 w = σ 65 w := by
  obtain ⟨-, -, -, c⟩ := h
  have sm : same w σ σ' → σ 62 w = -1 ∧ σ' 65 w = σ 65 w := fun s => ⟨by rw [← s.1]; exact ht, s.2.2.1⟩
  rcases c with ⟨-, -, c⟩ | ⟨i, x, c1, c2, c⟩
  · exact sm c
  · rcases c with ⟨-, -, c⟩ | ⟨he, h2, -, c⟩ | ⟨-, -, c, -⟩ | ⟨-, -, -, c⟩
    · exact sm c
    · rcases c with ⟨-, c, -⟩ | ⟨-, c⟩
      · have := GV_nn hJ hw c1 c2 he h2
        omega
      · exact sm c
    · exact sm c
    · rcases c with ⟨-, c⟩ | ⟨f, c, -⟩
      · exact sm c
      · have := f.1; omega
def AK (w : Int) (σ : qS) : Prop := σ 62 w = -1 ∧ σ 65 w = 1
theorem WTK_idle {w : Int} {σ σ' : qS} (hJ : JI False (-1) σ) (hw : 0 ≤ w ∧ w < 6) (h : WTK w σ σ') (ht : σ' 62 w = -1) (ha : σ' 65 w ≠ 0) : σ 62 w = -1 ∧ σ' 65 w = σ 65 w + 1 := by
  obtain ⟨σ1, σ2, σ3, r1, r2, r3, a, ⟨j1, j2, j3, j4⟩, -⟩ := h
  have back : σ3 62 w = -1 → σ 62 w = -1 ∧ σ3 65 w = σ 65 w := fun e => by
    obtain ⟨e3, g3⟩ := RD_idle j2 hw r3 e
    obtain ⟨e2, g2⟩ := RD_idle j1 hw r2 e3
    obtain ⟨e1, g1⟩ := RD_idle hJ hw r1 e2
    exact ⟨e1, by rw [g3, g2, g1]⟩
  obtain ⟨-, -, -, c⟩ := a
  rcases c with ⟨c1, -, -, c2, -⟩ | ⟨c0, c⟩ | ⟨c0, c⟩
  · obtain ⟨b1, b2⟩ := back c1
    refine ⟨b1, ?_⟩
    rw [b2] at c2
    by_cases e : σ 65 w = 5
    · rw [if_pos e] at c2; exact absurd c2 ha
    · rw [if_neg e] at c2; exact c2
  · rcases c with ⟨-, -, f, -⟩ | ⟨-, f, -⟩ | ⟨-, -, f, -⟩ | ⟨-, -, c, -⟩
    · exact absurd f.2.2.1 ha
    · exact absurd f.2.2.1 ha
    · exact absurd f.2.2.1 ha
    · omega
  · rcases c with ⟨-, -, f, -⟩ | ⟨-, -, -, -, f, -⟩ | ⟨-, -, -, -, -, -, c, -⟩ | ⟨-, -, -, -, -, c, -⟩ | ⟨-, -, f, -⟩
    · exact absurd f.2.2.1 ha
    · exact absurd f.2.2.1 ha
    · omega
    · omega
    · exact absurd f.2.2.1 ha
theorem ak_sp {L : Nat} {τ : Nat → qS} (h : RNN L τ) {w : Nat} (hw : w < 6) {t : Nat} (ht : t % 7 = w) (hl : t + 8 ≤ 7 * L) (h1 : AK w (τ (t + 1))) : ¬ AK w (τ (t + 8)) := fun h2 => by
  have hr := run_w h hw ht 6 (by omega) (by omega)
  have hs := h.2 (t + 7) (by omega)
  rw [show (t + 7) % 7 = w by omega] at hs
  rcases hs with ⟨hw', hs⟩ | ⟨e, -⟩
  · obtain ⟨e1, e2⟩ := WTK_idle (h.1 (t + 7) (by omega)).1 hw' hs h2.1 (by rw [h2.2]; decide)
    have g := hr 65 (by decide)
    rw [show t + 1 + 6 = t + 7 by omega] at g
    rw [g, h1.2, h2.2] at e2
    omega
  · omega

