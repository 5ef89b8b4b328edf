def PTH (σ : qS) (i : Nat) (σi : qS) : Prop := ∃ ρ : Nat → qS, ρ 0 = σ ∧ ρ i = σi ∧ (∀ j, j ≤ i → GS (ρ j)) ∧ ∀ j : Nat, j < i → STP (j : Int) (ρ j) (ρ (j + 1))
theorem PTH_s {σ σi σ' : qS} {i : Nat} (h : PTH σ i σi) (hs : STP (i : Int) σi σ') (hg : GS σ') : PTH σ (i + 1) σ' := by
  obtain ⟨ρ, r0, r1, r2, r3⟩ := h
  refine ⟨fun j => if j ≤ i then ρ j else σ', ?_, ?_, fun j hj => ?_, fun j hj => ?_⟩
  · simp only [Nat.zero_le, if_true]; exact r0
  · simp only [if_neg (show ¬ i + 1 ≤ i by omega)]
  · by_cases e : j ≤ i
    · simp only [if_pos e]; exact r2 j e
    · simp only [if_neg e]; exact hg
  · by_cases e : j = i
    · subst e
      simp only [Nat.le_refl, if_true]
      rw [if_neg (by omega), r1]; exact hs
    · simp only [if_pos (show j ≤ i by omega), if_pos (show j + 1 ≤ i by omega)]
      exact r3 j (by omega)
def MID (N c : Nat) (σ : qS) (i : Nat) (σi : qS) : Prop := INVr (RJm False) N c σi ∧ LT0 σi ∧ σi 27 0 ≠ 0 ∧ (∀ k ∈ [30, 32, 36, 31], σi k = σ k) ∧ (∀ v, 0 ≤ v → v < (i : Int) → AW σi v) ∧ (GS σ → PTH σ i σi)
def AFT (N c : Nat) (σ σ' : qS) : Prop := INVr (RJm False) N (c + 1) σ' ∧ (σ' 27 0 = 0 ∨ (LT0 σ' ∧ σ' 30 = σ 30 ∧ (σ' 32 0 = σ 32 0 + 1 ∨ (σ' 32 = σ 32 ∧ σ' 27 0 ≠ 0 ∧ σ' 36 0 ≠ 0 ∧ (∀ v, 0 ≤ v → v < 6 → AW σ' v) ∧ (GS σ → PTH σ 7 σ')))))
theorem walk {N c : Nat} {σ : qS} {K : qS → Prop} (hN : N ≤ 4096) (hc : c < c + 1) (hK : ∀ σ', AFT N c σ σ' → K σ') : ∀ (m i : Nat) (σi : qS), m + i = 6 → MID N c σ i σi → RndP (m + 1) (i : Int) K σi
  | 0, i, σi, hi, h => by
    have : i = 6 := by omega
    subst this
    obtain ⟨h1, h2, h3, h4, h5, h6⟩ := h
    obtain ⟨p1, p2⟩ := mone_ok hN h1 hc
    refine ⟨p1, fun σ' hq => hK σ' ⟨p2 σ' hq, ?_⟩⟩
    rcases hq with ⟨e, -⟩ | ⟨-, -, q⟩ | ⟨-, e, -⟩
    · exact absurd e h3
    · rcases m_tick hN h1 h3 h2 q with e | ⟨e1, e2, e3⟩
      · exact Or.inl e
      · by_cases hg : σ' 27 0 = 0
        · exact Or.inl hg
        refine Or.inr ⟨e1, e2.trans (h4 _ (by decide)), ?_⟩
        rcases e3 with e3 | ⟨e3, e4, e5, e6⟩
        · exact Or.inl (by rw [e3, h4 32 (by decide)])
        · have hA : ∀ v, 0 ≤ v → v < 6 → AW σ' v := fun v v0 v1 => by
            have := h5 v v0 v1
            unfold AW at this ⊢
            rw [e5 61 (by decide), e5 54 (by decide), e5 31 (by decide), e5 62 (by decide), e5 63 (by decide)]
            exact this
          refine Or.inr ⟨e3.trans (h4 _ (by decide)), hg, e4, hA, fun hG => ?_⟩
          have hJ := ((p2 σ' (Or.inr (Or.inl ⟨h3, rfl, q⟩))).2.2.2.2.2 hg).2
          exact PTH_s (h6 hG) (Or.inr ⟨rfl, e6 (by rw [h4 36 (by decide)]; exact hG.2.2.2.1)⟩) ⟨hJ, e1, hA, e4, hg⟩
    · exact absurd rfl e
  | m + 1, i, σi, hi, h => by
    obtain ⟨h1, h2, h3, h4, h5, h6⟩ := h
    have hw : 0 ≤ (i : Int) ∧ (i : Int) < 6 := by omega
    obtain ⟨p1, p2⟩ := wone_ok h1 hw
    refine ⟨p1, fun σ' hq => ?_⟩
    have h1' := p2 σ' hq
    rcases hq with ⟨e, -⟩ | ⟨-, e, -⟩ | ⟨-, -, q⟩
    · exact absurd e h3
    · omega
    · have hJ := (h1.2.2.2.2.2 h3).2
      obtain ⟨t1, t2, t3, t4, t5⟩ := w_tick hJ hw h2 q
      have hg : σ' 27 0 ≠ 0 := by rw [t4 27 (by decide)]; exact h3
      have eE : σ' 31 = σi 31 := t4 _ (by decide)
      have hA : ∀ v, 0 ≤ v → v < ((i + 1 : Nat) : Int) → AW σ' v := fun v v0 v1 => by
        by_cases e : v = (i : Int)
        · rw [e]; exact t3
        · exact AW_o t1 eE e (h5 v v0 (by omega))
      have := walk hN hc hK m (i + 1) σ' (by omega) ⟨h1', t2, hg, fun k k1 => (t4 k ((by decide : ∀ k ∈ [30, 32, 36, 31], k ∉ wL) k k1)).trans (h4 k k1), hA, fun hG => ?_⟩
      · exact this
      · have hP := h6 hG
        have hGi : GS σi := by
          obtain ⟨ρ, -, r1, r2, -⟩ := hP
          rw [← r1]; exact r2 i (Nat.le_refl i)
        refine PTH_s hP (Or.inl ⟨hw, t5 (hGi.2.2.1 _ hw.1 hw.2)⟩) ⟨(h1'.2.2.2.2.2 hg).2, t2, fun v v0 v1 => ?_, ?_, hg⟩
        · by_cases e : v = (i : Int)
          · rw [e]; exact t3
          · exact AW_o t1 eE e (hGi.2.2.1 v v0 v1)
        · rw [t4 36 (by decide)]; exact hGi.2.2.2.1
theorem FinP_0 {σ : qS} (h : σ 27 0 = 0) : ∀ n, FinP n σ
  | 0 => h
  | _ + 1 => Or.inl h
def RNN (L : Nat) (τ : Nat → qS) : Prop := (∀ t, t ≤ 7 * L → GS (τ t)) ∧ ∀ t, t < 7 * L → STP ((t % 7 : Nat) : Int) (τ t) (τ (t + 1))
theorem RNN_s {L : Nat} {τ : Nat → qS} {σ' : qS} (h : RNN L τ) (hp : PTH (τ (7 * L)) 7 σ') : ∃ τ', RNN (L + 1) τ' ∧ τ' (7 * (L + 1)) = σ' := by
  obtain ⟨ρ, r0, r1, r2, r3⟩ := hp
  refine ⟨fun t => if t ≤ 7 * L then τ t else ρ (t - 7 * L), ⟨fun t ht => ?_, fun t ht => ?_⟩, ?_⟩
  · by_cases e : t ≤ 7 * L
    · simp only [if_pos e]; exact h.1 t e
    · simp only [if_neg e]; exact r2 _ (by omega)
  · by_cases e : t < 7 * L
    · simp only [if_pos (show t ≤ 7 * L by omega), if_pos (show t + 1 ≤ 7 * L by omega)]; exact h.2 t e
    · have e1 : (if t ≤ 7 * L then τ t else ρ (t - 7 * L)) = ρ (t - 7 * L) := by
        by_cases e2 : t ≤ 7 * L
        · have : t = 7 * L := by omega
          rw [if_pos e2, this, Nat.sub_self, r0]
        · rw [if_neg e2]
      simp only [e1, if_neg (show ¬ t + 1 ≤ 7 * L by omega)]
      have := r3 (t - 7 * L) (by omega)
      rw [show t % 7 = t - 7 * L by omega, show t + 1 - 7 * L = t - 7 * L + 1 by omega]
      exact this
  · simp only [if_neg (show ¬ 7 * (L + 1) ≤ 7 * L by omega)]
    rw [show 7 * (L + 1) - 7 * L = 7 by omega]; exact r1
theorem fin_in {N W M : Nat} {r : Int} (hN : N ≤ 4096) (hW : NR W) (hr : ∀ σ c, INVr (RJm False) N c σ → LT0 σ → (σ 27 0 ≠ 0 → σ 30 0 - σ 32 0 ≤ r) → c + M ≤ c + M → FinP M σ) : ∀ (k L : Nat) (τ : Nat → qS) (c : Nat), L + k = W → RNN L τ → INVr (RJm False) N c (τ (7 * L)) → τ (7 * L) 30 0 - τ (7 * L) 32 0 ≤ r + 1 → c + k + M ≤ c + k + M → FinP (k + M) (τ (7 * L))
  | 0, L, τ, c, hL, hR, _, _, _ => by
    have : L = W := by omega
    subst this
    exact (hW τ hR.1 hR.2).elim
  | k + 1, L, τ, c, hL, hR, hI, hp, hc => by
    have hG := hR.1 (7 * L) (Nat.le_refl _)
    rw [show k + 1 + M = (k + M) + 1 by omega]
    refine Or.inr ⟨hG.2.2.2.2, walk (c := c) hN (by omega) (fun σ' hA => ?_) 6 0 _ (by omega) ⟨hI, hG.2.1, hG.2.2.2.2, fun _ _ => rfl, fun v v0 v1 => by omega, fun _ => ⟨fun _ => τ (7 * L), rfl, rfl, fun _ _ => hG, fun j hj => by omega⟩⟩⟩
    obtain ⟨a1, a2⟩ := hA
    rcases a2 with e | ⟨e1, e2, e3⟩
    · exact FinP_0 e _
    · rcases e3 with e3 | ⟨e3, e4, e5, e6, e7⟩
      · exact FinP_le (hr σ' (c + 1) a1 e1 (fun _ => by rw [e2, e3]; omega) (by omega)) (by omega)
      · obtain ⟨τ', t1, t2⟩ := RNN_s hR (e7 hG)
        have := fin_in hN hW hr k (L + 1) τ' (c + 1) (by omega) t1 (by rw [t2]; exact a1) (by rw [t2, e2, e3]; exact hp) (by omega)
        rw [t2] at this
        exact this
theorem fin_r {N W : Nat} (hN : N ≤ 4096) (hW : NR W) : ∀ (r : Nat) (σ : qS) (c : Nat), INVr (RJm False) N c σ → LT0 σ → (σ 27 0 ≠ 0 → σ 30 0 - σ 32 0 ≤ (r : Int)) → c + r * (W + 1) ≤ c + r * (W + 1) → FinP (r * (W + 1)) σ
  | 0, σ, c, h, _, hp, _ => by
    by_cases hg : σ 27 0 = 0
    · exact FinP_0 hg _
    · have := (h.2.2.2.2.2 hg).1.1
      have := hp hg
      omega
  | r + 1, σ, c, h, h0, hp, hc => by
    by_cases hg : σ 27 0 = 0
    · exact FinP_0 hg _
    have em : (r + 1) * (W + 1) = r * (W + 1) + (W + 1) := Nat.succ_mul r (W + 1)
    have hp' := hp hg
    rw [show (r + 1) * (W + 1) = (W + r * (W + 1)) + 1 by omega]
    refine Or.inr ⟨hg, walk (c := c) hN (by omega) (fun σ' hA => ?_) 6 0 σ (by omega) ⟨h, h0, hg, fun _ _ => rfl, fun v v0 v1 => by omega, fun hG => ⟨fun _ => σ, rfl, rfl, fun _ _ => hG, fun j hj => by omega⟩⟩⟩
    obtain ⟨a1, a2⟩ := hA
    rcases a2 with e | ⟨e1, e2, e3⟩
    · exact FinP_0 e _
    · rcases e3 with e3 | ⟨e3, e4, e5, e6, e7⟩
      · exact FinP_le (fin_r hN hW r σ' (c + 1) a1 e1 (fun _ => by rw [e2, e3]; omega) (by omega)) (by omega)
      · have hG : GS σ' := ⟨(a1.2.2.2.2.2 e4).2, e1, e6, e5, e4⟩
        exact fin_in (r := (r : Int)) hN hW (fun σ c => fin_r hN hW r σ c) W 0 (fun _ => σ') (c + 1) (by omega) ⟨fun _ _ => hG, fun t ht => by omega⟩ a1 (by rw [e2, e3]; omega) (by omega)
theorem fin_of {W : Nat} (hW : NR W) : ∀ N c σ, N ≤ 4096 → INVr (RJm False) N c σ → c ≤ 900000 → σ 49 0 = 0 → σ 50 0 = 0 → ∃ n : Nat, c + n ≤ c + n ∧ FinP n σ := fun N c σ hN h hc h1 h2 => by
  refine ⟨8 * (W + 1), by omega, fin_r hN hW 8 σ c h ⟨h1, h2⟩ (fun _ => ?_) (by omega)⟩
  have := h.2.2.2.1.1.1
  have := h.2.2.2.1.2.2.1
  omega
theorem vc_nr {W : Nat} (hW : NR W) : Claimed_1_1 ∧ Claimed_1_2 := vc_run (riok_of (fin_of hW))

