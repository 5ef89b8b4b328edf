def clk (σ : qS) : qS := su σ 39 0 (z_add (σ 39 0) 1)
def MTK (σ σ' : qS) : Prop := ∃ σ1 σ2, HR (clk σ) σ1 ∧ HR σ1 σ2 ∧ HR σ2 σ' ∧ (mapd σ' → ∃ k, 0 ≤ k ∧ k < σ' 13 (jb σ') ∧ σ' 35 k = 0) ∧ JI True (-1) (clk σ) ∧ JI True (-1) σ1 ∧ JI True (-1) σ2
def GS (σ : qS) : Prop := JI False (-1) σ ∧ LT0 σ ∧ (∀ w, 0 ≤ w → w < 6 → AW σ w) ∧ σ 36 0 ≠ 0 ∧ σ 27 0 ≠ 0
def STP (w : Int) (σ σ' : qS) : Prop := ((0 ≤ w ∧ w < 6) ∧ WTK w σ σ') ∨ (w = 6 ∧ MTK σ σ')
def NR (W : Nat) : Prop := ∀ τ : Nat → qS, (∀ t, t ≤ 7 * W → GS (τ t)) → (∀ t, t < 7 * W → STP ((t % 7 : Nat) : Int) (τ t) (τ (t + 1))) → False
theorem RndP_m {K K' : qS → Prop} (h : ∀ σ, K σ → K' σ) : ∀ (n : Nat) (w : Int) (σ : qS), RndP n w K σ → RndP n w K' σ
  | 0, _, σ, hp => h σ hp
  | n + 1, w, σ, hp => ⟨hp.1, fun σ' q => RndP_m h n (w + 1) σ' (hp.2 σ' q)⟩
theorem FinP_s : ∀ (n : Nat) (σ : qS), FinP n σ → FinP (n + 1) σ
  | 0, _, h => Or.inl h
  | n + 1, σ, h => by
    rcases h with h | ⟨h1, h2⟩
    · exact Or.inl h
    · exact Or.inr ⟨h1, RndP_m (FinP_s n) 7 0 σ h2⟩
theorem FinP_le {n m : Nat} {σ : qS} (h : FinP n σ) (hm : n ≤ m) : FinP m σ := by
  induction hm with
  | refl => exact h
  | step _ ih => exact FinP_s _ σ ih
theorem wk1_o {σ : qS} {w : Int} : oth w σ (wk1 σ w) ∧ ∀ k ∈ [49, 50], wk1 σ w k = σ k := by
  have h0 : oth w σ (wk0 σ w) ∧ ∀ k ∈ [49, 50], wk0 σ w k = σ k := by
    unfold wk0
    split
    · exact ⟨(oth.fgt w σ).tr (oth.su (by decide)), fun k m => by rw [su_k (by revert m; revert k; decide), fgt_F (by revert m; revert k; decide)]⟩
    · exact ⟨oth.rf _ _, fun _ _ => rfl⟩
  have h1 : oth w (wk0 σ w) (rnw (wk0 σ w) w) ∧ ∀ k ∈ [49, 50], rnw (wk0 σ w) w k = wk0 σ w k := by
    unfold rnw
    split
    · exact ⟨oth.rf _ _, fun _ _ => rfl⟩
    · refine ⟨⟨fun v hv k hk => ?_, fun i _ => by rw [ra_k (by decide), su_k (by decide), su_k (by decide)], fun i hi => ?_⟩, fun k m => ?_⟩
      · rw [ra_k (by revert hk; revert k; decide), su_o hv, su_o hv]
      · rw [ra_e, if_neg (by omega), su_k (by decide), su_k (by decide)]
      · rw [ra_k (by revert m; revert k; decide), su_k (by revert m; revert k; decide), su_k (by revert m; revert k; decide)]
  unfold wk1
  split
  · exact ⟨(h0.1.tr h1.1).tr (oth.fgt w _), fun k m => by rw [fgt_F (by revert m; revert k; decide), h1.2 k m, h0.2 k m]⟩
  · exact ⟨h0.1.tr h1.1, fun k m => by rw [h1.2 k m, h0.2 k m]⟩
theorem AW_o {w v : Int} {σ σ' : qS} (h : oth w σ σ') (he : σ' 31 = σ 31) (hv : v ≠ w) (ha : AW σ v) : AW σ' v := by
  have k := fun k m => h.1 v hv k m
  refine ⟨by rw [k 61 (by decide)]; exact ha.1, by rw [k 54 (by decide), he]; exact ha.2.1, fun ht => ?_⟩
  rw [k 62 (by decide)] at ht
  rw [k 63 (by decide), he]
  exact ha.2.2 ht
theorem WTK_o {w : Int} {σ σ' : qS} (h : WTK w σ σ') : oth w σ σ' ∧ LT0 σ' ∧ AW σ' w ∧ JI False (-1) σ' := by
  obtain ⟨σ1, σ2, σ3, r1, r2, r3, a, ⟨-, -, -, j⟩, -, -, -, aw⟩ := h
  exact ⟨((r1.2.1.tr r2.2.1).tr r3.2.1).tr a.2.1, a.1, aw, j⟩
theorem w_tick {w : Int} {σ σ' : qS} (h : JI False (-1) σ) (hw : 0 ≤ w ∧ w < 6) (h0 : LT0 σ) (hq : Q_M_worker w σ σ') : oth w σ σ' ∧ LT0 σ' ∧ AW σ' w ∧ (∀ k, k ∉ wL → σ' k = σ k) ∧ (AW σ w → WTK w σ σ') := by
  have hF := wkr_F h hw hq
  obtain ⟨i1, i2⟩ := wk1_ok h hw
  obtain ⟨o1, o2⟩ := wk1_o (σ := σ) (w := w)
  have hq' : Q_M_worker w (wk1 σ w) σ' := by
    unfold Q_M_worker
    rw [wk1_id i2]
    exact hq
  obtain ⟨e1, e2, e3, -⟩ := WTK_o (wkr_eff i1 hw i2 (LT0_k h0 o2) hq')
  exact ⟨o1.tr e1, e2, e3, hF, fun ha => wkr_eff h hw ha h0 hq⟩
theorem clk_k {σ : qS} {k : Nat} (h : k ≠ 39) : clk σ k = σ k := by unfold clk; exact su_k h
theorem m_tick {N c : Nat} {σ σ' : qS} (hN : N ≤ 4096) (h : INVr (RJm False) N c σ) (hg : σ 27 0 ≠ 0) (h0 : LT0 σ) (hq : Q_M_master σ σ') : σ' 27 0 = 0 ∨ (LT0 σ' ∧ σ' 30 = σ 30 ∧ (σ' 32 0 = σ 32 0 + 1 ∨ (σ' 32 = σ 32 ∧ σ' 36 0 ≠ 0 ∧ (∀ k ∈ [61, 62, 63, 54, 31], σ' k = σ k) ∧ (σ 36 0 ≠ 0 → MTK σ σ')))) := by
  by_cases hg' : σ' 27 0 = 0
  · exact Or.inl hg'
  refine Or.inr ?_
  obtain ⟨σ1, σ2, σ3, q1, q2, q3, q4⟩ := hq
  obtain ⟨m1, m2, m3⟩ := ms1_ok h hg
  have hM : MT N (c + 1) (ms1 σ) := ⟨m1, fun _ => m2⟩
  have M1 := mtr_ok hM q1
  have M2 := mtr_ok M1 q2
  have M3 := mtr_ok M2 q3
  have hg3 : σ3 27 0 ≠ 0 := by
    rcases q4 with ⟨e, rfl⟩ | ⟨e, -⟩ | ⟨e, -⟩
    · exact hg'
    · exact e
    · exact e
  have msk : ∀ k, k ≠ 37 → k ≠ 36 → k ≠ 39 → ms1 σ k = σ k := fun k k1 k2 k3 => by
    unfold ms1
    rw [su_k k3]
    unfold ms0
    split
    · rw [su_k k2, ra_k k1]
    · rfl
  have hl0 : LT0 (ms1 σ) := LT0_k h0 (fun k m => msk k (by revert m; revert k; decide) (by revert m; revert k; decide) (by revert m; revert k; decide))
  have g2 : σ2 27 0 ≠ 0 := by
    rcases q3 with ⟨e, e'⟩ | ⟨e, -⟩
    · rw [← e']; exact hg3
    · exact e
  have g1 : σ1 27 0 ≠ 0 := by
    rcases q2 with ⟨e, e'⟩ | ⟨e, -⟩
    · rw [← e']; exact g2
    · exact e
  obtain ⟨r1, -⟩ := mtr_eff (MT_J hM m3) hl0 g1 q1
  obtain ⟨r2, -⟩ := mtr_eff (MT_J M1 g1) r1.1 g2 q2
  obtain ⟨r3, -⟩ := mtr_eff (MT_J M2 g2) r2.1 hg3 q3
  have kk : ∀ k ∈ hrK, σ3 k = ms1 σ k := fun k m => ((r3.2.1 k m).trans (r2.2.1 k m)).trans (r1.2.1 k m)
  have ks : ∀ k ∈ hrK, k ≠ 36 → k ≠ 39 → σ3 k = σ k := fun k m k2 k3 => (kk k m).trans (msk k ((by decide : ∀ k ∈ hrK, k ≠ 37) k m) k2 k3)
  have e1 : ∀ k ∈ [61, 62, 63, 54, 31, 32, 30], σ3 k = σ k := fun k m => ks k ((by decide : ∀ k ∈ [61, 62, 63, 54, 31, 32, 30], k ∈ hrK) k m) (by revert m; revert k; decide) (by revert m; revert k; decide)
  have stay : σ' = σ3 → (mapd σ3 → ∃ k, 0 ≤ k ∧ k < σ3 13 (jb σ3) ∧ σ3 35 k = 0) → (LT0 σ' ∧ σ' 30 = σ 30 ∧ (σ' 32 0 = σ 32 0 + 1 ∨ (σ' 32 = σ 32 ∧ σ' 36 0 ≠ 0 ∧ (∀ k ∈ [61, 62, 63, 54, 31], σ' k = σ k) ∧ (σ 36 0 ≠ 0 → MTK σ σ')))) := fun e hp => by
    subst e
    refine ⟨r3.1, e1 _ (by decide), Or.inr ⟨e1 _ (by decide), by rw [kk _ (by decide)]; exact m2, fun k m => e1 k ((by decide : ∀ k ∈ [61, 62, 63, 54, 31], k ∈ [61, 62, 63, 54, 31, 32, 30]) k m), fun hk => ?_⟩⟩
    have : ms1 σ = clk σ := by
      unfold ms1 ms0 clk
      rw [if_neg hk]
    refine ⟨σ1, σ2, ?_, r2, r3, hp, ?_, MT_J M1 g1, MT_J M2 g2⟩
    · rw [← this]; exact r1
    · rw [← this]; exact MT_J hM m3
  rcases q4 with ⟨e, -⟩ | ⟨-, hm, rfl⟩ | ⟨-, hm, q⟩
  · exact absurd e hg3
  · exact stay rfl (fun e => absurd e hm)
  · rcases q with ⟨-, q⟩ | ⟨-, q, rfl⟩ | ⟨-, q, c⟩
    · have e : σ' = su (su σ3 28 0 (jb σ3)) 27 0 0 := q
      rw [e, su_s] at hg'
      exact absurd rfl hg'
    · exact stay rfl (fun _ => q)
    · rcases c with ⟨-, c⟩ | ⟨-, σ4, c1, rfl⟩
      · have e : σ' = su (su σ3 28 0 (jb σ3)) 27 0 0 := c
        rw [e, su_s] at hg'
        exact absurd rfl hg'
      · have nk : ∀ (τ : qS) (k : Nat), k ∉ [27, 31, 33, 35, 36] → nxj τ k = τ k := fun τ k m => by
          simp only [List.mem_cons, List.not_mem_nil, or_false, not_or] at m
          unfold nxj
          split
          · rw [su_k m.1]
          · rw [su_k (by omega), ra_k (by omega), ra_k (by omega), su_k (by omega)]
        refine ⟨?_, ?_, Or.inl ?_⟩
        · refine LT0_k r3.1 (fun k m => ?_)
          rw [nk _ k (by revert m; revert k; decide), su_k (by revert m; revert k; decide), su_k (by revert m; revert k; decide), c1.1 k (by revert m; revert k; decide)]
        · rw [nk _ _ (by decide), su_k (by decide), su_k (by decide), c1.1 _ (by decide)]; exact e1 _ (by decide)
        · rw [nk _ _ (by decide), su_s, e1 _ (by decide)]

