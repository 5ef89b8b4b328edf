theorem wk1_ok {σ : qS} {w : Int} (h : JI False (-1) σ) (hw : 0 ≤ w ∧ w < 6) : JI False (-1) (wk1 σ w) ∧ AW (wk1 σ w) w := by
  have a0 : JI False (-1) (wk0 σ w) ∧ wk0 σ w 61 w ≠ 0 := by
    unfold wk0
    by_cases c : σ 61 w = 0
    · rw [if_pos c]
      have hF : ∀ k, k ∉ 61 :: fgL → su (fgt σ w) 61 w 1 k = σ k := fun k hk => by
        rw [su_k (by intro e; subst e; exact hk (by decide))]
        exact fgt_F (fun e => hk (List.mem_cons_of_mem _ e))
      have hv : ∀ v k, v ≠ w → su (fgt σ w) 61 w 1 k v = σ k v := fun v k hv => by rw [su_o hv, fgt_o hv]
      obtain ⟨v1, v2, v3, -⟩ := fgt_v σ w
      refine ⟨JI_w h hw (fun k m1 _ _ => hF k (fun e => m1 ((by decide : ∀ k ∈ 61 :: fgL, k ∈ wA) k e))) ?_ (fun x hx => Or.inl ?_) (fun v _ _ hne => WSl_w (fun k _ => hv v k hne) (fun k m => hF k ((by decide : ∀ k ∈ [68, 69, 71, 72, 74, 76, 77, 78], k ∉ 61 :: fgL) k m))) ?_ (fun _ _ => Or.inl ?_), by rw [su_s]; decide⟩
      · unfold lok; rw [hF _ (by decide)]; exact h.2.2.1
      · rw [ln_k (fun k m => hF k ((by decide : ∀ k ∈ [48, 44, 45, 46, 47], k ∉ 61 :: fgL) k m))] at hx; exact hx
      · rw [hF _ (by decide)]; exact (h.2.2.2.2.2.2.2.2.2.2.1 w hw.1 hw.2).2
      · rw [su_k (by decide), su_k (by decide), su_k (by decide)]; exact ⟨v1, by omega, v2⟩
    · rw [if_neg c]; exact ⟨h, c⟩
  have a1 : JI False (-1) (rnw (wk0 σ w) w) ∧ rnw (wk0 σ w) w 61 w ≠ 0 ∧ rnw (wk0 σ w) w 54 w = rnw (wk0 σ w) w 31 0 := by
    generalize wk0 σ w = τ at *
    obtain ⟨h, hu⟩ := a0
    unfold rnw
    by_cases c : τ 54 w = τ 31 0
    · rw [if_pos c]; exact ⟨h, hu, c⟩
    · rw [if_neg c]
      have hF : ∀ k, k ∉ [54, 55, 56] → ra (su (su τ 54 w (τ 31 0)) 55 w 0) 56 (w * 38) (w * 38 + 38) (fun _ => -1) k = τ k := fun k hk => by
        simp only [List.mem_cons, List.not_mem_nil, or_false, not_or] at hk
        rw [ra_k (by omega), su_k (by omega), su_k (by omega)]
      have e1 : ∀ v, ra (su (su τ 54 w (τ 31 0)) 55 w 0) 56 (w * 38) (w * 38 + 38) (fun _ => -1) 54 v = if v = w then τ 31 0 else τ 54 v := fun v => by rw [ra_k (by decide), su_k (by decide), su_e]
      have e2 : ∀ v, ra (su (su τ 54 w (τ 31 0)) 55 w 0) 56 (w * 38) (w * 38 + 38) (fun _ => -1) 55 v = if v = w then 0 else τ 55 v := fun v => by rw [ra_k (by decide), su_e, su_k (by decide)]
      have e3 : ∀ i, ra (su (su τ 54 w (τ 31 0)) 55 w 0) 56 (w * 38) (w * 38 + 38) (fun _ => -1) 56 i = if w * 38 ≤ i ∧ i < w * 38 + 38 then -1 else τ 56 i := fun i => by rw [ra_e, su_k (by decide), su_k (by decide)]
      generalize ra (su (su τ 54 w (τ 31 0)) 55 w 0) 56 (w * 38) (w * 38 + 38) (fun _ => -1) = ρ at *
      have hs : stE τ ρ := fun k m => hF k ((by decide : ∀ k ∈ stS, k ∉ [54, 55, 56]) k m)
      have h0 := h
      obtain ⟨j1, j2, j3, j4, j5, j6, j7, j8, j9, j10, j11⟩ := h
      have hwA : ∀ k ∈ wA, ρ k = τ k := fun k m => hF k ((by decide : ∀ k ∈ wA, k ∉ [54, 55, 56]) k m)
      refine ⟨JI_step h0 hs ?_ (fun k m => hF k ((by decide : ∀ k ∈ jS, k ∉ [54, 55, 56]) k m)) (fun v v0 v1 he => ?_) (pmon_eq (hF _ (by decide))) (fun v v0 v1 he => ?_) (JP_eq hs j6 (fun k m => hF k ((by decide : ∀ k ∈ pA, k ∉ [54, 55, 56]) k m))) (fun x hx => Or.inl ?_) (fun v v0 v1 vu hv => ?_) ⟨fun v v0 v1 => ⟨?_, ?_⟩, fun p p0 p1 => ?_⟩, by rw [hF _ (by decide)]; exact hu, by rw [e1, if_pos rfl, hF _ (by decide)]⟩
      · unfold lok; rw [hF _ (by decide)]; exact j3
      · have hv : v ≠ w := fun e => c (by rw [← e]; exact he)
        rw [e1, if_neg hv]
        refine ⟨he, fun k k0 k1 hk => ?_⟩
        rw [e3, if_neg (by omega), hF 57 (by decide)]
        exact ⟨hk, rfl⟩
      · by_cases hv : v = w
        · subst hv
          refine ⟨by rw [e2, if_pos rfl]; omega, ?_, fun k k0 k1 hk => ?_⟩
          · rw [e2, if_pos rfl]
            have : ssum (kln ρ v) 38 = ssum (fun _ => 0) 38 := by
              apply ssum_c
              intro i i0 i1
              unfold kln
              rw [e3, if_pos (by omega)]
            rw [this]; rfl
          · rw [e3, if_pos (by omega)] at hk
            exact absurd rfl hk
        · rw [e1, if_neg hv, st_era hs] at he
          refine DK_sl hs ⟨⟨by rw [e1, if_neg hv], by rw [e2, if_neg hv]⟩, ⟨fun i i0 i1 => by rw [e3, if_neg (by omega)], fun i i0 i1 => by rw [hF _ (by decide)], fun i i0 i1 => by rw [hF _ (by decide)]⟩, fun i i0 i1 => by rw [hF _ (by decide)], fun i i0 i1 => by rw [hF _ (by decide)]⟩ (j4 v v0 v1 he)
      · rw [ln_k (fun k m => hF k ((by decide : ∀ k ∈ [48, 44, 45, 46, 47], k ∉ [54, 55, 56]) k m))] at hx; exact hx
      · rw [hF _ (by decide)] at hv
        exact WOK_sl j1 hs (WSl_eq hwA v) (j9 v v0 v1 vu hv)
      · rw [e1, st_era hs]
        split
        · exact Int.le_refl _
        · exact (j11.1 v v0 v1).1
      · rw [hF _ (by decide)]; exact (j11.1 v v0 v1).2
      · rw [hF _ (by decide), st_era hs]; exact j11.2 p p0 p1
  unfold wk1
  generalize rnw (wk0 σ w) w = τ at *
  obtain ⟨h1, h2, h3⟩ := a1
  by_cases c : τ 62 w ≠ -1 ∧ τ 63 w ≠ τ 31 0
  · rw [if_pos c]
    refine ⟨JI_fgt0 h1 hw, by rw [fgt_F (by decide)]; exact h2, by rw [fgt_F (by decide), fgt_F (by decide)]; exact h3, fun e => absurd (fgt_v τ w).1 e⟩
  · rw [if_neg c]
    refine ⟨h1, h2, h3, fun e => ?_⟩
    by_cases c2 : τ 63 w = τ 31 0
    · exact c2
    · exact absurd ⟨e, c2⟩ c
theorem done_ok {σ σ' : qS} {w t many : Int} (h : JI False w σ) (hw : 0 ≤ w ∧ w < 6) (hD : DN σ w t many) (hq : Q_M_done w t many σ σ') : JI False (-1) σ' := by
  obtain ⟨σ1, q1, rfl⟩ := hq
  exact JI_fgt (tell_JI h q1 (fun kv => Or.inl ⟨rfl, Or.inr (Or.inl ⟨rfl, hD⟩)⟩)).1 hw
theorem traps_ok {σ σ' : qS} {w : Int} (h : JI False w σ) (hw : 0 ≤ w ∧ w < 6) (hD : JOm σ = none) (hq : Q_M_traps w σ σ') : JI False (-1) σ' := by
  obtain ⟨σ1, q1, rfl⟩ := hq
  exact JI_fgt (tell_JI h q1 (fun kv => Or.inl ⟨rfl, Or.inr (Or.inr (Or.inl ⟨rfl, hD⟩))⟩)).1 hw
theorem asks_ok {σ σ' : qS} {w : Int} (h : JI False (-1) σ) (hw : 0 ≤ w ∧ w < 6) (ha : AW σ w) (ht : σ 62 w = -1) (hq : Q_M_asks w σ σ') : JI False (-1) σ' := by
  obtain ⟨σ1, q1, rfl⟩ := hq
  have hW : (0 ≤ σ 65 w ∧ σ 65 w ≤ 5) ∧ σ 64 w = 0 := by
    rcases h.2.2.2.2.2.2.2.2.1 w hw.1 hw.2 (by omega) ha.1 with e | ⟨e, -⟩
    · exact e.2
    · exact absurd ht e
  have h1 : JI False (-1) σ1 ∧ ∀ k, k ∉ lA → σ1 k = σ k := by
    rcases q1 with ⟨-, q1⟩ | ⟨-, rfl⟩
    · exact tell_JI h q1 (fun kv => Or.inl ⟨rfl, Or.inl ⟨rfl, hw⟩⟩)
    · exact ⟨h, fun _ _ => rfl⟩
  have hF : ∀ k, k ≠ 65 → su σ1 65 w (if σ 65 w = 5 then 0 else σ 65 w + 1) k = σ1 k := fun k hk => su_k hk
  have hF' : ∀ k, k ≠ 65 → k ∉ lA → su σ1 65 w (if σ 65 w = 5 then 0 else σ 65 w + 1) k = σ k := fun k hk hl => by rw [su_k hk, h1.2 k hl]
  refine JI_w h1.1 hw (fun k m1 _ _ => hF k (fun e => m1 (by subst e; decide))) ?_ (fun x hx => Or.inl ?_) (fun v _ _ hne => WSl_w (fun k _ => su_o hne) (fun k m => hF k (by intro e; subst e; revert m; decide))) ?_ (fun _ _ => Or.inl ⟨?_, ?_, ?_⟩)
  · unfold lok; rw [hF _ (by decide)]; exact h1.1.2.2.1
  · rw [ln_k (fun k m => hF k (by intro e; subst e; revert m; decide))] at hx; exact hx
  · rw [hF _ (by decide)]; exact (h1.1.2.2.2.2.2.2.2.2.2.2.1 w hw.1 hw.2).2
  · rw [hF' _ (by decide) (by decide)]; exact ht
  · rw [su_s]; split <;> omega
  · rw [hF' _ (by decide) (by decide)]; exact hW.2
theorem JI_mp {σ σ' : qS} {w : Int} (h : JI False (-1) σ) (hw : 0 ≤ w ∧ w < 6) (hF : F_mp w σ σ') : JI False w σ' ∧ stE σ σ' := by
  obtain ⟨f1, f2, f3, f4, f5, f6⟩ := hF
  have f1' : ∀ k, k ∉ wA → k ∉ lA → k ∉ SC → σ' k = σ k := fun k m1 _ m2 => f1 k m2 (fun e => m1 ((by decide : ∀ k ∈ 64 :: MB, k ∈ wA) k e))
  refine ⟨JI_w (JI_ex w h) hw f1' ?_ (fun x hx => Or.inl ?_) (fun v v0 v1 hne => ?_) ?_ (fun e => absurd rfl e), fun k m => f1 k ((by decide : ∀ k ∈ stS, k ∉ SC) k m) ((by decide : ∀ k ∈ stS, k ∉ 64 :: MB) k m)⟩
  · unfold lok; rw [f1 _ (by decide) (by decide)]; exact h.2.2.1
  · rw [ln_k (fun k m => f1 k ((by decide : ∀ k ∈ [48, 44, 45, 46, 47], k ∉ SC) k m) ((by decide : ∀ k ∈ [48, 44, 45, 46, 47], k ∉ 64 :: MB) k m))] at hx; exact hx
  · refine ⟨fun k m => ?_, ⟨fun i i0 i1 => (f3 i (by omega)).1, fun i i0 i1 => (f3 i (by omega)).2⟩, ⟨fun i i0 i1 => (f6 i (by omega)).1, fun i i0 i1 => (f6 i (by omega)).2, fun i i0 i1 => f5 i (by omega)⟩, fun i _ _ => by rw [f1 _ (by decide) (by decide)], fun i _ _ => by rw [f1 _ (by decide) (by decide)], fun i _ _ => by rw [f1 _ (by decide) (by decide)]⟩
    have hc : ∀ k ∈ wS, k = 64 ∨ k = 70 ∨ k = 73 ∨ k = 67 ∨ (k ∉ SC ∧ k ∉ 64 :: MB) := by decide
    rcases hc k m with rfl | rfl | rfl | rfl | ⟨e1, e2⟩
    · exact f2 v hne
    · exact (f4 v hne).1
    · exact (f4 v hne).2.1
    · exact (f4 v hne).2.2
    · rw [f1 k e1 e2]
  · rw [f1 _ (by decide) (by decide)]; exact (h.2.2.2.2.2.2.2.2.2.2.1 w hw.1 hw.2).2
theorem top_le {σ : qS} {w t : Int} (hj : jobok σ) (hd : DK σ w) (ht : 0 ≤ t ∧ t < spl σ) (hk : σ 56 (w * 38 + t) = -1) {out : List Pr} (ho : OUTm σ t.toNat = some out) (hb : 1000 < σ 55 w + out.length) : JOm σ = none := by
  have hsp := spl_b hj
  obtain ⟨d1, d2, d3⟩ := hd
  rw [JOm_e]
  cases hp : PRSm σ with
  | none => rfl
  | some L =>
    have e := (PRS_s hp).2
    have hl := congrArg List.length e
    have hl2 := flat_len (fun k => (OUTk (prg σ (jb σ * 3)) (prg σ (jb σ * 3 + 1)) (recM σ) k).getD []) (nSp (recM σ))
    rw [← hl] at hl2
    have hn := spl_n hj
    have h1 := ssum_one (f := kln σ w) (g := fun k => if k < spl σ then (((OUTm σ k.toNat).getD []).length : Int) else 0) (t := t) 38 (fun i i0 i1 => by
      unfold kln
      split
      · split <;> omega
      · rw [if_pos (d3 i i0 i1 (by assumption)).1]; exact Int.le_refl _) ht.1 (by omega) (by unfold kln; rw [if_pos hk])
    rw [if_pos ht.2, ho] at h1
    have h2 : ssum (fun k => if k < spl σ then (((OUTm σ k.toNat).getD []).length : Int) else 0) 38 = ssum (fun k => if k < spl σ then (((OUTm σ k.toNat).getD []).length : Int) else 0) (nSp (recM σ)) := by
      have := ssum_up (f := fun k => if k < spl σ then (((OUTm σ k.toNat).getD []).length : Int) else 0) (n := nSp (recM σ)) (38 - nSp (recM σ)) (fun i i0 i1 => by rw [if_neg (by omega)])
      rw [show nSp (recM σ) + (38 - nSp (recM σ)) = 38 by omega] at this
      exact this
    have h3 : ssum (fun k => if k < spl σ then (((OUTm σ k.toNat).getD []).length : Int) else 0) (nSp (recM σ)) = ssum (fun k => (((OUTk (prg σ (jb σ * 3)) (prg σ (jb σ * 3 + 1)) (recM σ) k.toNat).getD []).length : Int)) (nSp (recM σ)) := ssum_c _ (fun i i0 i1 => by rw [if_pos (by omega)]; rfl)
    simp only
    rw [if_pos (by
      rw [h2, h3, ← hl2] at h1
      simp only [Option.getD_some] at h1
      omega)]
theorem mp_P {σ : qS} {w : Int} (h : JI False (-1) σ) (hw : 0 ≤ w ∧ w < 6) (ha : AW σ w) (h0 : 0 ≤ σ 62 w) (h1 : σ 62 w < 38) : WMp σ w ∧ P_M_maps w σ := by
  have hm : WMp σ w := by
    rcases h.2.2.2.2.2.2.2.2.1 w hw.1 hw.2 (by omega) ha.1 with e | ⟨e1, e2, e3⟩
    · omega
    · rcases e3 (ha.2.2 e1) with hm | hr
      · exact hm
      · have := hr.1; omega
  refine ⟨hm, hw, ⟨h0, h1⟩, h.2.2.1, h.1, h.2.1.1, h.2.1.2.1, (h.2.2.2.1 w hw.1 hw.2 ha.2.1).1, hm.2.1, fun _ => ?_⟩
  obtain ⟨-, -, E, a, b, -⟩ := hm
  exact ⟨E, a, b⟩
theorem JI_K1 {σ σ' : qS} {w t : Int} {out : List Pr} (h : JI False w σ) (hw : 0 ≤ w ∧ w < 6) (he : σ 54 w = σ 31 0) (ht : 0 ≤ t ∧ t < spl σ) (hn : σ 56 (w * 38 + t) = -1) (ho : OUTm σ t.toNat = some out) (hb : σ 55 w + out.length ≤ 1000) (hK : K1 w t out σ σ') : JI False w σ' ∧ DN σ' w t out.length ∧ stE σ σ' := by
  obtain ⟨k1, k2, k3, k4, k5, k6, k7⟩ := hK
  have h0 := h
  obtain ⟨j1, j2, j3, j4, j5, j6, j7, j8, j9, j10, j11⟩ := h
  have hsp := spl_b j1
  have hs : stE σ σ' := fun k m => k1 k ((by decide : ∀ k ∈ stS, k ∉ SC) k m) ((by decide : ∀ k ∈ stS, k ∉ [59, 60, 55, 56, 57, 58]) k m)
  have hwA : ∀ k ∈ wA, σ' k = σ k := fun k m => k1 k ((by decide : ∀ k ∈ wA, k ∉ SC) k m) ((by decide : ∀ k ∈ wA, k ∉ [59, 60, 55, 56, 57, 58]) k m)
  have eE : σ' 54 = σ 54 := k1 _ (by decide) (by decide)
  obtain ⟨d1, d2, d3⟩ := j4 w hw.1 hw.2 he
  refine ⟨JI_step h0 hs ?_ (fun k m => k1 k ((by decide : ∀ k ∈ jS, k ∉ SC) k m) ((by decide : ∀ k ∈ jS, k ∉ [59, 60, 55, 56, 57, 58]) k m)) (fun v v0 v1 hv => ?_) (pmon_eq (k1 _ (by decide) (by decide))) (fun v v0 v1 hv => ?_) (JP_eq hs j6 (fun k m => k1 k ((by decide : ∀ k ∈ pA, k ∉ SC) k m) ((by decide : ∀ k ∈ pA, k ∉ [59, 60, 55, 56, 57, 58]) k m))) (fun x hx => Or.inl ?_) (fun v v0 v1 vu hv => ?_) ⟨fun v v0 v1 => ⟨?_, ?_⟩, fun p p0 p1 => ?_⟩, ⟨hw, Or.inl ⟨ht.1, by omega, ⟨?_, ?_⟩, ?_⟩⟩, hs⟩
  · unfold lok; rw [k1 _ (by decide) (by decide)]; exact j3
  · rw [eE]
    refine ⟨hv, fun k k0 k2' hk => ?_⟩
    have hne : v * 38 + k ≠ w * 38 + t := fun e => by
      rw [e] at hk; exact hk hn
    rw [k5, if_neg hne, k6, if_neg hne]
    exact ⟨hk, rfl⟩
  · rw [eE, st_era hs] at hv
    by_cases hvw : v = w
    · subst hvw
      have eT : σ' 55 v = σ 55 v + out.length := by rw [k4, if_pos rfl]
      have aK : ag σ σ' 59 (v * 1000) (v * 1000 + σ 55 v) := fun i i0 i1 => (k2 i (by omega)).1
      have aV : ag σ σ' 60 (v * 1000) (v * 1000 + σ 55 v) := fun i i0 i1 => (k2 i (by omega)).2
      refine ⟨by omega, ?_, fun k k0 k1' hk => ?_⟩
      · rw [eT, d2]
        refine (ssum_su (f := kln σ v) (g := kln σ' v) (t := t) (v := out.length) 38 (fun i i0 i1 ne => ?_) ht.1 (by omega) ?_).symm
        · have e : σ' 56 (v * 38 + i) = σ 56 (v * 38 + i) := by rw [k5, if_neg (by omega)]
          unfold kln
          rw [e, st_out hs]
        · have e : σ' 56 (v * 38 + t) = σ 55 v := by rw [k5, if_pos rfl]
          unfold kln
          rw [e, if_neg (by omega), if_pos hn, st_out hs, ho]
          simp
      · by_cases ek : k = t
        · subst ek
          have e5 : σ' 56 (v * 38 + k) = σ 55 v := by rw [k5, if_pos rfl]
          have e6 : σ' 57 (v * 38 + k) = out.length := by rw [k6, if_pos rfl]
          have e7 : σ' 58 (v * 38 + k) = sumf σ' v out.length (σ 55 v) out.length := by rw [k7, if_pos rfl]
          unfold KF dkp
          rw [e5, e6, e7, st_spl hs, st_out hs, ho, Int.toNat_natCast, k3]
          exact ⟨ht.2, by omega, rfl, rfl⟩
        · have hne : v * 38 + k ≠ v * 38 + t := by omega
          rw [k5, if_neg hne] at hk
          exact KF_sl hs ⟨k0, k1'⟩ (hi := σ 55 v) (Int.le_refl _) (by omega) (by rw [k5, if_neg hne]) (by rw [k6, if_neg hne]) (by rw [k7, if_neg hne]) aK aV (d3 k k0 k1' hk)
    · refine DK_sl hs ⟨⟨by rw [eE], by rw [k4, if_neg hvw]⟩, ⟨fun i i0 i1 => by rw [k5, if_neg (by omega)], fun i i0 i1 => by rw [k6, if_neg (by omega)], fun i i0 i1 => by rw [k7, if_neg (by omega)]⟩, fun i i0 i1 => (k2 i (by omega)).1, fun i i0 i1 => (k2 i (by omega)).2⟩ (j4 v v0 v1 hv)
  · rw [ln_k (fun k m => k1 k ((by decide : ∀ k ∈ [48, 44, 45, 46, 47], k ∉ SC) k m) ((by decide : ∀ k ∈ [48, 44, 45, 46, 47], k ∉ [59, 60, 55, 56, 57, 58]) k m))] at hx; exact hx
  · rw [hwA 61 (by decide)] at hv
    exact WOK_sl j1 hs (WSl_eq hwA v) (j9 v v0 v1 vu hv)
  · rw [eE, st_era hs]; exact (j11.1 v v0 v1).1
  · rw [hwA 76 (by decide)]; exact (j11.1 v v0 v1).2
  · rw [k1 _ (by decide) (by decide), st_era hs]; exact j11.2 p p0 p1
  · rw [eE, st_era hs]; exact he
  · rw [k5, if_pos rfl]; omega
  · rw [k6, if_pos rfl]
theorem JI_dk {σ σ' : qS} {w : Int} (h : JI False w σ) (hw : 0 ≤ w ∧ w < 6) (he : σ 54 w = σ 31 0) (hK : F_dk w (σ 55 w) σ σ') : JI False w σ' ∧ stE σ σ' := by
  obtain ⟨k1, k2⟩ := hK
  have h0 := h
  obtain ⟨j1, j2, j3, j4, j5, j6, j7, j8, j9, j10, j11⟩ := h
  have hs : stE σ σ' := fun k m => k1 k ((by decide : ∀ k ∈ stS, k ∉ SC) k m) ((by decide : ∀ k ∈ stS, k ∉ [59, 60]) k m)
  have hwA : ∀ k ∈ wA, σ' k = σ k := fun k m => k1 k ((by decide : ∀ k ∈ wA, k ∉ SC) k m) ((by decide : ∀ k ∈ wA, k ∉ [59, 60]) k m)
  have hdd : ∀ k ∈ [54, 55, 56, 57, 58], σ' k = σ k := fun k m => k1 k ((by decide : ∀ k ∈ [54, 55, 56, 57, 58], k ∉ SC) k m) ((by decide : ∀ k ∈ [54, 55, 56, 57, 58], k ∉ [59, 60]) k m)
  refine ⟨JI_step h0 hs ?_ (fun k m => k1 k ((by decide : ∀ k ∈ jS, k ∉ SC) k m) ((by decide : ∀ k ∈ jS, k ∉ [59, 60]) k m)) (fun v v0 v1 hv => ?_) (pmon_eq (k1 _ (by decide) (by decide))) (fun v v0 v1 hv => ?_) (JP_eq hs j6 (fun k m => k1 k ((by decide : ∀ k ∈ pA, k ∉ SC) k m) ((by decide : ∀ k ∈ pA, k ∉ [59, 60]) k m))) (fun x hx => Or.inl ?_) (fun v v0 v1 vu hv => ?_) ⟨fun v v0 v1 => ⟨?_, ?_⟩, fun p p0 p1 => ?_⟩, hs⟩
  · unfold lok; rw [k1 _ (by decide) (by decide)]; exact j3
  · rw [hdd 54 (by decide), hdd 56 (by decide), hdd 57 (by decide)]
    exact ⟨hv, fun k _ _ hk => ⟨hk, rfl⟩⟩
  · rw [hdd 54 (by decide), st_era hs] at hv
    by_cases hvw : v = w
    · subst hvw
      obtain ⟨d1, d2, d3⟩ := j4 v v0 v1 hv
      refine ⟨by rw [hdd 55 (by decide)]; exact d1, ?_, fun k k0 k1' hk => ?_⟩
      · rw [hdd 55 (by decide), d2]
        apply ssum_c
        intro i _ _
        unfold kln
        rw [hdd 56 (by decide), st_out hs]
      · rw [hdd 56 (by decide)] at hk
        exact KF_sl hs ⟨k0, k1'⟩ (hi := σ 55 v) (Int.le_refl _) (by rw [hdd 55 (by decide)]; exact Int.le_refl _) (by rw [hdd 56 (by decide)]) (by rw [hdd 57 (by decide)]) (by rw [hdd 58 (by decide)]) (fun i i0 i1 => (k2 i (by omega)).1) (fun i i0 i1 => (k2 i (by omega)).2) (d3 k k0 k1' hk)
    · have hT := (j4 w hw.1 hw.2 he).1
      refine DK_sl hs ⟨⟨by rw [hdd _ (by decide)], by rw [hdd _ (by decide)]⟩, ⟨fun i i0 i1 => by rw [hdd _ (by decide)], fun i i0 i1 => by rw [hdd _ (by decide)], fun i i0 i1 => by rw [hdd _ (by decide)]⟩, fun i i0 i1 => (k2 i (by omega)).1, fun i i0 i1 => (k2 i (by omega)).2⟩ (j4 v v0 v1 hv)
  · rw [ln_k (fun k m => k1 k ((by decide : ∀ k ∈ [48, 44, 45, 46, 47], k ∉ SC) k m) ((by decide : ∀ k ∈ [48, 44, 45, 46, 47], k ∉ [59, 60]) k m))] at hx; exact hx
  · rw [hwA 61 (by decide)] at hv
    exact WOK_sl j1 hs (WSl_eq hwA v) (j9 v v0 v1 vu hv)
  · rw [hdd _ (by decide), st_era hs]; exact (j11.1 v v0 v1).1
  · rw [hwA 76 (by decide)]; exact (j11.1 v v0 v1).2
  · rw [k1 _ (by decide) (by decide), st_era hs]; exact j11.2 p p0 p1
theorem maps_ok {σ σ' : qS} {w : Int} (h : JI False (-1) σ) (hw : 0 ≤ w ∧ w < 6) (ha : AW σ w) (hm : WMp σ w) (hq : Q_M_maps w σ σ') : JI False (-1) σ' := by
  have hj := h.1
  have hsp := spl_b hj
  obtain ⟨m1, m2, E, m3, m4, m5⟩ := hm
  have ei : σ 62 w * 16 + σ 64 w = ((16 * (σ 62 w).toNat + (σ 64 w).toNat : Nat) : Int) := by omega
  rcases hq with ⟨q1, q2⟩ | ⟨q1, q2, q3⟩ | ⟨q1, q2, q3⟩
  · exact done_ok (JI_ex w h) hw ⟨hw, Or.inl ⟨m1.1, by omega, ⟨ha.2.1, q1⟩, rfl⟩⟩ q2
  · have hout : OUTm σ (σ 62 w).toNat = cmb σ E := by
      clear q3
      exact MPE_e hj (by omega) (by omega) m5
    obtain ⟨σ1, f1, c⟩ := q3 E m3
    obtain ⟨g1, g2⟩ := JI_mp h hw f1
    have eE : σ1 54 w = σ1 31 0 := by rw [f1.1 _ (by decide) (by decide), f1.1 31 (by decide) (by decide)]; exact ha.2.1
    have eT : σ1 55 = σ 55 := f1.1 _ (by decide) (by decide)
    rcases c with ⟨out, σ2, c1, c2, c3, c4⟩ | ⟨c1, σ2, c3, c4⟩
    · obtain ⟨r1, r2, r3⟩ := JI_K1 (t := σ 62 w) g1 hw eE (by rw [st_spl g2]; exact m1) (by rw [f1.1 _ (by decide) (by decide)]; exact q1) (by rw [st_out g2, hout]; exact c1) (by rw [eT]; exact c2) c3
      exact done_ok r1 hw r2 c4
    · obtain ⟨r1, r2⟩ := JI_dk g1 hw eE (by rw [eT]; exact c3)
      refine traps_ok r1 hw ?_ c4
      rw [st_jo r2, st_jo g2]
      rcases c1 with c1 | ⟨out, c1, c5⟩
      · exact JOm_n (k := (σ 62 w).toNat) hj (by omega) (by rw [hout]; exact c1)
      · exact top_le (t := σ 62 w) hj (h.2.2.2.1 w hw.1 hw.2 ha.2.1) m1 q1 (by rw [hout]; exact c1) c5
  · rw [ei] at q2 q3
    rcases q3 with ⟨c1, σ1, f1, c2⟩ | ⟨em, c1, f1, c2, c3⟩
    · obtain ⟨g1, g2⟩ := JI_mp h hw f1
      refine traps_ok g1 hw ?_ c2
      rw [st_jo g2]
      exact JOm_n (k := (σ 62 w).toNat) hj (by omega) (MPE_n hj (by omega) q2.2 m5 c1)
    · obtain ⟨g1, g2⟩ := JI_mp h hw f1
      refine JI_in g1 (fun _ => Or.inr ⟨?_, ?_, fun _ => Or.inl ?_⟩)
      · rw [f1.1 62 (by decide) (by decide)]; omega
      · rw [f1.1 63 (by decide) (by decide), f1.1 31 (by decide) (by decide), ha.2.2 (by omega)]; exact Int.le_refl _
      · unfold WMp
        obtain ⟨x1, x2⟩ := c3 E m3 m4
        rw [f1.1 62 (by decide) (by decide), st_spl g2, st_mpe g2]
        refine ⟨m1, by omega, E ++ em, x1, x2, ?_⟩
        have := MPE_s hj q2.2 m5
        rw [c1] at this
        rw [c2, show (σ 64 w + 1).toNat = (σ 64 w).toNat + 1 by omega]
        exact this

