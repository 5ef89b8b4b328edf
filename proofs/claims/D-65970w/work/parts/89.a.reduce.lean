theorem pre_sp (σ : qS) (p : Int) {i : Nat} : ∀ {j : Nat}, i ≤ j → ∃ r, pre σ p j = pre σ p i ++ r := by
  intro j
  induction j with
  | zero => intro h; rw [show i = 0 by omega]; exact ⟨[], (List.append_nil _).symm⟩
  | succ j ih =>
    intro h
    by_cases e : i = j + 1
    · rw [e]; exact ⟨[], (List.append_nil _).symm⟩
    · obtain ⟨r, hr⟩ := ih (by omega)
      exact ⟨r ++ Lp σ p j, by rw [pre_s, hr, List.append_assoc]⟩
theorem WR_end {σ : qS} {w : Int} (hj : jobok σ) (h : WRd σ w) (he : spl σ ≤ σ 64 w) : FP σ w ∧ FR σ w = pre σ (σ 62 w - 38) (spl σ).toNat := by
  have hsp := spl_b hj
  obtain ⟨a1, a2, a3, a4, st, f, b1, b2, b3, b4, b5, b6, b7⟩ := h
  have hst : st = (spl σ).toNat := by omega
  have hf : f = 0 := b4 (by omega)
  subst hf
  rw [List.take_zero, List.append_nil, Nat.add_zero] at b7
  rw [hst] at b5 b7
  have h1000 := pre_1000 hj a2 (σ 62 w - 38) (i := (spl σ).toNat) (by omega)
  have hA : ∀ i : Nat, i ≤ (spl σ).toNat → FA σ w i = (pre σ (σ 62 w - 38) i).length := fun i hi => b5 i hi
  obtain ⟨L, hL, -⟩ := a2
  have hO := (PRS_s hL).1
  have hn := spl_n hj
  refine ⟨⟨by rw [hA 0 (by omega)]; rfl, by rw [hA _ (by omega)]; omega, fun i hi => ?_, fun i hi => ?_⟩, ?_⟩
  · rw [hA i (by omega), hA (i + 1) (by omega)]
    have := pre_le σ (σ 62 w - 38) (i := i) (j := i + 1) (by omega)
    omega
  · rw [hA i (by omega), hA (i + 1) (by omega), pre_s, List.length_append]
    obtain ⟨r, hr⟩ := pre_sp σ (σ 62 w - 38) (i := i + 1) (j := (spl σ).toNat) (by omega)
    rw [hr, pre_s, List.append_assoc, List.length_append, List.length_append, row_app, row_app] at b7
    have e1 := (List.append_inj b7 (by rw [row_len])).2
    have e2 := (List.append_inj e1 (by rw [row_len])).1
    rw [show (((pre σ (σ 62 w - 38) i).length + (Lp σ (σ 62 w - 38) i).length : Nat) : Int) - ((pre σ (σ 62 w - 38) i).length : Int) = ((Lp σ (σ 62 w - 38) i).length : Int) by omega, Int.toNat_natCast, e2]
    obtain ⟨o, ho⟩ := hO i (by omega)
    exact Lp_srt ho
  · unfold FR
    rw [hA _ (by omega), Int.toNat_natCast]; exact b7
theorem rd_P2 {σ : qS} {w : Int} (h : JI False (-1) σ) (hw : 0 ≤ w ∧ w < 6) (ha : AW σ w) (h1 : 38 ≤ σ 62 w) : WRd σ w ∧ P_M_reduces w σ := by
  have hj := h.1
  have hpt := hj.2.2.2.2.2.1
  have hsp := spl_b hj
  have hr : WRd σ w := by
    rcases h.2.2.2.2.2.2.2.2.1 w hw.1 hw.2 (by omega) ha.1 with e | ⟨e1, e2, e3⟩
    · omega
    · rcases e3 (ha.2.2 e1) with hm | hr
      · have := hm.1; omega
      · exact hr
  have hb := WR_b hj hr
  have a1 := hr.1
  have a3 := hr.2.2.1
  have a4 := hr.2.2.2.1
  exact ⟨hr, hw, by omega, h.2.2.1, hj, by omega, (h.2.2.2.2.2.2.2.2.2.2.1 w hw.1 hw.2).2, by omega, a4, fun _ => by omega, fun he => ⟨h.2.1.2.2, (WR_end hj hr he).1⟩⟩
theorem WRd_at {σ σ' : qS} {w : Int} (hs : stE σ σ') (h : WRd σ w) (hk : ∀ k ∈ [62, 64, 75, 76, 77, 78], σ' k = σ k) (ha : 0 ≤ σ' 65 w ∧ σ' 65 w ≤ 13) (ht : 0 ≤ σ' 66 w ∧ σ' 66 w < 12) : WRd σ' w := by
  obtain ⟨a1, a2, a3, a4, st, f, b1, b2, b3, b4, b5, b6, b7⟩ := h
  unfold WRd row
  rw [hk 62 (by decide), hk 64 (by decide), hk 75 (by decide), hk 76 (by decide), hk 77 (by decide), hk 78 (by decide), st_pts hs, st_jb hs, st_tot hs, st_spl hs, st_lp hs, st_pre hs]
  exact ⟨a1, a2, ha, ht, st, f, b1, b2, b3, b4, b5, b6, b7⟩
def atL : List Nat := [65, 66]
theorem JI_at {σ σ' : qS} {u w : Int} (h : JI False u σ) (hw : 0 ≤ w ∧ w < 6) (hF : ∀ k, k ∉ atL → σ' k = σ k) (hv : ∀ k v, v ≠ w → σ' k v = σ k v) (hW : w ≠ u → σ' 61 w ≠ 0 → WOK σ' w) : JI False u σ' := by
  refine JI_w h hw (fun k m1 _ _ => hF k (fun e => m1 ((by decide : ∀ k ∈ atL, k ∈ wA) k e))) ?_ (fun x hx => Or.inl ?_) (fun v _ _ hne => WSl_w (fun k _ => hv k v hne) (fun k m => hF k ((by decide : ∀ k ∈ [68, 69, 71, 72, 74, 76, 77, 78], k ∉ atL) k m))) ?_ hW
  · unfold lok; rw [hF _ (by decide)]; exact h.2.2.1
  · rw [ln_k (fun k m => hF k ((by decide : ∀ k ∈ [48, 44, 45, 46, 47], k ∉ atL) k m))] at hx; exact hx
  · rw [hF _ (by decide)]; exact (h.2.2.2.2.2.2.2.2.2.2.1 w hw.1 hw.2).2
theorem WOK_at {σ σ' : qS} {w : Int} (hF : ∀ k, k ∉ atL → k ∉ lA → σ' k = σ k) (ha : AW σ w) (hr : WRd σ w) (h1 : 0 ≤ σ' 65 w ∧ σ' 65 w ≤ 13) (h2 : 0 ≤ σ' 66 w ∧ σ' 66 w < 12) : WOK σ' w := by
  have hs : stE σ σ' := fun k m => hF k ((by decide : ∀ k ∈ stS, k ∉ atL) k m) ((by decide : ∀ k ∈ stS, k ∉ lA) k m)
  have := hr.1
  refine Or.inr ⟨by rw [hF _ (by decide) (by decide)]; omega, by rw [hF _ (by decide) (by decide), st_era hs, ha.2.2 (by omega)]; exact Int.le_refl _, fun _ => Or.inr (WRd_at hs hr (fun k m => hF k ((by decide : ∀ k ∈ [62, 64, 75, 76, 77, 78], k ∉ atL) k m) ((by decide : ∀ k ∈ [62, 64, 75, 76, 77, 78], k ∉ lA) k m)) h1 h2)⟩
theorem PAR_bad {σ : qS} {L : List Pr} {p : Int} (hL : PRSm σ = some L) (h0 : 0 ≤ p) (h1 : p < σ 13 (jb σ)) (hb : PAR (prg σ (jb σ * 3 + 2)) (σ 13 (jb σ)) L p.toNat = none ∨ ∃ out, PAR (prg σ (jb σ * 3 + 2)) (σ 13 (jb σ)) L p.toNat = some out ∧ 300 < out.length) : JOm σ = none := by
  rw [JOm_e, hL]
  simp only
  split
  · rfl
  · rcases hb with hb | ⟨out, hb, hl⟩
    · rw [ocat_n (List.mem_map.mpr ⟨p.toNat, List.mem_range.mpr (by omega), hb⟩)]
    · cases ho : ocat ((List.range (σ 13 (jb σ)).toNat).map (PAR (prg σ (jb σ * 3 + 2)) (σ 13 (jb σ)) L)) with
      | none => rfl
      | some O =>
        simp only
        have e := (ocat_s ho).2
        rw [List.map_map] at e
        have e2 := flat_len (fun k => (PAR (prg σ (jb σ * 3 + 2)) (σ 13 (jb σ)) L k).getD []) (σ 13 (jb σ)).toNat
        have e3 := ssum_one (f := fun _ => 0) (g := fun k : Int => (((PAR (prg σ (jb σ * 3 + 2)) (σ 13 (jb σ)) L k.toNat).getD []).length : Int)) (t := p) (σ 13 (jb σ)).toNat (fun i _ _ => Int.natCast_nonneg _) h0 (by omega) rfl
        have e4 := ssum_b (f := fun _ => 0) (B := 0) (σ 13 (jb σ)).toNat (fun i _ _ => by simp)
        rw [hb] at e3
        simp only [Option.getD_some] at e3
        rw [← e2] at e3
        have e5 : O.length = (((List.range (σ 13 (jb σ)).toNat).map (fun k => (PAR (prg σ (jb σ * 3 + 2)) (σ 13 (jb σ)) L k).getD [])).flatten).length := congrArg List.length e
        rw [if_pos (by omega)]
theorem JI_W1 {σ σ' : qS} {w p : Int} {out : List Pr} (h : JI False w σ) (hp : 0 ≤ p ∧ p < σ 13 (jb σ)) (hP : ∃ L, PRSm σ = some L ∧ L.length ≤ 1000 ∧ PAR (prg σ (jb σ * 3 + 2)) (σ 13 (jb σ)) L p.toNat = some out) (hl : out.length ≤ 300) (hK : W1 p out σ σ') : JI False w σ' ∧ stE σ σ' := by
  obtain ⟨k1, k2, k3, k4, k5⟩ := hK
  have h0 := h
  obtain ⟨j1, j2, j3, j4, j5, j6, j7, j8, j9, j10, j11⟩ := h
  have hpt := j1.2.2.2.2.2.1
  have hF : ∀ {S : List Nat}, (∀ k ∈ S, k ∉ SC ∧ k ∉ [42, 43, 41, 40]) → ∀ k ∈ S, σ' k = σ k := fun hS k m => k1 k (hS k m).1 (hS k m).2
  have hs : stE σ σ' := hF (by decide)
  have hwA : ∀ k ∈ wA, σ' k = σ k := hF (by decide)
  have hdA : ∀ k ∈ dA, σ' k = σ k := hF (by decide)
  refine ⟨JI_step h0 hs ?_ (hF (by decide)) (dmon_eq hdA) (fun q q0 q1 he => ?_) (JD_eq hs j4 hdA) (fun q q0 q1 he => ?_) (fun x hx => Or.inl ?_) (fun v v0 v1 vu hv => ?_) ⟨fun v v0 v1 => ⟨?_, ?_⟩, fun q q0 q1 => ?_⟩, hs⟩
  · unfold lok; rw [k1 _ (by decide) (by decide)]; exact j3
  · rw [k5]; split
    · rfl
    · exact he
  · by_cases e : q = p
    · subst e
      obtain ⟨L, a1, a2, a3⟩ := hP
      exact ⟨L, out, by rw [st_prs hs]; exact a1, a2, by rw [st_par hs]; exact a3, hl, by rw [k4, if_pos rfl], k3⟩
    · rw [k5, if_neg e, st_era hs] at he
      exact PTo_sl hs (by rw [k4, if_neg e]) (fun i i0 i1 => (k2 i (by omega)).1) (fun i i0 i1 => (k2 i (by omega)).2) (j6 q q0 q1 he)
  · rw [ln_k (hF (by decide))] at hx; exact hx
  · rw [hwA 61 (by decide)] at hv
    exact WOK_sl j1 hs (WSl_eq hwA v) (j9 v v0 v1 vu hv)
  · rw [hdA _ (by decide), st_era hs]; exact (j11.1 v v0 v1).1
  · rw [hwA 76 (by decide)]; exact (j11.1 v v0 v1).2
  · rw [k5, st_era hs]
    split
    · exact Int.le_refl _
    · exact j11.2 q q0 q1
theorem JI_pt {σ σ' : qS} {w p : Int} (h : JI False w σ) (hp : 0 ≤ p ∧ p < σ 13 (jb σ)) (hne : σ 40 p ≠ σ 31 0) (hK : F_pt p σ σ') : JI False w σ' ∧ stE σ σ' := by
  obtain ⟨k1, k2⟩ := hK
  have h0 := h
  obtain ⟨j1, j2, j3, j4, j5, j6, j7, j8, j9, j10, j11⟩ := h
  have hF : ∀ {S : List Nat}, (∀ k ∈ S, k ∉ SC ∧ k ∉ [42, 43]) → ∀ k ∈ S, σ' k = σ k := fun hS k m => k1 k (hS k m).1 (hS k m).2
  have hs : stE σ σ' := hF (by decide)
  have hwA : ∀ k ∈ wA, σ' k = σ k := hF (by decide)
  have hdA : ∀ k ∈ dA, σ' k = σ k := hF (by decide)
  have ePE : σ' 40 = σ 40 := k1 _ (by decide) (by decide)
  refine ⟨JI_step h0 hs ?_ (hF (by decide)) (dmon_eq hdA) (pmon_eq ePE) (JD_eq hs j4 hdA) (fun q q0 q1 he => ?_) (fun x hx => Or.inl ?_) (fun v v0 v1 vu hv => ?_) ⟨fun v v0 v1 => ⟨?_, ?_⟩, fun q q0 q1 => ?_⟩, hs⟩
  · unfold lok; rw [k1 _ (by decide) (by decide)]; exact j3
  · rw [ePE, st_era hs] at he
    have e : q ≠ p := fun e => hne (by rw [← e]; exact he)
    exact PTo_sl hs (by rw [k1 _ (by decide) (by decide)]) (fun i i0 i1 => (k2 i (by omega)).1) (fun i i0 i1 => (k2 i (by omega)).2) (j6 q q0 q1 he)
  · rw [ln_k (hF (by decide))] at hx; exact hx
  · rw [hwA 61 (by decide)] at hv
    exact WOK_sl j1 hs (WSl_eq hwA v) (j9 v v0 v1 vu hv)
  · rw [hdA _ (by decide), st_era hs]; exact (j11.1 v v0 v1).1
  · rw [hwA 76 (by decide)]; exact (j11.1 v v0 v1).2
  · rw [ePE, st_era hs]; exact j11.2 q q0 q1
theorem red_ok {σ σ' : qS} {w : Int} (h : JI False (-1) σ) (hw : 0 ≤ w ∧ w < 6) (ha : AW σ w) (hr : WRd σ w) (hq : Q_M_reduces w σ σ') : JI False (-1) σ' := by
  have hj := h.1
  have hsp := spl_b hj
  have hpt := hj.2.2.2.2.2.1
  have a1 := hr.1
  have a3 := hr.2.2.1
  have a4 := hr.2.2.2.1
  have hb := WR_b hj hr
  rcases hq with ⟨q1, q2⟩ | ⟨q1, q2, q3, rfl⟩ | ⟨q1, q2, q3, q4, rfl⟩ | ⟨q1, q2, q3, q4, σ1, q5, q6⟩ | ⟨q1, q2, q3⟩
  · exact done_ok (JI_ex w h) hw ⟨hw, Or.inr ⟨a1.1, a1.2, q1⟩⟩ q2
  · exact JI_fgt0 h hw
  · have hF : ∀ k, k ∉ atL → su σ 65 w (σ 65 w + 1) k = σ k := fun k m => su_k (by intro e; subst e; exact m (by decide))
    refine JI_at h hw hF (fun k v hv => su_o hv) (fun _ _ => WOK_at (fun k m _ => hF k m) ha hr ?_ ?_)
    · rw [su_s]; omega
    · rw [su_k (by decide)]; exact a4
  · obtain ⟨s1, s2, s3⟩ := h.2.2.2.2.1 (σ 64 w) (by omega) (by omega) q3
    obtain ⟨_, _, _, _, st, f, b1, b2, b3, b4, b5, b6, b7⟩ := hr
    have hf0 : 0 ≤ σ 75 w - σ 76 (w * 39 + σ 64 w) := by
      have := b5 st (by omega)
      rw [b1, this, b6]; omega
    have hr : WRd σ w := ⟨by assumption, by assumption, by assumption, by assumption, st, f, b1, b2, b3, b4, b5, b6, b7⟩
    obtain ⟨t1, t2⟩ := tell_JI h q5 (fun kv => Or.inr ⟨s1, Or.inr (Or.inl ⟨rfl, ⟨hb.1.1, q2⟩, s2, hf0, hw⟩)⟩)
    rcases q6 with ⟨c1, rfl⟩ | ⟨c1, σ2, c2, rfl⟩
    · have hF : ∀ k, k ∉ atL → su (su σ1 66 w (σ 66 w + 1)) 65 w 1 k = σ1 k := fun k m => by rw [su_k (by intro e; subst e; exact m (by decide)), su_k (by intro e; subst e; exact m (by decide))]
      refine JI_at t1 hw hF (fun k v hv => by rw [su_o hv, su_o hv]) (fun _ _ => WOK_at (σ := σ) (fun k m1 m2 => by rw [hF k m1, t2 k m2]) ha hr ?_ ?_)
      · rw [su_s]; omega
      · rw [su_k (by decide), su_s]; omega
    · have hF : ∀ k, k ∉ atL → su (su σ1 65 w 0) 66 w 12 k = σ1 k := fun k m => by rw [su_k (by intro e; subst e; exact m (by decide)), su_k (by intro e; subst e; exact m (by decide))]
      have g1 : JI False w (su (su σ1 65 w 0) 66 w 12) := JI_at (JI_ex w t1) hw hF (fun k v hv => by rw [su_o hv, su_o hv]) (fun e => absurd rfl e)
      have hT : TOT (su (su σ1 65 w 0) 66 w 12) := by
        rw [st_tot (σ := σ1) (fun k m => hF k ((by decide : ∀ k ∈ stS, k ∉ atL) k m)), st_tot (σ := σ) (fun k m => t2 k ((by decide : ∀ k ∈ stS, k ∉ lA) k m))]
        exact hr.2.1
      obtain ⟨u1, u2⟩ := tell_JI g1 c2 (fun kv => Or.inl ⟨rfl, Or.inr (Or.inr (Or.inr ⟨rfl, hb.1.1, hT⟩))⟩)
      have hF2 : ∀ k, k ∉ atL → su (su σ2 66 w 0) 65 w 1 k = σ2 k := fun k m => by rw [su_k (by intro e; subst e; exact m (by decide)), su_k (by intro e; subst e; exact m (by decide))]
      refine JI_in (w := w) (JI_at u1 hw hF2 (fun k v hv => by rw [su_o hv, su_o hv]) (fun e => absurd rfl e)) (fun _ => WOK_at (σ := σ) (fun k m1 m2 => by rw [hF2 k m1, u2 k m2, hF k m1, t2 k m2]) ha hr ?_ ?_)
      · rw [su_s]; omega
      · rw [su_k (by decide), su_s]; omega
  · obtain ⟨f1, f2⟩ := WR_end hj hr q2
    obtain ⟨L, hL, hl⟩ := hr.2.1
    have e := rdc_e (σ := σ) L (σ 62 w - 38) (by omega)
    unfold Q_M_write at q3
    rw [f2, pre_all hj hL, e] at q3
    rcases q3 with ⟨out, σ1, c1, c2, c3, c4⟩ | ⟨c1, σ1, c3, c4⟩
    · obtain ⟨g1, g2⟩ := JI_W1 (JI_ex w h) (by omega) ⟨L, hL, hl, c1⟩ c2 c3
      refine done_ok g1 hw ⟨hw, Or.inr ⟨a1.1, by rw [st_pts g2, st_jb g2]; exact a1.2, ?_⟩⟩ c4
      rw [c3.2.2.2.2, if_pos rfl, st_era g2]
    · obtain ⟨g1, g2⟩ := JI_pt (JI_ex w h) (by omega) q1 c3
      refine traps_ok g1 hw ?_ c4
      rw [st_jo g2]
      exact PAR_bad hL (by omega) (by omega) c1
theorem wkr_ok {σ : qS} {w : Int} (h : JI False (-1) σ) (hw : 0 ≤ w ∧ w < 6) : P_M_worker w σ ∧ ∀ σ', Q_M_worker w σ σ' → JI False (-1) σ' := by
  obtain ⟨i1, i2⟩ := wk1_ok h hw
  have hP : ∀ {τ : qS}, JI False (-1) τ → AW τ w → wkP w τ := fun {τ} t1 t2 => by
    have hsp := spl_b t1.1
    have hW := t1.2.2.2.2.2.2.2.2.1 w hw.1 hw.2 (by omega) t2.1
    refine ⟨?_, fun e => ?_, fun e0 e1 => (mp_P t1 hw t2 e0 e1).2, fun e => (rd_P2 t1 hw t2 e).2⟩
    · rcases hW with ⟨e, -⟩ | ⟨e1, e2, e3⟩
      · omega
      · rcases e3 (t2.2.2 e1) with hm | hr
        · have := hm.1; omega
        · have := hr.1; omega
    · rcases hW with ⟨-, e2, -⟩ | ⟨e1, -⟩
      · exact ⟨t1.2.2.1, hw, e2⟩
      · exact absurd e e1
  refine ⟨⟨hw, lpr_ok i1 hw i2, fun σ1 q1 => ?_⟩, fun σ' hq => ?_⟩
  · obtain ⟨a1, a2⟩ := ltr_ok i1 hw i2 q1
    refine ⟨lpr_ok a1 hw a2, fun σ2 q2 => ?_⟩
    obtain ⟨b1, b2⟩ := ltr_ok a1 hw a2 q2
    refine ⟨lpr_ok b1 hw b2, fun σ3 q3 => ?_⟩
    obtain ⟨c1, c2⟩ := ltr_ok b1 hw b2 q3
    exact hP c1 c2
  · obtain ⟨σ1, σ2, σ3, q1, q2, q3, q4⟩ := hq
    obtain ⟨a1, a2⟩ := ltr_ok i1 hw i2 q1
    obtain ⟨b1, b2⟩ := ltr_ok a1 hw a2 q2
    obtain ⟨c1, c2⟩ := ltr_ok b1 hw b2 q3
    have hp := (hP c1 c2).1
    rcases q4 with ⟨e, q⟩ | ⟨e1, e2, q⟩ | ⟨e, q⟩
    · exact asks_ok c1 hw c2 e q
    · exact maps_ok c1 hw c2 (mp_P c1 hw c2 (by omega) e2).1 q
    · exact red_ok c1 hw c2 (rd_P2 c1 hw c2 e).1 q

