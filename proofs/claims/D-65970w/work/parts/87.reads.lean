theorem gts_v {σ : qS} {w : Int} : (∀ k, k ∉ [77, 78, 75, 65, 66, 64, 76] → gts σ w k = σ k) ∧ (∀ k ∈ [75, 65, 66, 64], ∀ v, v ≠ w → gts σ w k v = σ k v) ∧ (∀ i, gts σ w 77 i = if w * 1000 + σ 75 w ≤ i ∧ i < w * 1000 + σ 75 w + σ 51 4 / 2 then σ 52 (i - (w * 1000 + σ 75 w)) else σ 77 i) ∧ (∀ i, gts σ w 78 i = if w * 1000 + σ 75 w ≤ i ∧ i < w * 1000 + σ 75 w + σ 51 4 / 2 then σ 53 (i - (w * 1000 + σ 75 w)) else σ 78 i) ∧ gts σ w 75 w = σ 75 w + σ 51 4 / 2 ∧ gts σ w 65 w = 0 ∧ gts σ w 66 w = 0 ∧ (gts σ w 64 w = if σ 51 4 % 2 = 1 then σ 64 w else σ 64 w + 1) ∧ (∀ i, gts σ w 76 i = if σ 51 4 % 2 = 1 then σ 76 i else if i = w * 39 + (σ 64 w + 1) then σ 75 w + σ 51 4 / 2 else σ 76 i) := by
  unfold gts
  by_cases c : σ 51 4 % 2 = 1
  · simp only [if_pos c]
    unfold gt1 gt0
    refine ⟨fun k m => ?_, fun k m v hv => ?_, fun i => ?_, fun i => ?_, ?_, ?_, ?_, ?_, fun i => ?_⟩
    · simp only [List.mem_cons, List.not_mem_nil, or_false, not_or] at m
      rw [su_k (by omega), su_k (by omega), su_k (by omega), ra_k (by omega), ra_k (by omega)]
    · rw [su_o hv, su_o hv, su_o hv]
      rw [ra_k (by intro e; subst e; revert m; decide), ra_k (by intro e; subst e; revert m; decide)]
    all_goals simp (disch := decide) only [su_k, ra_k, su_s, ra_e]
  · simp only [if_neg c]
    unfold gt1 gt0
    refine ⟨fun k m => ?_, fun k m v hv => ?_, fun i => ?_, fun i => ?_, ?_, ?_, ?_, ?_, fun i => ?_⟩
    · simp only [List.mem_cons, List.not_mem_nil, or_false, not_or] at m
      rw [su_k (by omega), su_k (by omega), su_k (by omega), su_k (by omega), su_k (by omega), ra_k (by omega), ra_k (by omega)]
    · rw [su_k (by intro e; subst e; revert m; decide), su_o hv, su_o hv, su_o hv, su_o hv]
      rw [ra_k (by intro e; subst e; revert m; decide), ra_k (by intro e; subst e; revert m; decide)]
    all_goals simp (disch := decide) only [su_k, ra_k, su_s, ra_e, su_e]
theorem BF_0 {σ : qS} {w : Int} (h1 : σ 73 w = 0) (h2 : σ 67 w = 0) (h3 : σ 70 w = 0) : BF σ w [] := by
  refine ⟨by omega, by omega, by omega, by rw [h1, h2]; rfl, by simp, fun i hi => by omega, fun i hi => by omega, ?_⟩
  rw [h1, h2]; rfl
theorem rd_give {σ : qS} {w a : Int} (h : JI False (-1) σ) (hw : 0 ≤ w ∧ w < 6) (ha : AW σ w) (hg : GV False σ a) : JI False (-1) (su (su (fgt σ w) 62 w a) 63 w (σ 31 0)) ∧ AW (su (su (fgt σ w) 62 w a) 63 w (σ 31 0)) w := by
  have hj := h.1
  have hF : ∀ k, k ∉ 63 :: fgL → su (su (fgt σ w) 62 w a) 63 w (σ 31 0) k = σ k := fun k hk => by
    rw [su_k (by intro e; subst e; exact hk (by decide)), su_k (by intro e; subst e; exact hk (by decide))]
    exact fgt_F (fun e => hk (List.mem_cons_of_mem _ e))
  have hv : ∀ v k, v ≠ w → su (su (fgt σ w) 62 w a) 63 w (σ 31 0) k v = σ k v := fun v k hv => by rw [su_o hv, su_o hv, fgt_o hv]
  obtain ⟨v1, v2, v3, v4, v5, v6, v7, v8⟩ := fgt_v σ w
  have t1 : su (su (fgt σ w) 62 w a) 63 w (σ 31 0) 62 w = a := by rw [su_k (by decide), su_s]
  have t2 : su (su (fgt σ w) 62 w a) 63 w (σ 31 0) 63 w = σ 31 0 := su_s
  have t3 : ∀ k ∈ [64, 65, 66, 67, 70, 73, 75], su (su (fgt σ w) 62 w a) 63 w (σ 31 0) k w = fgt σ w k w := fun k m => by
    rw [su_k (by intro e; subst e; revert m; decide), su_k (by intro e; subst e; revert m; decide)]
  generalize su (su (fgt σ w) 62 w a) 63 w (σ 31 0) = ρ at *
  have hs : stE σ ρ := fun k m => hF k ((by decide : ∀ k ∈ stS, k ∉ 63 :: fgL) k m)
  have hsp := spl_b hj
  have b7 := (h.2.2.2.2.2.2.2.2.2.2.1 w hw.1 hw.2).2
  have a0 : a ≠ -1 := by rcases hg with hg | hg <;> omega
  have hW : WOK ρ w := by
    refine Or.inr ⟨by rw [t1]; exact a0, by rw [t2, st_era hs]; exact Int.le_refl _, fun _ => ?_⟩
    rcases hg with hg | ⟨g1, g2, g3⟩
    · refine Or.inl ?_
      unfold WMp
      rw [t1, t3 64 (by decide), v2, st_spl hs]
      refine ⟨hg, by omega, [], BF_0 ?_ ?_ ?_, by simp, MPE_z _ _⟩
      · rw [t3 _ (by decide)]; exact v7
      · rw [t3 _ (by decide)]; exact v5
      · rw [t3 _ (by decide)]; exact v6
    · refine Or.inr ?_
      have hT : TOT σ := by rcases g3 with g3 | g3; exact g3; exact g3.1.elim
      unfold WRd
      rw [t1, t3 65 (by decide), t3 66 (by decide), t3 64 (by decide), t3 75 (by decide), v2, v3, v4, v8, st_pts hs, st_jb hs, st_tot hs, st_spl hs]
      refine ⟨⟨g1, g2⟩, hT, by omega, by omega, 0, 0, rfl, by omega, by omega, fun _ => rfl, fun i hi => ?_, by simp [pre], by simp [pre, row]⟩
      have : i = 0 := by omega
      subst this
      rw [hF 76 (by decide)]
      simpa [pre] using b7
  refine ⟨JI_w h hw (fun k m1 _ _ => hF k (fun e => m1 ((by decide : ∀ k ∈ 63 :: fgL, k ∈ wA) k e))) ?_ (fun x hx => Or.inl ?_) (fun v _ _ hne => WSl_w (fun k _ => hv v k hne) (fun k m => hF k ((by decide : ∀ k ∈ [68, 69, 71, 72, 74, 76, 77, 78], k ∉ 63 :: fgL) k m))) ?_ (fun _ _ => hW), ?_⟩
  · unfold lok; rw [hF _ (by decide)]; exact h.2.2.1
  · rw [ln_k (fun k m => hF k ((by decide : ∀ k ∈ [48, 44, 45, 46, 47], k ∉ 63 :: fgL) k m))] at hx; exact hx
  · rw [hF _ (by decide)]; exact b7
  · exact ⟨by rw [hF _ (by decide)]; exact ha.1, by rw [hF _ (by decide), hF _ (by decide)]; exact ha.2.1, fun _ => by rw [t2, hF _ (by decide)]⟩
theorem rd_gets {σ : qS} {w : Int} (h : JI False (-1) σ) (hw : 0 ≤ w ∧ w < 6) (ha : AW σ w) {kv : List Pr} (hp : PRl σ (σ 51 2) (σ 51 3) (σ 51 4) (σ 51 5) kv) (h8 : lt8 σ = kv) (hmt : mt σ w) : JI False (-1) (gts σ w) ∧ AW (gts σ w) w := by
  have hj := h.1
  have hsp := spl_b hj
  obtain ⟨m1, m2, m3, m4⟩ := hmt
  have hW := h.2.2.2.2.2.2.2.2.1 w hw.1 hw.2 (by omega) ha.1
  have hrd : WRd σ w := by
    rcases hW with ⟨e, -⟩ | ⟨e1, e2, e3⟩
    · omega
    · rcases e3 (ha.2.2 e1) with hm | hr
      · have := hm.1; omega
      · exact hr
  obtain ⟨a1, a2, a3, a4, st, f, b1, b2, b3, b4, b5, b6, b7⟩ := hrd
  obtain ⟨p1, ⟨o, p2⟩, p3, p4, p5⟩ := hp
  have hst : (σ 51 2).toNat = st := by omega
  have hf : (σ 51 3).toNat = f := by
    have := b5 st (by omega)
    rw [b1, this, b6] at m4
    omega
  rw [hst, hf, m2] at p4 p5
  have hC := chC_len (Lp σ (σ 62 w - 38) st) f
  have hM : chM (Lp σ (σ 62 w - 38) st) f = if f + 8 < (Lp σ (σ 62 w - 38) st).length then 1 else 0 := rfl
  have hCd : chC (Lp σ (σ 62 w - 38) st) f = ((Lp σ (σ 62 w - 38) st).drop f).take 8 := rfl
  generalize hCC : chC (Lp σ (σ 62 w - 38) st) f = C at *
  generalize chM (Lp σ (σ 62 w - 38) st) f = M at *
  have hM01 : M = 0 ∨ M = 1 := by rw [hM]; split <;> simp
  have hn : σ 51 4 / 2 = C.length := by omega
  have hm2 : σ 51 4 % 2 = M := by omega
  have hst1 : (st : Int) < spl σ := by omega
  have h1000 := pre_1000 hj a2 (σ 62 w - 38) (i := st + 1) (by omega)
  rw [pre_s, List.length_append] at h1000
  obtain ⟨g1, g2, g3, g4, g5, g6, g7, g8, g9⟩ := gts_v (σ := σ) (w := w)
  rw [hn] at g3 g4 g5 g9
  rw [hm2] at g8 g9
  generalize gts σ w = ρ at *
  have hs : stE σ ρ := fun k m => g1 k ((by decide : ∀ k ∈ stS, k ∉ [77, 78, 75, 65, 66, 64, 76]) k m)
  have hrow : row ρ 77 78 (w * 1000) ((pre σ (σ 62 w - 38) st).length + (f + C.length)) = pre σ (σ 62 w - 38) st ++ ((Lp σ (σ 62 w - 38) st).take f ++ C) := by
    rw [← List.append_assoc, ← b7, ← Nat.add_assoc, row_app]
    congr 1
    · exact row_keep (fun i i0 i1 => by rw [g3, g4, if_neg (by omega), if_neg (by omega)]; exact ⟨rfl, rfl⟩)
    · refine Eq.trans (b := (lt8 σ).take C.length) ?_ (by rw [h8]; exact p5)
      apply List.ext_getElem?
      intro i
      by_cases hi : i < C.length
      · rw [row_at hi, List.getElem?_take_of_lt hi]
        unfold lt8
        rw [List.getElem?_map, List.getElem?_range (by omega), g3, g4, if_pos (by omega), if_pos (by omega), b6]
        simp only [Option.map_some]
        rw [show w * 1000 + (((pre σ (σ 62 w - 38) st).length + f : Nat) : Int) + (i : Int) - (w * 1000 + (((pre σ (σ 62 w - 38) st).length + f : Nat) : Int)) = (i : Int) by omega]
      · rw [row_no hi, List.getElem?_eq_none (by rw [List.length_take]; omega)]
  have hup : ρ 61 = σ 61 := g1 _ (by decide)
  have htk : ρ 62 = σ 62 := g1 _ (by decide)
  have hte : ρ 63 = σ 63 := g1 _ (by decide)
  have hWO : WOK ρ w := by
    refine Or.inr ⟨by rw [htk]; omega, by rw [hte, st_era hs, ha.2.2 (by omega)]; exact Int.le_refl _, fun _ => Or.inr ?_⟩
    unfold WRd
    rw [htk, st_pts hs, st_jb hs, st_tot hs, st_spl hs, st_lp hs, st_pre hs, g5, g6, g7, g8]
    by_cases c : M = 1
    · rw [if_pos c]
      rw [c] at hM
      have h8' : f + 8 < (Lp σ (σ 62 w - 38) st).length := by
        by_cases hh : f + 8 < (Lp σ (σ 62 w - 38) st).length
        · exact hh
        · rw [if_neg hh] at hM; omega
      refine ⟨a1, a2, by omega, by omega, st, f + C.length, b1, b2, by omega, fun e => by omega, fun i hi => ?_, by omega, ?_⟩
      · rw [g9, if_pos c]; exact b5 i hi
      · rw [hrow, show C.length = 8 by omega, List.take_add, hCd]
    · rw [if_neg c]
      have h8' : ¬ f + 8 < (Lp σ (σ 62 w - 38) st).length := by
        intro hh
        rw [if_pos hh] at hM; omega
      have hCe : (Lp σ (σ 62 w - 38) st).take f ++ C = Lp σ (σ 62 w - 38) st := by
        rw [hCd, List.take_of_length_le (l := (Lp σ (σ 62 w - 38) st).drop f) (by rw [List.length_drop]; omega), List.take_append_drop]
      rw [hCe, ← pre_s] at hrow
      have hlen : (pre σ (σ 62 w - 38) (st + 1)).length = (pre σ (σ 62 w - 38) st).length + (f + C.length) := by
        rw [pre_s, List.length_append]; omega
      refine ⟨a1, a2, by omega, by omega, st + 1, 0, by omega, by omega, by omega, fun e => rfl, fun i hi => ?_, by omega, ?_⟩
      · rw [g9, if_neg c]
        by_cases hi2 : i = st + 1
        · subst hi2
          rw [if_pos (by omega)]
          omega
        · rw [if_neg (by omega)]; exact b5 i (by omega)
      · rw [List.take_zero, List.append_nil, Nat.add_zero, hlen]; exact hrow
  refine ⟨JI_w h hw (fun k k1 _ _ => g1 k (fun e => k1 ((by decide : ∀ k ∈ [77, 78, 75, 65, 66, 64, 76], k ∈ wA) k e))) ?_ (fun x hx => Or.inl ?_) (fun v v0 v1 hne => ?_) ?_ (fun _ _ => hWO), ?_⟩
  · unfold lok; rw [g1 _ (by decide)]; exact h.2.2.1
  · rw [ln_k (fun k m => g1 k ((by decide : ∀ k ∈ [48, 44, 45, 46, 47], k ∉ [77, 78, 75, 65, 66, 64, 76]) k m))] at hx; exact hx
  · refine ⟨fun k m => ?_, ⟨fun i _ _ => by rw [g1 _ (by decide)], fun i _ _ => by rw [g1 _ (by decide)]⟩, ⟨fun i _ _ => by rw [g1 _ (by decide)], fun i _ _ => by rw [g1 _ (by decide)], fun i _ _ => by rw [g1 _ (by decide)]⟩, fun i i0 i1 => ?_, fun i i0 i1 => ?_, fun i i0 i1 => ?_⟩
    · by_cases hk : k ∈ [75, 65, 66, 64]
      · exact g2 k hk v hne
      · rw [g1 k (fun e => hk ((by decide : ∀ k ∈ wS, k ∈ [77, 78, 75, 65, 66, 64, 76] → k ∈ [75, 65, 66, 64]) k m e))]
    · rw [g9]
      split
      · rfl
      · rw [if_neg (by omega)]
    · rw [g3, if_neg (by omega)]
    · rw [g4, if_neg (by omega)]
  · rw [g9]
    have := (h.2.2.2.2.2.2.2.2.2.2.1 w hw.1 hw.2).2
    split
    · exact this
    · rw [if_neg (by omega)]; exact this
  · exact ⟨by rw [hup]; exact ha.1, by rw [g1 _ (by decide), g1 _ (by decide)]; exact ha.2.1, fun e => by rw [htk] at e; rw [hte, g1 _ (by decide)]; exact ha.2.2 e⟩
theorem rd_Q {σ σ' : qS} {w : Int} (h : JI False (-1) σ) (hw : 0 ≤ w ∧ w < 6) (ha : AW σ w) {x : Ms} (hx : x.1 = w) (hL : LTR False σ x) (hl : σ 51 0 = xw x 0 ∧ σ 51 2 = xw x 2 ∧ σ 51 3 = xw x 3 ∧ σ 51 4 = xw x 4 ∧ σ 51 5 = xw x 5) (h8 : lt8 σ = x.2.2) (hq : Q_M_reads w σ σ') : JI False (-1) σ' ∧ AW σ' w := by
  obtain ⟨l0, l2, l3, l4, l5⟩ := hl
  have hj := h.1
  have hsp := spl_b hj
  have hL' : (xw x 0 = 2 ∧ GV False σ (xw x 2)) ∨ (xw x 0 = 5 ∧ FT σ x.1 (xw x 2) (xw x 4) (xw x 5)) ∨ (xw x 0 = 6 ∧ PRl σ (xw x 2) (xw x 3) (xw x 4) (xw x 5) x.2.2) := by
    rcases hL with ⟨e, -⟩ | ⟨-, e⟩
    · omega
    · exact e
  rw [← l0, ← l2, ← l3, ← l4, ← l5] at hL'
  rcases hq with ⟨q0, rfl⟩ | ⟨q0, q⟩ | ⟨q0, q⟩ | ⟨-, rfl⟩
  · split
    · rcases hL' with ⟨-, g⟩ | ⟨e, -⟩ | ⟨e, -⟩
      · exact rd_give h hw ha g
      · omega
      · omega
    · exact ⟨h, ha⟩
  · rcases hL' with ⟨e, -⟩ | ⟨-, f1, f2, f3, f4⟩ | ⟨e, -⟩
    · omega
    · rcases q with ⟨-, rfl⟩ | ⟨c0, c1, c2, c3, c4, kv, c5, c6, c7⟩
      · exact ⟨h, ha⟩
      · have hk : ∀ k, k ∉ lA → σ' k = σ k := fun k hk => c1 k (fun e => hk (by simp only [lA, List.mem_cons, List.not_mem_nil, or_false] at e ⊢; omega))
        have hs : stE σ σ' := fun k m => hk k ((by decide : ∀ k ∈ stS, k ∉ lA) k m)
        have hd : ∀ k ∈ dA, σ' k = σ k := fun k m => hk k ((by decide : ∀ k ∈ dA, k ∉ lA) k m)
        refine ⟨JI_l h hk c2 (fun y hy => ?_), AW_k ha hk⟩
        rw [c7] at hy
        rcases tld_mem hy with hy | rfl
        · exact Or.inl hy
        · refine Or.inr (LOK_m hj hs (dmon_eq hd) (pmon_eq (hk _ (by decide))) (m := False) (fun hm => hm.1.elim) ⟨⟨Int.le_refl _, f4.1, Int.le_of_lt f4.2⟩, fun _ => Or.inr ⟨f4, Or.inr (Or.inr ⟨rfl, ?_⟩)⟩⟩)
          obtain ⟨k1, k2, k3, k4⟩ := (h.2.2.2.1 w hw.1 hw.2 ha.2.1).2.2 (σ 51 2) f1.1 (by omega) c0
          have e : Lp σ (σ 51 3) (σ 51 2).toNat = fpt σ (σ 51 3) (dkp σ w (σ 51 2)) := by unfold Lp; rw [k3]; rfl
          show PRl σ (σ 51 2) (σ 51 4) _ (σ 51 3) kv
          unfold PRl
          rw [e]
          exact ⟨f1, ⟨_, k3⟩, f3, rfl, c6⟩
    · omega
  · rcases hL' with ⟨e, -⟩ | ⟨e, -⟩ | ⟨-, p⟩
    · omega
    · omega
    · rcases q with ⟨-, rfl⟩ | ⟨hm, rfl⟩
      · exact ⟨h, ha⟩
      · exact rd_gets h hw ha p h8 hm
  · exact ⟨h, ha⟩
theorem lpr_ok {σ : qS} {w : Int} (h : JI False (-1) σ) (hw : 0 ≤ w ∧ w < 6) (ha : AW σ w) : Lpr w σ := by
  refine ⟨h.2.2.1, fun r σ1 q hr => ?_⟩
  obtain ⟨o1, o2, o3⟩ := op_JI h q
  obtain ⟨x, x1, x2, x3, x4⟩ := o3 hr
  exact rd_P o1 hw (AW_k ha o2) x1 x2 x3
theorem ltr_ok {σ σ' : qS} {w : Int} (h : JI False (-1) σ) (hw : 0 ≤ w ∧ w < 6) (ha : AW σ w) (hq : Ltr w σ σ') : JI False (-1) σ' ∧ AW σ' w := by
  obtain ⟨r, σ1, q, c⟩ := hq
  obtain ⟨o1, o2, o3⟩ := op_JI h q
  rcases c with ⟨-, rfl⟩ | ⟨hr, c⟩
  · exact ⟨o1, AW_k ha o2⟩
  · obtain ⟨x, x1, x2, x3, x4⟩ := o3 hr
    exact rd_Q o1 hw (AW_k ha o2) x1 x2 x3 x4 c

