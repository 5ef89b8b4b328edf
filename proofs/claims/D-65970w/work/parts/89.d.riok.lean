theorem JI_0 {m : Prop} {σ : qS} (h1 : jobok σ) (h2 : POK σ) (h3 : lok σ) (h4 : ∀ w, 0 ≤ w → w < 6 → σ 54 w < σ 31 0 ∧ σ 76 (w * 39) = 0) (h5 : ∀ k, 0 ≤ k → k < 38 → σ 33 k = -1) (h6 : ∀ p, 0 ≤ p → p < 6 → σ 40 p < σ 31 0 ∧ σ 35 p = 0) (h7 : ∀ x ∈ ln σ, xw x 1 < σ 31 0 ∧ 0 ≤ x.1 ∧ x.1 ≤ 6) (h8 : ∀ w, 0 ≤ w → w < 6 → σ 61 w ≠ 0 → (σ 62 w = -1 ∧ (0 ≤ σ 65 w ∧ σ 65 w ≤ 5) ∧ σ 64 w = 0) ∨ (σ 62 w ≠ -1 ∧ σ 63 w < σ 31 0)) (h9 : σ 36 0 = 0) : JI m (-1) σ := by
  refine ⟨h1, h2, h3, fun w w0 w1 he => ?_, fun k k0 k1 hb => absurd (h5 k k0 k1) hb, fun p p0 p1 he => ?_, fun p p0 p1 he => absurd (h6 p p0 p1).2 he, fun x hx => ⟨?_, fun e => ?_⟩, fun w w0 w1 _ hu => ?_, fun e => absurd h9 e, fun w w0 w1 => ⟨?_, (h4 w w0 w1).2⟩, fun p p0 p1 => ?_⟩
  · have := (h4 w w0 w1).1; omega
  · have := (h6 p p0 p1).1; omega
  · have := h7 x hx; omega
  · have := h7 x hx; omega
  · rcases h8 w w0 w1 hu with e | ⟨e1, e2⟩
    · exact Or.inl e
    · exact Or.inr ⟨e1, by omega, fun e => by omega⟩
  · have := (h4 w w0 w1).1; omega
  · have := (h6 p p0 p1).1; omega
theorem mp_sum {m : Prop} {u : Int} {σ : qS} (h : JI m u σ) (hm : mapd σ) : ∃ L, PRSm σ = some L ∧ ssum (σ 34) (spl σ).toNat = L.length ∧ ∀ k, 0 ≤ k → k < spl σ → 0 ≤ σ 34 k ∧ σ 34 k ≤ 1000 := by
  obtain ⟨j1, j2, j3, j4, j5, j6, j7, j8, j9, j10, j11⟩ := h
  have hsp := spl_b j1
  have hn := spl_n j1
  have key : ∀ k, 0 ≤ k → k < spl σ → ∃ o, OUTm σ k.toNat = some o ∧ σ 34 k = o.length ∧ o.length ≤ 1000 := fun k k0 k1 => by
    obtain ⟨s1, s2, s3⟩ := j5 k k0 (by omega) (hm k k0 k1)
    obtain ⟨d1, d2, d3⟩ := j4 _ s1.1 s1.2 s2.1
    obtain ⟨x1, x2, x3, x4⟩ := d3 k k0 (by omega) s2.2
    refine ⟨_, x3, ?_, ?_⟩
    · unfold dkp; rw [row_len, ← s3]; omega
    · unfold dkp; rw [row_len]; omega
  have hall : ∀ k, k < nSp (recM σ) → ∃ o, OUTk (prg σ (jb σ * 3)) (prg σ (jb σ * 3 + 1)) (recM σ) k = some o := fun k hk => by
    obtain ⟨o, ho, -⟩ := key k (by omega) (by omega)
    rw [Int.toNat_natCast] at ho
    exact ⟨o, ho⟩
  refine ⟨_, PRS_i hall, ?_, fun k k0 k1 => ?_⟩
  · rw [flat_len, show (spl σ).toNat = nSp (recM σ) by omega]
    apply ssum_c
    intro i i0 i1
    obtain ⟨o, ho, hl, -⟩ := key i i0 (by omega)
    unfold OUTm at ho
    rw [hl, ho]; rfl
  · obtain ⟨o, ho, hl, hb⟩ := key k k0 k1
    omega
theorem pcat_e {m : Prop} {u : Int} {σ : qS} (h : JI m u σ) {L : List Pr} (hL : PRSm σ = some L) (hd : ∀ k, 0 ≤ k → k < σ 13 (jb σ) → σ 35 k ≠ 0) : (∀ k, 0 ≤ k → k < σ 13 (jb σ) → 0 ≤ σ 41 k ∧ σ 41 k ≤ 300) ∧ ∀ n : Nat, (n : Int) ≤ σ 13 (jb σ) → ocat ((List.range n).map (PAR (prg σ (jb σ * 3 + 2)) (σ 13 (jb σ)) L)) = some (pcat σ n) := by
  obtain ⟨j1, j2, j3, j4, j5, j6, j7, j8, j9, j10, j11⟩ := h
  have hpt := j1.2.2.2.2.2.1
  have key : ∀ k, 0 ≤ k → k < σ 13 (jb σ) → ∃ o, PAR (prg σ (jb σ * 3 + 2)) (σ 13 (jb σ)) L k.toNat = some o ∧ o.length ≤ 300 ∧ σ 41 k = o.length ∧ row σ 42 43 (k * 300) o.length = o := fun k k0 k1 => by
    obtain ⟨-, q⟩ := j7 k k0 (by omega) (hd k k0 k1)
    obtain ⟨L', o, a1, a2, a3, a4, a5, a6⟩ := j6 k k0 (by omega) q
    have : L' = L := Option.some.inj (a1.symm.trans hL)
    subst this
    exact ⟨o, a3, a4, a5, a6⟩
  refine ⟨fun k k0 k1 => ?_, fun n => ?_⟩
  · obtain ⟨o, a1, a2, a3, a4⟩ := key k k0 k1
    omega
  · induction n with
    | zero => intro _; rfl
    | succ n ih =>
      intro hn
      obtain ⟨o, a1, a2, a3, a4⟩ := key n (by omega) (by omega)
      rw [Int.toNat_natCast] at a1
      rw [List.range_succ, List.map_append, ocat_app, ih (by omega), pcat, a3, Int.toNat_natCast, a4]
      show (ocat [PAR (prg σ (jb σ * 3 + 2)) (σ 13 (jb σ)) L n]).map _ = _
      rw [a1]
      simp [ocat]
theorem nx_fM {σ σ1 τ : qS} {b : Int} {O : List Pr} (hf : ∀ f, 0 ≤ f → f < 16 → 0 ≤ σ 2 f ∧ σ 2 f ≤ 300) (hb : 0 ≤ b ∧ b < 16) (hO : O.length ≤ 300) (hC : C1 σ σ1 (b * 300) O) (h1 : τ 0 = σ1 0) (h2 : τ 1 = σ1 1) (h3 : ∀ i, τ 2 i = if i = b then (O.length : Int) else σ 2 i) : fM τ = fun f => if f = b then O else fM σ f := by
  obtain ⟨c1, c2, c3⟩ := hC
  have hr : ∀ (k : Int) (n : Nat), row τ 0 1 k n = row σ1 0 1 k n := fun k n => by unfold row; rw [h1, h2]
  funext f
  by_cases e : f = b
  · subst e
    rw [if_pos rfl, fM_i hb, h3, if_pos rfl, Int.toNat_natCast, hr]
    exact c3
  · rw [if_neg e]
    unfold fM
    by_cases hx : 0 ≤ f ∧ f < 16
    · rw [if_pos hx, if_pos hx, h3, if_neg e, hr]
      have := hf f hx.1 hx.2
      exact row_keep (fun i i0 i1 => c2 i (by omega))
    · rw [if_neg hx, if_neg hx]
def cmL : List Nat := [0, 1, 2, 32, 27, 31, 33, 35, 36]
theorem cm_ok {N c : Nat} {σ : qS} (hN : N ≤ 4096) (h : MT N c σ) (hg : σ 27 0 ≠ 0) (hm : mapd σ) (hs : ssum (σ 34) (spl σ).toNat ≤ 1000) (hd : ∀ k, 0 ≤ k → k < σ 13 (jb σ) → σ 35 k ≠ 0) : P_M_commit σ ∧ ∀ σ', Q_M_commit σ σ' → INVr (RJm False) N c σ' := by
  have hJ := MT_J h hg
  obtain ⟨L, l1, l2, l3⟩ := mp_sum hJ hm
  obtain ⟨p1, p2⟩ := pcat_e hJ l1 hd
  obtain ⟨hI, hkn⟩ := h
  have hI0 := hI
  obtain ⟨⟨b1, b2, b3, b4, b5, b6⟩, he, hb, ⟨o1, o2, o3, o4⟩, hg0, hg1⟩ := hI
  refine ⟨⟨hJ.1, p1, he.1, by omega⟩, fun σ' hq => ?_⟩
  have hJ0 := hJ
  obtain ⟨j1, j2, j3, j4, j5, j6, j7, j8, j9, j10, j11⟩ := hJ0
  have hpt := j1.2.2.2.2.2.1
  have hout := j1.2.2.2.2.1
  have hO := p2 (σ 13 (jb σ)).toNat (by omega)
  have hJO : JOm σ = if 300 < (pcat σ (σ 13 (jb σ)).toNat).length then none else some (pcat σ (σ 13 (jb σ)).toNat) := by
    rw [JOm_e, l1]
    simp only
    rw [if_neg (by omega), hO]
  unfold Q_M_commit at hq
  generalize pcat σ (σ 13 (jb σ)).toNat = O at *
  obtain ⟨hrun, -⟩ := hg1 hg
  have hhd := run_hd hI0.1 o1 o3.1 hrun
  obtain ⟨r1, r2, r3, r4⟩ := hrun
  rcases hq with ⟨q1, q2⟩ | ⟨q1, σ1, hC, hq⟩
  · exact (fail_ok hI0 hg (by rw [hJO, if_pos q1]) q2 False).1
  · rw [if_neg (by omega)] at hJO
    rw [hJO] at hhd
    simp only at hhd
    have hC0 := hC
    obtain ⟨c1, c2, c3⟩ := hC
    have t1 : ∀ k, k ∉ [0, 1, 2, 32] → su (su σ1 2 (σ 12 (jb σ)) (O.length : Int)) 32 0 (σ 32 0 + 1) k = σ k := fun k m => by
      simp only [List.mem_cons, List.not_mem_nil, or_false, not_or] at m
      rw [su_k (by omega), su_k (by omega), c1 k (by simp only [List.mem_cons, List.not_mem_nil, or_false, not_or]; omega)]
    have t2 : su (su σ1 2 (σ 12 (jb σ)) (O.length : Int)) 32 0 (σ 32 0 + 1) 0 = σ1 0 := by rw [su_k (by decide), su_k (by decide)]
    have t3 : su (su σ1 2 (σ 12 (jb σ)) (O.length : Int)) 32 0 (σ 32 0 + 1) 1 = σ1 1 := by rw [su_k (by decide), su_k (by decide)]
    have t4 : ∀ i, su (su σ1 2 (σ 12 (jb σ)) (O.length : Int)) 32 0 (σ 32 0 + 1) 2 i = if i = σ 12 (jb σ) then (O.length : Int) else σ 2 i := fun i => by rw [su_k (by decide), su_e, c1 2 (by decide)]
    have t5 : su (su σ1 2 (σ 12 (jb σ)) (O.length : Int)) 32 0 (σ 32 0 + 1) 32 0 = σ 32 0 + 1 := su_s
    generalize su (su σ1 2 (σ 12 (jb σ)) (O.length : Int)) 32 0 (σ 32 0 + 1) = τ at *
    have k0 : ∀ k, k ∉ [27, 31, 33, 35, 36] → σ' k = τ k := fun k m => by
      simp only [List.mem_cons, List.not_mem_nil, or_false, not_or] at m
      rw [hq]
      unfold nxj
      split
      · rw [su_k (by omega)]
      · rw [su_k (by omega), ra_k (by omega), ra_k (by omega), su_k (by omega)]
    have eC : τ 30 0 = σ 30 0 := by rw [t1 30 (by decide)]
    have eE : τ 31 0 = σ 31 0 := by rw [t1 31 (by decide)]
    have v : (σ 32 0 + 1 = σ 30 0 ∧ σ' 27 0 = 0 ∧ σ' 31 0 = σ 31 0) ∨ (σ 32 0 + 1 ≠ σ 30 0 ∧ σ' 27 0 = σ 27 0 ∧ σ' 31 0 = σ 31 0 + 1 ∧ (∀ k, 0 ≤ k → k < 38 → σ' 33 k = -1) ∧ (∀ k, 0 ≤ k → k < 6 → σ' 35 k = 0) ∧ σ' 36 0 = 0) := by
      rw [hq]
      unfold nxj
      rw [t5, eC]
      by_cases e : σ 32 0 + 1 = σ 30 0
      · rw [if_pos e]
        exact Or.inl ⟨e, su_s, by rw [su_k (by decide)]; exact eE⟩
      · rw [if_neg e]
        refine Or.inr ⟨e, ?_, ?_, fun k x0 x1 => ?_, fun k x0 x1 => ?_, su_s⟩
        · rw [su_k (by decide), ra_k (by decide), ra_k (by decide), su_k (by decide), t1 27 (by decide)]
        · rw [su_k (by decide), ra_k (by decide), ra_k (by decide), su_s, eE]
        · rw [su_k (by decide), ra_k (by decide), ra_e, if_pos ⟨x0, x1⟩]
        · rw [su_k (by decide), ra_e, if_pos ⟨x0, x1⟩]
    clear hq
    have kk : ∀ k, k ∉ cmL → σ' k = σ k := fun k m => by
      simp only [cmL, List.mem_cons, List.not_mem_nil, or_false, not_or] at m
      rw [k0 k (by simp only [List.mem_cons, List.not_mem_nil, or_false, not_or]; omega), t1 k (by simp only [List.mem_cons, List.not_mem_nil, or_false, not_or]; omega)]
    have sub : ∀ {S : List Nat}, (∀ k ∈ S, k ∉ cmL) → ∀ k ∈ S, σ' k = σ k := fun hS k m => kk k (hS k m)
    have efs : ∀ i, σ' 2 i = if i = σ 12 (jb σ) then (O.length : Int) else σ 2 i := fun i => by rw [k0 _ (by decide)]; exact t4 i
    have eF : fM σ' = fun f => if f = σ 12 (jb σ) then O else fM σ f := nx_fM j1.2.2.2.2.2.2 hout q1 hC0 (by rw [k0 _ (by decide)]; exact t2) (by rw [k0 _ (by decide)]; exact t3) efs
    have ePl : σ' 32 0 = σ 32 0 + 1 := by rw [k0 _ (by decide)]; exact t5
    have eR : RES σ' = RES σ := RES_k (sub (by decide))
    have eCh : σ' 30 0 = σ 30 0 := by rw [kk _ (by decide)]
    have eb : σ' 26 0 = 1 := by rw [kk _ (by decide)]; exact hb
    have eEr : σ 31 0 ≤ σ' 31 0 := by rcases v with v | v <;> omega
    have hBR : BR σ' := by
      refine ⟨⟨⟨Or.inr eb, fun e => by omega⟩, by rw [eb, kk _ (by decide), b1.2]; exact hb⟩, ⟨fun f f0 f1 => ?_, by rw [kk 102 (by decide)]; exact b2.2⟩, B3_k b3 (sub (by decide)), B4_k b4 (sub (by decide)), B5_k b5 (sub (by decide)), ?_, fun w w0 w1 => ?_, fun p x0 x1 => ?_⟩
      · rw [efs]
        split
        · omega
        · exact b2.1 f f0 f1
      · rw [kk 116 (by decide), kk 14 (by decide)]; exact b6.1
      · rw [kk 54 (by decide), kk 76 (by decide)]
        have := j11.1 w w0 w1
        exact ⟨by omega, this.2⟩
      · rw [kk 40 (by decide)]
        have := j11.2 p x0 x1
        omega
    have hCH : CH σ' := CH_k (sub (by decide)) o1
    rcases v with ⟨v1, v2, v3⟩ | ⟨v1, v2, v3, v4, v5, v6⟩
    · refine ⟨hBR, by omega, eb, ⟨hCH, Or.inl v2, by omega, by omega⟩, fun _ => ?_, fun e => absurd v2 e⟩
      rw [eR, hhd, show (σ 30 0 - (σ 32 0 + 1)).toNat = 0 by omega, eF, kk 28 (by decide), r2]
      rfl
    · have hjb := job_of hBR hCH (by omega) (by omega)
      refine ⟨hBR, by omega, eb, ⟨hCH, by rw [v2]; exact o2, by omega, by omega⟩, fun e => by omega, fun _ => ⟨⟨by omega, by rw [kk _ (by decide)]; exact r2, by omega, ?_⟩, ?_⟩⟩
      · rw [eR, hhd, jfD_k2 (sub (by decide)), kk 110 (by decide), eF, ePl, eCh]
        unfold ordL
        rw [kk 112 (by decide)]
      · refine JI_0 hjb.1 hjb.2 (by unfold lok; rw [kk _ (by decide)]; exact j3) (fun w w0 w1 => ?_) v4 (fun p x0 x1 => ⟨?_, v5 p x0 x1⟩) (fun x hx => ?_) (fun w w0 w1 hu => ?_) v6
        · rw [kk 54 (by decide), kk 76 (by decide)]
          have := j11.1 w w0 w1
          exact ⟨by omega, this.2⟩
        · rw [kk 40 (by decide)]
          have := j11.2 p x0 x1
          omega
        · rw [ln_k (sub (by decide))] at hx
          have := (j8 x hx).1
          omega
        · rw [kk 61 (by decide)] at hu
          rw [kk 62 (by decide), kk 65 (by decide), kk 64 (by decide), kk 63 (by decide)]
          rcases j9 w w0 w1 (by omega) hu with e | ⟨e1, e2, -⟩
          · exact Or.inl e
          · exact Or.inr ⟨e1, by omega⟩
theorem JI_dn {σ : qS} (h : JI True (-1) σ) (hT : mapd σ → TOT σ) : JI False (-1) σ := JI_j h (fun _ _ => rfl) h.2.2.2.2.1 h.2.2.2.2.2.2.1 h.2.2.2.2.2.2.2.2.2.1 (fun hm => Or.inl (hT hm.2))
theorem INV_dn {N c : Nat} {σ : qS} (h : INVr (RJm True) N c σ) (hT : σ 27 0 ≠ 0 → mapd σ → TOT σ) : INVr (RJm False) N c σ := by
  obtain ⟨hB, he, hb, o, hg0, hg1⟩ := h
  exact ⟨hB, he, hb, o, hg0, fun hg => ⟨(hg1 hg).1, JI_dn (hg1 hg).2 (hT hg)⟩⟩
theorem me_ok {N c : Nat} {σ : qS} (hN : N ≤ 4096) (h : MT N c σ) : meP σ ∧ ∀ σ', meQ σ σ' → INVr (RJm False) N c σ' := by
  have hP : σ 27 0 ≠ 0 → jobok σ ∧ (mapd σ → P_M_whenMapped σ) := fun hg => by
    have hJ := MT_J h hg
    refine ⟨hJ.1, fun hm => ?_⟩
    obtain ⟨L, l1, l2, l3⟩ := mp_sum hJ hm
    exact ⟨hJ.1, l3, fun hs hd => (cm_ok hN h hg hm hs hd).1⟩
  refine ⟨hP, fun σ' hq => ?_⟩
  rcases hq with ⟨hg, rfl⟩ | ⟨hg, hm, rfl⟩ | ⟨hg, hm, hq⟩
  · exact INV_dn h.1 (fun e => absurd hg e)
  · exact INV_dn h.1 (fun _ e => absurd e hm)
  · obtain ⟨L, l1, l2, l3⟩ := mp_sum (MT_J h hg) hm
    rcases hq with ⟨q1, q2⟩ | ⟨q1, q2, rfl⟩ | ⟨q1, q2, q3⟩
    · refine (fail_ok h.1 hg ?_ q2 False).1
      rw [JOm_e, l1]
      simp only
      rw [if_pos (by omega)]
    · exact INV_dn h.1 (fun _ _ => ⟨L, l1, by omega⟩)
    · exact (cm_ok hN h hg hm q1 q2).2 _ q3
theorem mone_ok {N c : Nat} {σ : qS} (hN : N ≤ 4096) (h : INVr (RJm False) N c σ) (hc : c < c + 1) : P_M_one 6 σ ∧ ∀ σ', Q_M_one 6 σ σ' → INVr (RJm False) N (c + 1) σ' := by
  have hup : INVr (RJm False) N (c + 1) σ := by
    obtain ⟨hB, he, hb, ⟨o1, o2, o3, o4⟩, hg0, hg1⟩ := h
    exact ⟨hB, he, hb, ⟨o1, o2, o3, by omega⟩, hg0, hg1⟩
  by_cases hg : σ 27 0 = 0
  · refine ⟨fun e => absurd hg e, fun σ' hq => ?_⟩
    rcases hq with ⟨-, rfl⟩ | ⟨e, -⟩ | ⟨e, -⟩
    · exact hup
    · exact absurd hg e
    · exact absurd hg e
  · obtain ⟨m1, m2, m3⟩ := ms1_ok h hg
    have hM : MT N (c + 1) (ms1 σ) := ⟨m1, fun _ => m2⟩
    have hcl := h.2.2.2.1.2.2.2
    refine ⟨fun _ => ⟨fun _ => ⟨mtr_P (by omega) hM, fun σ1 q1 => ?_⟩, fun e => absurd rfl e⟩, fun σ' hq => ?_⟩
    · have h1 := mtr_ok hM q1
      refine ⟨mtr_P (by omega) h1, fun σ2 q2 => ?_⟩
      have h2 := mtr_ok h1 q2
      exact ⟨mtr_P (by omega) h2, fun σ3 q3 => (me_ok hN (mtr_ok h2 q3)).1⟩
    · rcases hq with ⟨e, -⟩ | ⟨-, -, σ1, σ2, σ3, q1, q2, q3, q4⟩ | ⟨-, e, -⟩
      · exact absurd e hg
      · exact (me_ok hN (mtr_ok (mtr_ok (mtr_ok hM q1) q2) q3)).2 _ q4
      · exact absurd rfl e
theorem ck_ok {N c : Nat} {σ : qS} (h : INVr (RJm False) N c σ) : P_M_check σ := by
  intro hg
  obtain ⟨j1, j2, j3, j4, j5, j6, j7, j8, j9, j10, j11⟩ := (h.2.2.2.2.2 hg).2
  have hsp := spl_b j1
  have hpt := j1.2.2.2.2.2.1
  refine ⟨j1, fun k k0 k1 hb => ?_, fun k k0 k1 hb => (j7 k k0 (by omega) hb).2⟩
  obtain ⟨s1, s2, s3⟩ := j5 k k0 (by omega) hb
  obtain ⟨d1, d2, d3⟩ := j4 _ s1.1 s1.2 s2.1
  obtain ⟨x1, x2, x3, x4⟩ := d3 k k0 (by omega) s2.2
  exact ⟨s1, s2.1, s2.2, s3, by omega, x4⟩
theorem bg_ok : RIb (fun N σ => RJm False N (200 * N) σ) := by
  intro N σ hB hb hI hE hS
  obtain ⟨s1, s2, s3, s4⟩ := hS
  obtain ⟨p1, p2, p3, p4, p5, p6⟩ := s2
  have hB0 := hB
  obtain ⟨b1, b2, b3, b4, b5, b6⟩ := hB
  have eF : fM σ = fD σ := by
    funext f
    unfold fM fD
    by_cases hf : 0 ≤ f ∧ f < 16
    · rw [if_pos hf, if_pos hf]
      obtain ⟨i1, i2⟩ := hI f hf.1 hf.2
      rw [i1]
      apply List.ext_getElem?
      intro i
      by_cases hi : i < (σ 2 f).toNat
      · rw [row_at hi, row_at hi, (i2 i (by omega) (by omega)).1, (i2 i (by omega) (by omega)).2]
      · rw [row_no hi, row_no hi]
    · rw [if_neg hf, if_neg hf]
  have c1 := s1.1
  have c2 := s1.2.1
  refine ⟨⟨s1, ?_, by omega, by omega⟩, fun hg => ?_, fun hg => ?_⟩
  · rcases s4 with ⟨-, e⟩ | ⟨-, e, -⟩
    · exact Or.inl e
    · exact Or.inr e
  · rcases s4 with ⟨e, -⟩ | ⟨-, e, -⟩
    · unfold RES
      rw [c2, e, p6, eF]; rfl
    · omega
  · rcases s4 with ⟨-, e⟩ | ⟨e1, e2, e3, e4, e5, e6, e7⟩
    · exact absurd e hg
    · have hj := job_of hB0 s1 (by omega) (by omega)
      refine ⟨⟨by omega, p6, by omega, ?_⟩, JI_0 hj.1 hj.2 (by unfold lok; omega) (fun w w0 w1 => ⟨e6 w w0 w1, (b6.2.1 w w0 w1).2⟩) e3 (fun p x0 x1 => ⟨e7 p x0 x1, e4 p x0 x1⟩) (fun x hx => ?_) (fun w w0 w1 hu => absurd (s3 w w0 w1) hu) e5⟩
      · unfold RES
        rw [p1, c2, eF, show σ 30 0 - 0 = σ 30 0 by omega]
      · unfold ln at hx
        rw [p2] at hx
        simp at hx
theorem riok_of (hF : ∀ N c σ, N ≤ 4096 → INVr (RJm False) N c σ → c ≤ 900000 → σ 49 0 = 0 → σ 50 0 = 0 → ∃ n : Nat, c + n ≤ c + n ∧ FinP n σ) : RIOK (RJm False) := by
  have frm : ∀ {N c : Nat} {σ σ' : qS}, RJm False N c σ → (∀ k ∈ oS, σ' k = σ k) → (JI False (-1) σ → JI False (-1) σ') → RJm False N c σ' := fun {N c σ σ'} h hk hJ => by
    obtain ⟨⟨o1, o2, o3, o4⟩, hg0, hg1⟩ := h
    have sub : ∀ {S : List Nat}, (∀ k ∈ S, k ∈ oS) → ∀ k ∈ S, σ' k = σ k := fun hS k m => hk k (hS k m)
    have eR : RES σ' = RES σ := RES_k (sub (by decide))
    have eF : fM σ' = fM σ := fM_k (sub (by decide))
    refine ⟨⟨CH_k (sub (by decide)) o1, ?_, ?_, ?_⟩, fun hg => ?_, fun hg => ⟨?_, ?_⟩⟩
    · rw [hk 27 (by decide)]; exact o2
    · rw [hk 32 (by decide), hk 30 (by decide)]; exact o3
    · exact o4
    · rw [hk 27 (by decide)] at hg
      rw [hk 28 (by decide), eF, eR]; exact hg0 hg
    · rw [hk 27 (by decide)] at hg
      unfold RUN ordL
      rw [hk 32 (by decide), hk 30 (by decide), hk 28 (by decide), hk 31 (by decide), hk 110 (by decide), hk 112 (by decide), eF, eR, jfD_k2 (sub (by decide))]
      exact (hg1 hg).1
    · rw [hk 27 (by decide)] at hg
      exact hJ (hg1 hg).2
  refine ⟨fun N c N' c' σ h hN hc => ?_, fun N c σ σ' h hk => ?_, fun N c σ h => ?_, fun N c σ w h w0 w1 => ?_, fun N c σ a b h ha hb => ?_, bg_ok, fun N c σ w hN h hc w0 w6 => ?_, fun N c σ h => ck_ok h, hF, fun N c σ h hg => ⟨h.2.2.2.2.1 hg, h.2.2.2.1.1⟩⟩
  · obtain ⟨⟨o1, o2, o3, o4⟩, hg0, hg1⟩ := h
    refine ⟨⟨o1, o2, o3, by omega⟩, hg0, fun hg => ⟨?_, (hg1 hg).2⟩⟩
    obtain ⟨r1, r2, r3, r4⟩ := (hg1 hg).1
    exact ⟨r1, r2, by omega, r4⟩
  · refine frm h (fun k m => hk k ((by decide : ∀ k ∈ oS, k ≠ 118) k m) ((by decide : ∀ k ∈ oS, k ≠ 140) k m)) (fun hJ => ?_)
    have hk' : ∀ {S : List Nat}, (∀ k ∈ S, k ≠ 118 ∧ k ≠ 140) → ∀ k ∈ S, σ' k = σ k := fun hS k m => hk k (hS k m).1 (hS k m).2
    obtain ⟨j1, j2, j3, j4, j5, j6, j7, j8, j9, j10, j11⟩ := hJ
    refine JI_step ⟨j1, j2, j3, j4, j5, j6, j7, j8, j9, j10, j11⟩ (hk' (by decide)) (by unfold lok; rw [hk _ (by decide) (by decide)]; exact j3) (hk' (by decide)) (dmon_eq (hk' (by decide))) (pmon_eq (hk _ (by decide) (by decide))) (JD_eq (hk' (by decide)) j4 (hk' (by decide))) (JP_eq (hk' (by decide)) j6 (hk' (by decide))) (fun x hx => Or.inl ?_) (fun v v0 v1 vu hv => ?_) ?_
    · rw [ln_k (hk' (by decide))] at hx; exact hx
    · rw [hk 61 (by decide) (by decide)] at hv
      exact WOK_sl j1 (hk' (by decide)) (WSl_eq (hk' (by decide)) v) (j9 v v0 v1 vu hv)
    · unfold B7; rw [hk 54 (by decide) (by decide), hk 31 (by decide) (by decide), hk 76 (by decide) (by decide), hk 40 (by decide) (by decide)]; exact j11
  · have hk : ∀ k, k ≠ 36 → su σ 36 0 0 k = σ k := fun k m => su_k m
    refine frm h (fun k m => hk k ((by decide : ∀ k ∈ oS, k ≠ 36) k m)) (fun hJ => ?_)
    have hs : stE σ (su σ 36 0 0) := fun k m => hk k ((by decide : ∀ k ∈ stS, k ≠ 36) k m)
    refine JI_j hJ (fun k m => hk k (fun e => m (by subst e; decide))) (fun k k0 k1 hb => ?_) (fun p p0 p1 hb => ?_) (fun e => absurd su_s e) (fun hm => hm.1.elim)
    · unfold SB KPT
      rw [hk 33 (by decide)] at hb ⊢
      rw [hk 34 (by decide), hk 57 (by decide), hk 56 (by decide), hk 54 (by decide), st_era hs]
      exact hJ.2.2.2.2.1 k k0 k1 hb
    · rw [hk 35 (by decide)] at hb
      rw [st_pts hs, st_jb hs, hk 40 (by decide), st_era hs]
      exact hJ.2.2.2.2.2.2.1 p p0 p1 hb
  · have hk : ∀ k, k ≠ 61 → su σ 61 w 0 k = σ k := fun k m => su_k m
    refine frm h (fun k m => hk k ((by decide : ∀ k ∈ oS, k ≠ 61) k m)) (fun hJ => ?_)
    refine JI_w hJ ⟨w0, w1⟩ (fun k m _ _ => hk k (fun e => m (by subst e; decide))) ?_ (fun x hx => Or.inl ?_) (fun v _ _ hv => WSl_w (fun k _ => su_o hv) (fun k m => hk k (by intro e; subst e; revert m; decide))) ?_ (fun _ e => absurd su_s e)
    · unfold lok; rw [hk _ (by decide)]; exact hJ.2.2.1
    · rw [ln_k (fun k m => hk k (by intro e; subst e; revert m; decide))] at hx; exact hx
    · rw [hk _ (by decide)]; exact (hJ.2.2.2.2.2.2.2.2.2.2.1 w w0 w1).2
  · have hk : ∀ k, k ∉ lA → su (su σ 49 0 a) 50 0 b k = σ k := fun k m => by rw [su_k (by intro e; subst e; exact m (by decide)), su_k (by intro e; subst e; exact m (by decide))]
    have hk2 : ∀ k ∈ [48, 44, 45, 46, 47], su (su σ 49 0 a) 50 0 b k = σ k := fun k m => by rw [su_k (by intro e; subst e; revert m; decide), su_k (by intro e; subst e; revert m; decide)]
    exact frm h (fun k m => hk k ((by decide : ∀ k ∈ oS, k ∉ lA) k m)) (fun hJ => JI_l hJ hk (by unfold lok; rw [hk2 _ (by decide)]; exact hJ.2.2.1) (fun x hx => Or.inl (by rw [ln_k hk2] at hx; exact hx)))
  · by_cases e : w = 6
    · subst e
      rw [if_pos rfl]
      exact mone_ok hN h hc
    · rw [if_neg e]
      exact wone_ok h (by omega)

