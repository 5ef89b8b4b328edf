theorem v_D_worked_111 {l : Launch} {ad : Nat → Nat} {D : va_G} {cA : Nat → ClassId} {WW : Nat → qP} {QR : Option qA → qS → Prop} (S : qSnd l rm_D_worked ad D cA R_D b_D_worked 8 WW) (Q : qRet (some .boolean) b_D_worked WW QR) (Cp : qCp R_D b_D_worked WW) (j nn : Int) (σ0 σB : qS) (h0 : P_D_worked j σ0) (L : List Pr) (hL : L.length ≤ 1000) (hpairs : σB 130 0 = L.length) (hB : F_dwk σ0 σB) (hrowB : row σB 122 123 0 L.length = srt L) (hdo : dout σ0 j = (match dred σ0 j L 0 (σ0 111 j).toNat with
    | none => none
    | some O => if 300 < O.length then none else some O))
    (hq : ∀ r σ', Q_D_worked j σ0 r σ' → QR (some (.inl r)) σ') :
    ∀ (m p : Nat) (pi md : Int) (O : List Pr) (σ : qS), m = (σ0 111 j).toNat - p → p ≤ (σ0 111 j).toNat → pi = p → md = (O.length : Nat) → F_rd σB σ → row σ 124 125 0 O.length = O → O.length ≤ 4 * (srt L).countP (fun x => decide (x.1 % σ0 111 j < (p : Int))) → dred σ0 j L 0 (σ0 111 j).toNat = (dred σ0 j L p m).map (fun b => O ++ b) →
      WW 111 [] [some (.inr (.inr 901)), some (.inl j), some (.inl nn), some (.inl md), some (.inl pi), none, none, none] σ := by
  have hsl : (srt L).length = L.length := SS_len (srt_SS L)
  have hj8 := h0.1.1
  have hpa := h0.2.2.1
  intro m
  induction m with
  | zero =>
    intro p pi md O σ hm hp hpi hmd hF hrow hb hd
    refine s_D_worked_111 S Q Cp _ _ _ ?_
    simp only [k_D_worked_0, k_D_worked_20, k_D_worked_24, k_D_worked_35, k_D_worked_47, k_D_worked_53, k_D_worked_72, k_D_worked_74, k_D_worked_80, k_D_worked_90, k_D_worked_92, k_D_worked_111, k_D_worked_122, k_D_worked_125, k_D_worked_134, k_D_worked_138, k_D_worked_147, k_D_worked_165, k_D_worked_171, k_D_worked_195, k_D_worked_224, k_D_worked_226, k_D_worked_229, k_D_worked_238, k_D_worked_273, k_D_worked_280, k_D_worked_286, k_D_worked_293, k_D_worked_295, oc_D_call, oc_D_mapped, oc_D_sort, oc_J_floorMod, oc_J_min, o_cpl, o_c, o_il, o_ll, o_al, o_is, o_as, o_ls, o_inc, o_bi, o_bid, o_bl, o_bld, o_sl, o_i2l, o_l2i, o_dup, o_dup2, o_pop, o_pop2, o_if, o_i2, o_l2, swg, o_sw, o_gI, o_gZ, o_gJ, o_gA, o_gR, o_pI, o_pZ, o_pJ, o_pR, o_ia, o_iak, o_zak, o_ja, o_jak, o_is_, o_isk, o_zsk, o_js_, o_jsk, o_len, o_ri, o_rz, o_rl, o_rv, ls1, ls2, lks, lkj, List.getD_cons_zero, List.getD_cons_succ, List.set_cons_zero, List.set_cons_succ, qcat, true_and, and_true, List.map_nil, List.map_cons, List.sum_nil, List.sum_cons, Nat.reduceAdd, Nat.reduceLeDiff, Nat.zero_le, Int.reduceAdd, Int.reduceNeg, Int.reduceEq, or_true, true_or, Decidable.not_not, false_implies, not_false_eq_true, true_implies, not_true_eq_false, Int.reduceLT, Int.reduceLE]
    rw [show σ 111 = σ0 111 from (hF _ (by decide)).trans (hB _ (by decide))]
    refine ⟨hj8, fun _ => ?_, fun h => by omega⟩
    rw [hmd]
    have hc : (srt L).countP (fun x => decide (x.1 % σ0 111 j < (p : Int))) ≤ (srt L).length := List.countP_le_length
    refine v_D_worked_286 S Q Cp j nn pi σ0 σ h0 O (by omega) (hB.tr hF.wk) hrow ?_ hq
    rw [hdo, hd]
    simp [dred, ocat]
  | succ m ih =>
    intro p pi md O σ hm hp hpi hmd hF hrow hb hd
    refine s_D_worked_111 S Q Cp _ _ _ ?_
    simp only [k_D_worked_0, k_D_worked_20, k_D_worked_24, k_D_worked_35, k_D_worked_47, k_D_worked_53, k_D_worked_72, k_D_worked_74, k_D_worked_80, k_D_worked_90, k_D_worked_92, k_D_worked_111, k_D_worked_122, k_D_worked_125, k_D_worked_134, k_D_worked_138, k_D_worked_147, k_D_worked_165, k_D_worked_171, k_D_worked_195, k_D_worked_224, k_D_worked_226, k_D_worked_229, k_D_worked_238, k_D_worked_273, k_D_worked_280, k_D_worked_286, k_D_worked_293, k_D_worked_295, oc_D_call, oc_D_mapped, oc_D_sort, oc_J_floorMod, oc_J_min, o_cpl, o_c, o_il, o_ll, o_al, o_is, o_as, o_ls, o_inc, o_bi, o_bid, o_bl, o_bld, o_sl, o_i2l, o_l2i, o_dup, o_dup2, o_pop, o_pop2, o_if, o_i2, o_l2, swg, o_sw, o_gI, o_gZ, o_gJ, o_gA, o_gR, o_pI, o_pZ, o_pJ, o_pR, o_ia, o_iak, o_zak, o_ja, o_jak, o_is_, o_isk, o_zsk, o_js_, o_jsk, o_len, o_ri, o_rz, o_rl, o_rv, ls1, ls2, lks, lkj, List.getD_cons_zero, List.getD_cons_succ, List.set_cons_zero, List.set_cons_succ, qcat, true_and, and_true, List.map_nil, List.map_cons, List.sum_nil, List.sum_cons, Nat.reduceAdd, Nat.reduceLeDiff, Nat.zero_le, Int.reduceAdd, Int.reduceNeg, Int.reduceEq, or_true, true_or, Decidable.not_not, false_implies, not_false_eq_true, true_implies, not_true_eq_false, Int.reduceLT, Int.reduceLE]
    rw [show σ 111 = σ0 111 from (hF _ (by decide)).trans (hB _ (by decide))]
    refine ⟨hj8, fun h => by omega, fun _ => ?_⟩
    have hN := cn_next (σ0 111 j) p (by omega) (srt L)
    have hc : (srt L).countP (fun x => decide (x.1 % σ0 111 j < ((p + 1 : Nat) : Int))) ≤ (srt L).length := List.countP_le_length
    rw [dred_s] at hd
    rw [hpi]
    refine v_D_worked_125 S Q Cp j nn p σ0 σB h0 L O hL hpairs hB hrowB (by omega) (by omega) (fun hn => by rw [hdo, hd, hn]; rfl) hq (fun O2 σ2 md2 p1 k1 k2 k3 k4 k5 k6 => ?_) L.length 0 0 md [] σ (by omega) (by omega) rfl (by rw [List.append_nil]; exact hmd) hF (by rw [List.append_nil]; exact hrow) (by rw [List.append_nil]; simp; exact hb) ?_
    · refine ih (p + 1) p1 md2 (O ++ O2) σ2 (by omega) (by omega) (by omega) k3 k2 k5 (by omega) ?_
      rw [hd, k1]
      simp only [Option.bind_some, Option.map_map]
      congr 1
      funext b
      simp [List.append_assoc]
    · unfold dpar
      rw [← hrowB]
      simp
theorem v_D_worked_80 {l : Launch} {ad : Nat → Nat} {D : va_G} {cA : Nat → ClassId} {WW : Nat → qP} {QR : Option qA → qS → Prop} (S : qSnd l rm_D_worked ad D cA R_D b_D_worked 8 WW) (Q : qRet (some .boolean) b_D_worked WW QR) (Cp : qCp R_D b_D_worked WW) (j nn s : Int) (σ0 σ : qS) (h0 : P_D_worked j σ0) (L : List Pr) (hL : L.length ≤ 100000) (hP : PL σ L) (hF : F_dmp σ0 σ) (hd : dprs σ0 j = some L) (hq : ∀ r σ', Q_D_worked j σ0 r σ' → QR (some (.inl r)) σ') :
    WW 80 [] [some (.inr (.inr 901)), some (.inl j), some (.inl nn), some (.inl 0), some (.inl s), none, none, none] σ := by
  refine s_D_worked_80 S Q Cp _ _ _ ?_
  simp only [k_D_worked_0, k_D_worked_20, k_D_worked_24, k_D_worked_35, k_D_worked_47, k_D_worked_53, k_D_worked_72, k_D_worked_74, k_D_worked_80, k_D_worked_90, k_D_worked_92, k_D_worked_111, k_D_worked_122, k_D_worked_125, k_D_worked_134, k_D_worked_138, k_D_worked_147, k_D_worked_165, k_D_worked_171, k_D_worked_195, k_D_worked_224, k_D_worked_226, k_D_worked_229, k_D_worked_238, k_D_worked_273, k_D_worked_280, k_D_worked_286, k_D_worked_293, k_D_worked_295, oc_D_call, oc_D_mapped, oc_D_sort, oc_J_floorMod, oc_J_min, o_cpl, o_c, o_il, o_ll, o_al, o_is, o_as, o_ls, o_inc, o_bi, o_bid, o_bl, o_bld, o_sl, o_i2l, o_l2i, o_dup, o_dup2, o_pop, o_pop2, o_if, o_i2, o_l2, swg, o_sw, o_gI, o_gZ, o_gJ, o_gA, o_gR, o_pI, o_pZ, o_pJ, o_pR, o_ia, o_iak, o_zak, o_ja, o_jak, o_is_, o_isk, o_zsk, o_js_, o_jsk, o_len, o_ri, o_rz, o_rl, o_rv, ls1, ls2, lks, lkj, List.getD_cons_zero, List.getD_cons_succ, List.set_cons_zero, List.set_cons_succ, qcat, true_and, and_true, List.map_nil, List.map_cons, List.sum_nil, List.sum_cons, Nat.reduceAdd, Nat.reduceLeDiff, Nat.zero_le, Int.reduceAdd, Int.reduceNeg, Int.reduceEq, or_true, true_or, Decidable.not_not, false_implies, not_false_eq_true, true_implies, not_true_eq_false, Int.reduceLT, Int.reduceLE]
  rw [hP.1]
  refine ⟨fun hle => ⟨⟨⟨by decide, by decide, by decide, by decide, by decide⟩, by omega, by rw [show qln 122 = 4000 by decide]; omega, by rw [show qln 123 = 4000 by decide]; omega⟩, fun σ1 s1 => ?_⟩, fun hgt => hq _ _ ?_⟩
  · obtain ⟨s1, s2, s3⟩ := s1
    rw [show ((L.length : Int) - 0).toNat = L.length by omega, PL_row hP (by omega)] at s3
    have FB : F_dwk σ0 σ1 := hF.wk.tr (fun q hq => s1 q (fun e => hq (by subst e; decide)) (fun e => hq (by subst e; decide)))
    refine v_D_worked_111 S Q Cp j nn σ0 σ1 h0 L (by omega) (by rw [s1 130 (by decide) (by decide)]; exact hP.1) FB s3 ?_ hq _ 0 0 0 [] σ1 rfl (by omega) rfl rfl (fun _ _ => rfl) rfl (by simp) (by simp)
    unfold dout
    rw [hd]
    simp only [if_neg (show ¬ 1000 < L.length by omega)]
    cases dred σ0 j L 0 (σ0 111 j).toNat <;> rfl
  · unfold Q_D_worked dout
    rw [hd]
    simp only [if_pos (show 1000 < L.length by omega)]
    exact ⟨trivial, hF.wk⟩
theorem v_D_worked_47 {l : Launch} {ad : Nat → Nat} {D : va_G} {cA : Nat → ClassId} {WW : Nat → qP} {QR : Option qA → qS → Prop} (S : qSnd l rm_D_worked ad D cA R_D b_D_worked 8 WW) (Q : qRet (some .boolean) b_D_worked WW QR) (Cp : qCp R_D b_D_worked WW) (j nn : Int) (σ0 : qS) (h0 : P_D_worked j σ0) (hn : nn = dall σ0 j) (hq : ∀ r σ', Q_D_worked j σ0 r σ' → QR (some (.inl r)) σ') :
    ∀ (m : Nat) (s : Int) (L : List Pr) (σ : qS), m = ((dall σ0 j - s + 15) / 16).toNat → (0 ≤ s ∧ s ≤ 700) → F_dmp σ0 σ → PL σ L → (L.length : Int) ≤ 16 * s → dprs σ0 j = (ocat (dsps σ0 j s m)).map (fun b => L ++ b) →
      WW 47 [] [some (.inr (.inr 901)), some (.inl j), some (.inl nn), some (.inl 0), some (.inl s), none, none, none] σ := by
  have hj8 := h0.1.1
  have hdl : 0 ≤ dall σ0 j ∧ dall σ0 j ≤ 600 := by
    have hj := h0.1
    unfold dall
    have := hj.2.2.2 _ hj.2.1.1 hj.2.1.2
    split
    · omega
    · have := hj.2.2.2 (σ0 109 j) (by omega) hj.2.2.1.2
      omega
  intro m
  induction m with
  | zero =>
    intro s L σ hm hs hF hP hl hd
    refine s_D_worked_47 S Q Cp _ _ _ ?_
    simp only [k_D_worked_0, k_D_worked_20, k_D_worked_24, k_D_worked_35, k_D_worked_47, k_D_worked_53, k_D_worked_72, k_D_worked_74, k_D_worked_80, k_D_worked_90, k_D_worked_92, k_D_worked_111, k_D_worked_122, k_D_worked_125, k_D_worked_134, k_D_worked_138, k_D_worked_147, k_D_worked_165, k_D_worked_171, k_D_worked_195, k_D_worked_224, k_D_worked_226, k_D_worked_229, k_D_worked_238, k_D_worked_273, k_D_worked_280, k_D_worked_286, k_D_worked_293, k_D_worked_295, oc_D_call, oc_D_mapped, oc_D_sort, oc_J_floorMod, oc_J_min, o_cpl, o_c, o_il, o_ll, o_al, o_is, o_as, o_ls, o_inc, o_bi, o_bid, o_bl, o_bld, o_sl, o_i2l, o_l2i, o_dup, o_dup2, o_pop, o_pop2, o_if, o_i2, o_l2, swg, o_sw, o_gI, o_gZ, o_gJ, o_gA, o_gR, o_pI, o_pZ, o_pJ, o_pR, o_ia, o_iak, o_zak, o_ja, o_jak, o_is_, o_isk, o_zsk, o_js_, o_jsk, o_len, o_ri, o_rz, o_rl, o_rv, ls1, ls2, lks, lkj, List.getD_cons_zero, List.getD_cons_succ, List.set_cons_zero, List.set_cons_succ, qcat, true_and, and_true, List.map_nil, List.map_cons, List.sum_nil, List.sum_cons, Nat.reduceAdd, Nat.reduceLeDiff, Nat.zero_le, Int.reduceAdd, Int.reduceNeg, Int.reduceEq, or_true, true_or, Decidable.not_not, false_implies, not_false_eq_true, true_implies, not_true_eq_false, Int.reduceLT, Int.reduceLE]
    refine ⟨fun _ => ?_, fun h => by omega⟩
    exact v_D_worked_80 S Q Cp j nn s σ0 σ h0 L (by omega) hP hF (by rw [hd]; simp [dsps, ocat]) hq
  | succ m ih =>
    intro s L σ hm hs hF hP hl hd
    have ez : z_add s 16 = s + 16 := by unfold z_add; exact w32_i _ (by omega) (by omega)
    refine s_D_worked_47 S Q Cp _ _ _ ?_
    simp only [k_D_worked_0, k_D_worked_20, k_D_worked_24, k_D_worked_35, k_D_worked_47, k_D_worked_53, k_D_worked_72, k_D_worked_74, k_D_worked_80, k_D_worked_90, k_D_worked_92, k_D_worked_111, k_D_worked_122, k_D_worked_125, k_D_worked_134, k_D_worked_138, k_D_worked_147, k_D_worked_165, k_D_worked_171, k_D_worked_195, k_D_worked_224, k_D_worked_226, k_D_worked_229, k_D_worked_238, k_D_worked_273, k_D_worked_280, k_D_worked_286, k_D_worked_293, k_D_worked_295, oc_D_call, oc_D_mapped, oc_D_sort, oc_J_floorMod, oc_J_min, o_cpl, o_c, o_il, o_ll, o_al, o_is, o_as, o_ls, o_inc, o_bi, o_bid, o_bl, o_bld, o_sl, o_i2l, o_l2i, o_dup, o_dup2, o_pop, o_pop2, o_if, o_i2, o_l2, swg, o_sw, o_gI, o_gZ, o_gJ, o_gA, o_gR, o_pI, o_pZ, o_pJ, o_pR, o_ia, o_iak, o_zak, o_ja, o_jak, o_is_, o_isk, o_zsk, o_js_, o_jsk, o_len, o_ri, o_rz, o_rl, o_rv, ls1, ls2, lks, lkj, List.getD_cons_zero, List.getD_cons_succ, List.set_cons_zero, List.set_cons_succ, qcat, true_and, and_true, List.map_nil, List.map_cons, List.sum_nil, List.sum_cons, Nat.reduceAdd, Nat.reduceLeDiff, Nat.zero_le, Int.reduceAdd, Int.reduceNeg, Int.reduceEq, or_true, true_or, Decidable.not_not, false_implies, not_false_eq_true, true_implies, not_true_eq_false, Int.reduceLT, Int.reduceLE]
    rw [ez, w32_i (s + 16) (by omega) (by omega)]
    refine ⟨fun h => by omega, fun _ => ⟨trivial, fun r σ1 q1 => ?_⟩⟩
    obtain ⟨e9, hr⟩ := q1
    replace e9 := e9.symm
    subst e9
    have hk := djbk_keep h0.1 (hF 102 (by decide)) (hF 108 (by decide)) (hF 109 (by decide))
    have hr2 : s ≤ r ∧ r ≤ s + 16 ∧ r ≤ dall σ0 j := by rw [hr, hn]; split <;> omega
    refine ⟨⟨hk.1, dprok_keep h0.2.1.1 (hF _ (by decide)) (hF _ (by decide)) (hF _ (by decide)), dprok_keep h0.2.1.2.1 (hF _ (by decide)) (hF _ (by decide)) (hF _ (by decide)), ⟨by omega, by omega, by omega, by rw [hk.2]; omega⟩, L, hP, by omega⟩, fun x σ2 q2 => ?_⟩
    obtain ⟨m1, m2⟩ := q2
    rw [dspl_keep (hF _ (by decide)) (hF _ (by decide)) (hF _ (by decide)) (hF _ (by decide)) (hF _ (by decide)) (hF _ (by decide)) (hF _ (by decide)) (hF _ (by decide))] at m2
    rw [dsps_s, show (if dall σ0 j ≤ s + 16 then dall σ0 j else s + 16) = r by rw [hr, hn]] at hd
    cases hs1 : dspl σ0 j s r with
    | none =>
      rw [hs1] at m2 hd
      have hx : x = 0 := m2
      refine ⟨fun h => absurd hx h, fun _ => hq 0 σ2 ?_⟩
      unfold Q_D_worked dout
      rw [hd]
      exact ⟨rfl, (hF.tr m1).wk⟩
    | some out =>
      rw [hs1] at m2 hd
      obtain ⟨hx, ho, hP2⟩ : x = 1 ∧ out.length ≤ 256 ∧ ∀ L, PL σ L → L.length ≤ 100000 → PL σ2 (L ++ out) := m2
      refine ⟨fun _ => ?_, fun h => by omega⟩
      refine ih (s + 16) (L ++ out) σ2 (by omega) (by omega) (hF.tr m1) (hP2 L hP (by omega)) (by rw [List.length_append]; omega) ?_
      rw [hd]
      simp only [ocat, Option.map_map]
      congr 1
      funext b
      simp [List.append_assoc]
theorem w_D_worked {l : Launch} {ad : Nat → Nat} {D : va_G} {cA : Nat → ClassId} {WW : Nat → qP} {QR : Option qA → qS → Prop} (S : qSnd l rm_D_worked ad D cA R_D b_D_worked 8 WW) (Q : qRet (some .boolean) b_D_worked WW QR) (Cp : qCp R_D b_D_worked WW) (a1 : Int) (σ : qS) (ha1 : r32 a1) (hσ : qoS σ) (h : P_D_worked a1 σ) (hq : ∀ (r : Int) σ', Q_D_worked a1 σ r σ' → QR (some (.inl r)) σ') : WW 0 [] [some (.inr (.inr 901)), some (.inl a1), none, none, none, none, none, none] σ := by
  obtain ⟨hj, hpr, hpa, hou⟩ := h
  have sz := hj.2.2.2 _ hj.2.1.1 hj.2.1.2
  have go : ∀ nn, nn = dall σ a1 → WW 47 [] [some (.inr (.inr 901)), some (.inl a1), some (.inl nn), some (.inl 0), some (.inl 0), none, none, none] (su σ 130 0 0) := by
    intro nn hn
    refine v_D_worked_47 S Q Cp a1 nn σ ⟨hj, hpr, hpa, hou⟩ hn hq _ 0 [] _ rfl (by omega) (fun q hq => su_k (by intro e; subst e; exact hq (by decide))) ⟨su_s, fun i e hi => by simp at hi⟩ (by simp) ?_
    unfold dprs
    rw [Int.sub_zero]
    simp
  refine s_D_worked_0 S Q Cp _ _ _ ?_
  simp only [k_D_worked_0, k_D_worked_20, k_D_worked_24, k_D_worked_35, k_D_worked_47, k_D_worked_53, k_D_worked_72, k_D_worked_74, k_D_worked_80, k_D_worked_90, k_D_worked_92, k_D_worked_111, k_D_worked_122, k_D_worked_125, k_D_worked_134, k_D_worked_138, k_D_worked_147, k_D_worked_165, k_D_worked_171, k_D_worked_195, k_D_worked_224, k_D_worked_226, k_D_worked_229, k_D_worked_238, k_D_worked_273, k_D_worked_280, k_D_worked_286, k_D_worked_293, k_D_worked_295, oc_D_call, oc_D_mapped, oc_D_sort, oc_J_floorMod, oc_J_min, o_cpl, o_c, o_il, o_ll, o_al, o_is, o_as, o_ls, o_inc, o_bi, o_bid, o_bl, o_bld, o_sl, o_i2l, o_l2i, o_dup, o_dup2, o_pop, o_pop2, o_if, o_i2, o_l2, swg, o_sw, o_gI, o_gZ, o_gJ, o_gA, o_gR, o_pI, o_pZ, o_pJ, o_pR, o_ia, o_iak, o_zak, o_ja, o_jak, o_is_, o_isk, o_zsk, o_js_, o_jsk, o_len, o_ri, o_rz, o_rl, o_rv, ls1, ls2, lks, lkj, List.getD_cons_zero, List.getD_cons_succ, List.set_cons_zero, List.set_cons_succ, qcat, true_and, and_true, List.map_nil, List.map_cons, List.sum_nil, List.sum_cons, Nat.reduceAdd, Nat.reduceLeDiff, Nat.zero_le, Int.reduceAdd, Int.reduceNeg, Int.reduceEq, or_true, true_or, Decidable.not_not, false_implies, not_false_eq_true, true_implies, not_true_eq_false, Int.reduceLT, Int.reduceLE]
  refine ⟨hj.1, hj.2.1, hj.1, fun h2 => ⟨hj.1, ⟨h2, hj.2.2.1.2⟩, go _ ?_⟩, fun h2 => go _ ?_⟩
  · have := hj.2.2.2 (σ 109 a1) h2 hj.2.2.1.2
    unfold dall z_add
    rw [if_neg (by omega), w32_i _ (by omega) (by omega)]
  · unfold dall z_add
    rw [if_pos (by omega), w32_i _ (by omega) (by omega)]
theorem c_D_worked (l : Launch) (ad : Nat → Nat) (D : va_G) (cA : Nat → ClassId) : qC l ad D cA y_D_worked (Cond.code y_D_worked b_D_worked 8 (some .boolean) :: lw_g) rm_D_worked pre_D_worked post_D_worked := by
  refine qC_of2 (own := R_D) (by decide) rfl ⟨rfl, rfl⟩ (by decide +kernel) ?_ ?_
  · intro av σ h; unfold pre_D_worked at h; split at h
    · simp [qen]
    · exact h.elim
  · intro WW QR S Q Cp av σ hav hσ h hq; unfold pre_D_worked at h; split at h
    next o a1 =>
      obtain ⟨rfl, h⟩ := h
      exact w_D_worked S Q Cp a1 σ (hav _ (List.mem_of_getElem? (i := 1) rfl)) hσ h (fun r σ' h' => hq _ σ' h')
    next => exact h.elim

