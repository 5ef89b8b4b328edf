theorem v_D_call_41 {l : Launch} {ad : Nat → Nat} {D : va_G} {cA : Nat → ClassId} {WW : Nat → qP} {QR : Option qA → qS → Prop} (S : qSnd l rm_D_call ad D cA R_D b_D_call 21 WW) (Q : qRet (some .boolean) b_D_call WW QR) (p mp cb key : Int) (rv : Nat) (fr to : Int) (σ0 : qS) (h0 : P_D_call p mp cb key rv fr to σ0) (res : Option (List Pr)) (hq : ∀ (r : Int) σ', F_dcl σ0 σ' → resD res r σ' → QR (some (.inl r)) σ') :
    ∀ (n : Nat) (at_ nx : Int) (l : List Int) (c : Int → Int) (em : List Pr) (σ : qS), n ≤ 400 → F_dcl σ0 σ → (0 ≤ at_ ∧ at_ ≤ σ0 104 p) → (fr ≤ nx ∧ nx ≤ to) → DR σ l c em → res = lrun (dprg σ0 p) (dwhat mp cb) key n at_ l c (vls (σ0 rv) nx (to - nx).toNat) em →
      WW 41 [] (dLs p mp cb key rv fr to l.length at_ nx (400 - n) [none, none, none, none, none, none, none, none]) σ := by
  obtain ⟨⟨hp, hlen, hprog⟩, hmc, hrv, hft⟩ := h0
  have hw0 : dwhat mp cb = 0 ↔ mp ≠ 0 := by unfold dwhat; obtain ⟨m1, m2, m3⟩ := hmc; rcases m1 with rfl | rfl <;> rcases m2 with rfl | rfl <;> simp at m3 ⊢
  have hw1 : dwhat mp cb = 1 ↔ cb ≠ 0 := by unfold dwhat; obtain ⟨m1, m2, m3⟩ := hmc; rcases m1 with rfl | rfl <;> rcases m2 with rfl | rfl <;> simp at m3 ⊢
  have qv : rv ∈ qar ∧ qty rv = 1 := by
    simp only [List.mem_cons, List.not_mem_nil, or_false] at hrv
    rcases hrv with rfl | rfl | rfl <;> exact ⟨by decide, by decide⟩
  have hto : to < 2000000000 := by
    simp only [List.mem_cons, List.not_mem_nil, or_false] at hrv
    have : qln rv ≤ 4800 := by rcases hrv with rfl | rfl | rfl <;> decide
    omega
  have hvn : ∀ nx : Int, nx ≤ to → (vls (σ0 rv) nx (to - nx).toNat ≠ [] ↔ nx < to) := by
    intro nx _
    unfold vls
    simp
  intro n
  induction n with
  | zero =>
    intro at_ nx l c em σ hn hF hat hnx hd hres
    have eL : σ 104 = σ0 104 := hF _ (by decide)
    unfold dLs
    refine s_D_call_41 S Q _ _ _ ?_
    simp only [k_D_call_0, k_D_call_18, k_D_call_24, k_D_call_38, k_D_call_41, k_D_call_52, k_D_call_60, k_D_call_62, k_D_call_90, k_D_call_97, k_D_call_104, k_D_call_111, k_D_call_118, k_D_call_122, k_D_call_126, k_D_call_132, k_D_call_139, k_D_call_146, k_D_call_153, k_D_call_160, k_D_call_164, k_D_call_165, k_D_call_167, k_D_call_174, k_D_call_180, k_D_call_187, k_D_call_194, k_D_call_196, k_D_call_204, k_D_call_216, k_D_call_217, k_D_call_219, k_D_call_225, k_D_call_237, k_D_call_238, k_D_call_240, k_D_call_332, k_D_call_347, k_D_call_362, k_D_call_369, k_D_call_371, k_D_call_390, k_D_call_396, k_D_call_409, k_D_call_416, k_D_call_420, k_D_call_421, k_D_call_425, k_D_call_446, k_D_call_467, k_D_call_482, k_D_call_488, k_D_call_513, k_D_call_521, k_D_call_531, k_D_call_539, k_D_call_547, k_D_call_549, k_D_call_561, k_D_call_566, k_D_call_568, k_D_call_600, k_D_call_602, k_D_call_609, k_D_call_616, k_D_call_618, k_D_call_636, k_D_call_644, k_D_call_651, k_D_call_659, k_D_call_666, k_D_call_674, k_D_call_681, k_D_call_689, k_D_call_696, k_D_call_704, k_D_call_707, k_D_call_715, k_D_call_719, k_D_call_720, k_D_call_721, k_D_call_727, o_c, o_il, o_ll, o_al, o_is, o_as, o_ls, o_inc, o_bi, o_bid, o_bl, o_bld, o_sl, o_i2l, o_l2i, o_dup, o_dup2, o_pop, o_pop2, o_if, o_i2, o_l2, swg, o_sw, o_gI, o_gZ, o_gJ, o_gA, o_gR, o_pI, o_pZ, o_pJ, o_pR, o_ia, o_iak, o_zak, o_ja, o_jak, o_is_, o_isk, o_zsk, o_js_, o_jsk, o_len, o_ri, o_rz, o_rl, o_rv, ls1, ls2, lks, lkj, List.getD_cons_zero, List.getD_cons_succ, List.set_cons_zero, List.set_cons_succ, qcat, true_and, and_true, List.map_nil, List.map_cons, List.sum_nil, List.sum_cons, Nat.reduceAdd, Nat.reduceLeDiff, Nat.zero_le, Int.reduceAdd, Int.reduceNeg, Int.reduceEq, or_true, true_or, Decidable.not_not, false_implies, not_false_eq_true, true_implies, not_true_eq_false, Int.reduceLT, Int.reduceLE]
    rw [eL]
    refine ⟨hp, fun hle => hq 1 σ hF ?_, fun hle => ⟨fun h => absurd (by omega) h, fun _ => hq 0 σ hF ?_⟩⟩
    · rw [hres, lrun, if_pos (show (dprg σ0 p).2.2 ≤ at_ from hle)]; exact ⟨rfl, hd.2.2.2⟩
    · rw [hres, lrun, if_neg (show ¬ (dprg σ0 p).2.2 ≤ at_ from hle)]; rfl
  | succ n ih =>
    intro at_ nx l c em σ hn hF hat hnx hd hres
    have eL : σ 104 = σ0 104 := hF _ (by decide)
    have eO : σ 103 = σ0 103 := hF _ (by decide)
    have eA : σ 106 = σ0 106 := hF _ (by decide)
    have eV : σ rv = σ0 rv := by
      simp only [List.mem_cons, List.not_mem_nil, or_false] at hrv
      rcases hrv with rfl | rfl | rfl <;> exact hF _ (by decide)
    have nxt : ∀ (tp' at' nx' : Int) (t1 t2 t3 t4 t5 t6 t7 t8 : Option qA) (l' : List Int) (c' : Int → Int) (em' : List Pr) (σ' : qS), tp' = l'.length → F_dcl σ0 σ' → (0 ≤ at' ∧ at' ≤ σ0 104 p) → (fr ≤ nx' ∧ nx' ≤ to) → DR σ' l' c' em' → res = lrun (dprg σ0 p) (dwhat mp cb) key n at' l' c' (vls (σ0 rv) nx' (to - nx').toNat) em' →
        WW 721 [] (dLs p mp cb key rv fr to tp' at' nx' (400 - ((n + 1 : Nat) : Int)) [t1, t2, t3, t4, t5, t6, t7, t8]) σ' := by
      intro tp' at' nx' t1 t2 t3 t4 t5 t6 t7 t8 l' c' em' σ' e1 e2 e3 e4 e5 e6
      subst e1
      refine v_D_call_721 S Q _ _ _ _ _ _ _ _ _ _ _ _ _ _ _ _ _ _ _ _ (by omega) ?_
      rw [show 400 - ((n + 1 : Nat) : Int) + 1 = 400 - (n : Int) by omega]
      exact ih at' nx' l' c' em' σ' (by omega) e2 e3 e4 e5 e6
    clear ih
    unfold dLs
    refine s_D_call_41 S Q _ _ _ ?_
    simp only [k_D_call_0, k_D_call_18, k_D_call_24, k_D_call_38, k_D_call_41, k_D_call_52, k_D_call_60, k_D_call_62, k_D_call_90, k_D_call_97, k_D_call_104, k_D_call_111, k_D_call_118, k_D_call_122, k_D_call_126, k_D_call_132, k_D_call_139, k_D_call_146, k_D_call_153, k_D_call_160, k_D_call_164, k_D_call_165, k_D_call_167, k_D_call_174, k_D_call_180, k_D_call_187, k_D_call_194, k_D_call_196, k_D_call_204, k_D_call_216, k_D_call_217, k_D_call_219, k_D_call_225, k_D_call_237, k_D_call_238, k_D_call_240, k_D_call_332, k_D_call_347, k_D_call_362, k_D_call_369, k_D_call_371, k_D_call_390, k_D_call_396, k_D_call_409, k_D_call_416, k_D_call_420, k_D_call_421, k_D_call_425, k_D_call_446, k_D_call_467, k_D_call_482, k_D_call_488, k_D_call_513, k_D_call_521, k_D_call_531, k_D_call_539, k_D_call_547, k_D_call_549, k_D_call_561, k_D_call_566, k_D_call_568, k_D_call_600, k_D_call_602, k_D_call_609, k_D_call_616, k_D_call_618, k_D_call_636, k_D_call_644, k_D_call_651, k_D_call_659, k_D_call_666, k_D_call_674, k_D_call_681, k_D_call_689, k_D_call_696, k_D_call_704, k_D_call_707, k_D_call_715, k_D_call_719, k_D_call_720, k_D_call_721, k_D_call_727, o_c, o_il, o_ll, o_al, o_is, o_as, o_ls, o_inc, o_bi, o_bid, o_bl, o_bld, o_sl, o_i2l, o_l2i, o_dup, o_dup2, o_pop, o_pop2, o_if, o_i2, o_l2, swg, o_sw, o_gI, o_gZ, o_gJ, o_gA, o_gR, o_pI, o_pZ, o_pJ, o_pR, o_ia, o_iak, o_zak, o_ja, o_jak, o_is_, o_isk, o_zsk, o_js_, o_jsk, o_len, o_ri, o_rz, o_rl, o_rv, ls1, ls2, lks, lkj, List.getD_cons_zero, List.getD_cons_succ, List.set_cons_zero, List.set_cons_succ, qcat, true_and, and_true, List.map_nil, List.map_cons, List.sum_nil, List.sum_cons, Nat.reduceAdd, Nat.reduceLeDiff, Nat.zero_le, Int.reduceAdd, Int.reduceNeg, Int.reduceEq, or_true, true_or, Decidable.not_not, false_implies, not_false_eq_true, true_implies, not_true_eq_false, Int.reduceLT, Int.reduceLE]
    rw [eL]
    refine ⟨hp, fun hle => hq 1 σ hF ?_, fun hle => ⟨fun h => ?_, fun h => by omega⟩⟩
    · rw [hres, lrun_s]
      rw [if_pos (show (dprg σ0 p).2.2 ≤ at_ from hle)]; exact ⟨rfl, hd.2.2.2⟩
    have ez : z_add (z_mul 40 p) at_ = 40 * p + at_ := by unfold z_add z_mul; rw [w32_i (40 * p) (by omega) (by omega), w32_i _ (by omega) (by omega)]
    rw [ez, eO, eA]
    refine ⟨by omega, by omega, ?_⟩
    obtain ⟨g1, g2, g3⟩ := hprog at_ hat.1 (by omega)
    rw [lone_e (show ¬ (dprg σ0 p).2.2 ≤ at_ from hle)] at hres
    have ho' : (dprg σ0 p).1 at_ = σ0 103 (40 * p + at_) := rfl
    have ha' : (dprg σ0 p).2.1 at_ = σ0 106 (40 * p + at_) := rfl
    rw [ho', ha'] at hres
    clear hprog ho' ha' ez eL eO eA
    generalize σ0 103 (40 * p + at_) = o at hres g1 g2 g3 ⊢
    generalize σ0 106 (40 * p + at_) = a at hres g2 g3 ⊢
    have hl12 : l.length ≤ 12 := hd.1
    have hemn : em.length ≤ 4 := hd.2.2.2.2.1
    have heme : σ 131 0 = em.length := hd.2.2.2.1
    have fail : res = none → QR (some (.inl 0)) σ := fun e => hq 0 σ hF (by rw [e]; rfl)
    refine v_D_call_90b S Q p mp cb key rv fr to l.length at_ nx _ o a σ (by omega) (by omega) (fun h => fail (by rw [hres]; exact lone_lack g1 hw1 h)) (fun h => ?_)
    have hy : ∀ v t, l = v :: t → (if 0 < (l.length : Int) then σ 126 (l.length - 1) else 0) = v := by
      intro v t e
      subst e
      rw [if_pos (by simp only [List.length_cons]; omega), show (((v :: t).length : Int) - 1) = t.length by simp]
      exact (DR_pop hd).2
    have hx : ∀ v u t, l = v :: u :: t → (if 1 < (l.length : Int) then σ 126 (l.length - 2) else 0) = u := by
      intro v u t e
      subst e
      rw [if_pos (by simp only [List.length_cons]; omega), show (((v :: u :: t).length : Int) - 2) = t.length by simp; omega]
      exact (DR_pop (DR_pop hd).1).2
    generalize (if 0 < (l.length : Int) then σ 126 (l.length - 1) else 0) = y at hy ⊢
    generalize (if 1 < (l.length : Int) then σ 126 (l.length - 2) else 0) = x at hx ⊢
    have pushed : ∀ (v : Int) (t1 t2 t3 t4 t5 t6 t7 t8 : Option qA), l.length < 12 → res = lrun (dprg σ0 p) (dwhat mp cb) key n (at_ + 1) (v :: l) c (vls (σ0 rv) nx (to - nx).toNat) em → WW 721 [] (dLs p mp cb key rv fr to (l.length + 1) (at_ + 1) nx (400 - ((n + 1 : Nat) : Int)) [t1, t2, t3, t4, t5, t6, t7, t8]) (su σ 126 l.length v) := by
      intro v t1 t2 t3 t4 t5 t6 t7 t8 hl e
      exact nxt _ _ _ _ _ _ _ _ _ _ _ (v :: l) c em _ (by simp) (hF.up (by decide)) (by omega) hnx (DR_push v hd hl) e
    have hc : o = 0 ∨ o = 1 ∨ o = 2 ∨ o = 3 ∨ o = 4 ∨ o = 5 ∨ (6 ≤ o ∧ o ≤ 11) ∨ o = 12 ∨ o = 13 ∨ o = 14 ∨ o = 15 ∨ o = 16 ∨ o = 17 ∨ o = 18 := by omega
    rcases hc with rfl | rfl | rfl | rfl | rfl | rfl | h6 | rfl | rfl | rfl | rfl | rfl | rfl | rfl
    · have hl : l.length < 12 := by simp at h; omega
      exact v_D_call_240_0 S Q _ _ _ _ _ _ _ _ _ _ _ _ _ _ _ _ (by omega) (pushed _ _ _ _ _ _ _ _ _ hl (by rw [hres, lone_0, if_pos hl]))
    · have hl : l.length < 12 := by simp at h; omega
      exact v_D_call_240_1 S Q _ _ _ _ _ _ _ _ _ _ _ _ _ _ _ _ (by omega) (pushed _ _ _ _ _ _ _ _ _ hl (by rw [hres, lone_1, if_pos hl]))
    · have hl : l.length < 12 := by simp at h; omega
      refine v_D_call_240_2 S Q _ _ _ _ _ _ _ _ _ _ _ _ _ _ _ _ (by omega) qv (by omega) hto (fun e => fail ?_) (fun e => ?_)
      · rw [hres, lone_2, e]; simp [vls]
      · rw [eV]
        obtain ⟨m, hm⟩ : ∃ m, (to - nx).toNat = m + 1 := ⟨(to - nx).toNat - 1, by omega⟩
        rw [lone_2, hm, vls_s] at hres
        simp only [if_pos hl] at hres
        refine nxt _ _ _ _ _ _ _ _ _ _ _ (σ0 rv nx :: l) c em _ (by simp) (hF.up (by decide)) (by omega) (by split <;> omega) (DR_push _ hd hl) ?_
        rw [hres]
        by_cases hm0 : mp = 0
        · rw [if_pos hm0, if_neg (fun e => hw0.mp e hm0), show (to - (nx + 1)).toNat = m by omega]
        · rw [if_neg hm0, if_pos (hw0.mpr hm0), hm, vls_s]
    · have hl : l.length < 12 := by simp at h; omega
      refine v_D_call_240_3 S Q _ _ _ _ _ _ _ _ _ _ _ _ _ _ _ _ (by omega) (pushed _ _ _ _ _ _ _ _ _ hl ?_)
      rw [hres, lone_3, if_pos hl]
      have : (dwhat mp cb ≠ 0 ∧ vls (σ0 rv) nx (to - nx).toNat ≠ []) ↔ (mp = 0 ∧ nx < to) := by
        rw [hvn nx hnx.2, Ne, hw0]; simp
      simp only [this]
    · have hl : l.length < 12 := by simp at h; omega
      have ha := g2 (Or.inl rfl)
      refine v_D_call_240_4 S Q _ _ _ _ _ _ _ _ _ _ _ _ _ _ _ _ (by omega) ha (pushed _ _ _ _ _ _ _ _ _ hl ?_)
      rw [hres, lone_4, if_pos hl, hd.2.2.1 a (by omega) (by omega)]
    · cases l with
      | nil => simp [tks] at h
      | cons v t =>
        have ha := g2 (Or.inr rfl)
        obtain ⟨d1, d2⟩ := DR_pop hd
        simp only [List.length_cons] at hl12
        refine v_D_call_240_5 S Q _ _ _ _ _ _ _ _ _ _ _ _ _ _ _ _ (by simp; omega) ha ?_
        refine nxt _ _ _ _ _ _ _ _ _ _ _ t (fun i => if i = a then v else c i) em _ (by simp) (hF.up (by decide)) (by omega) hnx ?_ (by rw [hres, lone_5])
        refine ⟨d1.1, by rw [su_k (by decide)]; exact d1.2.1, fun i i0 i1 => ?_, ?_⟩
        · rw [su_e, show (((v :: t).length : Nat) : Int) - 1 = t.length by simp, d2]
          show _ = if i = a then v else c i
          by_cases e : i = a
          · rw [if_pos e, if_pos e]
          · rw [if_neg e, if_neg e]; exact d1.2.2.1 i i0 i1
        · unfold EmD; rw [su_k (by decide), su_k (by decide), su_k (by decide)]; exact d1.2.2.2
    · match l, h with
      | [], h => simp [tks, h6] at h
      | [_], h => simp [tks, h6] at h
      | v :: u :: t, h =>
        have ey := (hy _ _ rfl).symm
        have ex := (hx _ _ _ rfl).symm
        subst ey; subst ex
        rw [lone_6 h6, mcomp_d] at hres
        simp only [List.length_cons] at hl12
        refine v_D_call_240_6 S Q _ _ _ _ _ _ _ _ _ _ _ _ _ _ _ _ o h6 ?_
        refine v_D_call_602 S Q _ _ _ _ _ _ _ _ _ _ _ _ _ _ _ _ _ (by simp; omega) h6 (fun e => fail (by rw [hres, if_pos e])) (fun e => ?_)
        rw [if_neg e] at hres
        refine nxt _ _ _ _ _ _ _ _ _ _ _ (dcv o u v :: t) c em _ (by simp only [List.length_cons]; omega) (hF.up (by decide)) (by omega) hnx ?_ hres
        refine DR_st hd (by simp; omega) ?_
        rw [show (((v :: u :: t).length : Nat) : Int) - 2 = t.length by simp; omega]
        exact ⟨su_s, stk_up (n := t.length) (Int.le_refl _) (fun i hi => by rw [su_e, if_neg (by omega)]) hd.2.1.2.2⟩
    · cases l with
      | nil => simp [tks] at h
      | cons v t =>
        have ey := (hy _ _ rfl).symm
        subst ey
        have hl : (v :: t).length < 12 := by have h2 : ¬ (((v :: t).length : Int) = 12) := fun e => h (Or.inr ⟨Or.inr rfl, e⟩); omega
        refine v_D_call_240_12 S Q _ _ _ _ _ _ _ _ _ _ _ _ _ _ _ _ (by omega) (pushed _ _ _ _ _ _ _ _ _ hl ?_)
        simp only [List.length_cons] at hl
        rw [hres, lone_12]
        simp only [if_pos (show t.length < 11 by omega)]
    · cases l with
      | nil => simp [tks] at h
      | cons v t =>
        obtain ⟨d1, d2⟩ := DR_pop hd
        simp only [List.length_cons] at hl12
        refine v_D_call_240_13 S Q _ _ _ _ _ _ _ _ _ _ _ _ _ _ _ _ (by simp; omega) ?_
        exact nxt _ _ _ _ _ _ _ _ _ _ _ t c em _ (by simp) hF (by omega) hnx d1 (by rw [hres, lone_13])
    · match l, h with
      | [], h => simp [tks] at h
      | [_], h => simp [tks] at h
      | v :: u :: t, h =>
        have ey := (hy _ _ rfl).symm
        have ex := (hx _ _ _ rfl).symm
        subst ey; subst ex
        simp only [List.length_cons] at hl12
        refine v_D_call_240_14 S Q _ _ _ _ _ _ _ _ _ _ _ _ _ _ _ _ (by simp; omega) ?_
        rw [lone_14] at hres
        refine nxt _ _ _ _ _ _ _ _ _ _ _ (u :: v :: t) c em _ (by simp) ((hF.up (by decide)).up (by decide)) (by omega) hnx ?_ hres
        rw [show (((v :: u :: t).length : Nat) : Int) - 2 = t.length by simp; omega, show (((v :: u :: t).length : Nat) : Int) - 1 = t.length + 1 by simp only [List.length_cons]; omega]
        have d0 : DR (su σ 126 (t.length + 1) u) t c em := DR_st hd (by omega) (stk_up (n := t.length) (Int.le_refl _) (fun i hi => by rw [su_e, if_neg (by omega)]) hd.2.1.2.2)
        refine DR_st d0 (by simp; omega) ⟨?_, ?_, ?_⟩
        · show su (su σ 126 (t.length + 1) u) 126 t.length v 126 ((v :: t).length : Nat) = u
          rw [su_e, if_neg (by simp; omega), su_e, if_pos (by simp)]
        · exact su_s
        · exact stk_up (n := t.length) (Int.le_refl _) (fun i hi => by rw [su_e, if_neg (by omega)]) d0.2.1
    · have ha := g3 (Or.inl rfl)
      exact v_D_call_240_15 S Q _ _ _ _ _ _ _ _ _ _ _ _ _ _ _ _ (by omega) (nxt _ _ _ _ _ _ _ _ _ _ _ l c em _ rfl hF ha hnx hd (by rw [hres, lone_15]))
    · cases l with
      | nil => simp [tks] at h
      | cons v t =>
        have ha := g3 (Or.inr rfl)
        have ey := (hy _ _ rfl).symm
        subst ey
        obtain ⟨d1, d2⟩ := DR_pop hd
        simp only [List.length_cons] at hl12
        refine v_D_call_240_16 S Q _ _ _ _ _ _ _ _ _ _ _ _ _ _ _ _ (by simp; omega) (by omega) ?_
        exact nxt _ _ _ _ _ _ _ _ _ _ _ t c em _ (by simp) hF (by split <;> omega) hnx d1 (by rw [hres, lone_16])
    · rw [lone_17] at hres
      by_cases hcb : cb = 0
      · have ht : tks 17 cb = 2 := by unfold tks; rw [if_pos (by omega)]
        rw [ht] at h ⊢
        have hw : dwhat mp cb ≠ 1 := fun e => hw1.mp e hcb
        match l, h with
        | [], h => simp at h
        | [_], h => simp at h
        | v :: u :: t, h =>
          have ey := (hy _ _ rfl).symm
          have ex := (hx _ _ _ rfl).symm
          subst ey; subst ex
          simp only [List.length_cons] at hl12
          simp only [memit, if_neg hw] at hres
          refine v_D_call_240_17 S Q _ _ _ _ _ _ _ _ _ _ _ _ _ _ _ _ (by simp; omega) (by omega) (fun e => fail (by rw [hres, if_pos (by omega)])) (fun e => ?_)
          rw [if_neg (by omega)] at hres
          rw [heme, if_pos hcb]
          exact nxt _ _ _ _ _ _ _ _ _ _ _ t c _ _ (by simp; omega) (((hF.up (by decide)).up (by decide)).up (by decide)) (by omega) hnx (DR_em hd (by simp; omega) hd.2.1.2.2 (by omega)) hres
      · have ht : tks 17 cb = 1 := by unfold tks; rw [if_neg (by omega), if_pos (by omega)]
        rw [ht] at h ⊢
        have hw : dwhat mp cb = 1 := hw1.mpr hcb
        cases l with
        | nil => simp at h
        | cons v t =>
          have ey := (hy _ _ rfl).symm
          subst ey
          simp only [List.length_cons] at hl12
          simp only [memit, if_pos hw] at hres
          refine v_D_call_240_17 S Q _ _ _ _ _ _ _ _ _ _ _ _ _ _ _ _ (by simp; omega) (by omega) (fun e => fail (by rw [hres, if_pos (by omega)])) (fun e => ?_)
          rw [if_neg (by omega)] at hres
          rw [heme, if_neg hcb]
          exact nxt _ _ _ _ _ _ _ _ _ _ _ t c _ _ (by simp) (((hF.up (by decide)).up (by decide)).up (by decide)) (by omega) hnx (DR_em hd (by simp) hd.2.1.2 (by omega)) hres
    · exact v_D_call_240_18 S Q _ _ _ _ _ _ _ _ _ _ _ _ _ _ _ _ (hq 1 σ hF (by rw [hres, lone_18]; exact ⟨rfl, hd.2.2.2⟩))
theorem v_D_call_18 {l : Launch} {ad : Nat → Nat} {D : va_G} {cA : Nat → ClassId} {WW : Nat → qP} {QR : Option qA → qS → Prop} (S : qSnd l rm_D_call ad D cA R_D b_D_call 21 WW) (Q : qRet (some .boolean) b_D_call WW QR) (p mp cb key : Int) (rv : Nat) (fr to : Int) (σ0 : qS) (h0 : P_D_call p mp cb key rv fr to σ0) (hq : ∀ (r : Int) σ', F_dcl σ0 σ' → resD (lcall (dprg σ0 p) (dwhat mp cb) key (vls (σ0 rv) fr (to - fr).toNat)) r σ' → QR (some (.inl r)) σ') :
    ∀ (n : Nat) (c : Int) (σ : qS), n = (4 - c).toNat → (0 ≤ c ∧ c ≤ 4) → F_dcl σ0 σ → σ 131 0 = 0 → (∀ i, 0 ≤ i → i < c → σ 127 i = 0) →
      WW 18 [] (dLs p mp cb key rv fr to 0 0 fr c [none, none, none, none, none, none, none, none]) σ := by
  intro n
  induction n with
  | zero =>
    intro c σ hn hc hF he hz
    unfold dLs
    refine s_D_call_18 S Q _ _ _ ?_
    simp only [k_D_call_0, k_D_call_18, k_D_call_24, k_D_call_38, k_D_call_41, k_D_call_52, k_D_call_60, k_D_call_62, k_D_call_90, k_D_call_97, k_D_call_104, k_D_call_111, k_D_call_118, k_D_call_122, k_D_call_126, k_D_call_132, k_D_call_139, k_D_call_146, k_D_call_153, k_D_call_160, k_D_call_164, k_D_call_165, k_D_call_167, k_D_call_174, k_D_call_180, k_D_call_187, k_D_call_194, k_D_call_196, k_D_call_204, k_D_call_216, k_D_call_217, k_D_call_219, k_D_call_225, k_D_call_237, k_D_call_238, k_D_call_240, k_D_call_332, k_D_call_347, k_D_call_362, k_D_call_369, k_D_call_371, k_D_call_390, k_D_call_396, k_D_call_409, k_D_call_416, k_D_call_420, k_D_call_421, k_D_call_425, k_D_call_446, k_D_call_467, k_D_call_482, k_D_call_488, k_D_call_513, k_D_call_521, k_D_call_531, k_D_call_539, k_D_call_547, k_D_call_549, k_D_call_561, k_D_call_566, k_D_call_568, k_D_call_600, k_D_call_602, k_D_call_609, k_D_call_616, k_D_call_618, k_D_call_636, k_D_call_644, k_D_call_651, k_D_call_659, k_D_call_666, k_D_call_674, k_D_call_681, k_D_call_689, k_D_call_696, k_D_call_704, k_D_call_707, k_D_call_715, k_D_call_719, k_D_call_720, k_D_call_721, k_D_call_727, o_c, o_il, o_ll, o_al, o_is, o_as, o_ls, o_inc, o_bi, o_bid, o_bl, o_bld, o_sl, o_i2l, o_l2i, o_dup, o_dup2, o_pop, o_pop2, o_if, o_i2, o_l2, swg, o_sw, o_gI, o_gZ, o_gJ, o_gA, o_gR, o_pI, o_pZ, o_pJ, o_pR, o_ia, o_iak, o_zak, o_ja, o_jak, o_is_, o_isk, o_zsk, o_js_, o_jsk, o_len, o_ri, o_rz, o_rl, o_rv, ls1, ls2, lks, lkj, List.getD_cons_zero, List.getD_cons_succ, List.set_cons_zero, List.set_cons_succ, qcat, true_and, and_true, List.map_nil, List.map_cons, List.sum_nil, List.sum_cons, Nat.reduceAdd, Nat.reduceLeDiff, Nat.zero_le, Int.reduceAdd, Int.reduceNeg, Int.reduceEq, or_true, true_or, Decidable.not_not, false_implies, not_false_eq_true, true_implies, not_true_eq_false, Int.reduceLT, Int.reduceLE]
    have e : c = 4 := by omega
    subst e
    refine ⟨fun _ => ?_, fun h => by omega⟩
    exact v_D_call_41 S Q p mp cb key rv fr to σ0 h0 _ hq 400 0 fr [] (fun _ => 0) [] σ (by omega) hF ⟨by omega, h0.1.2.1.1⟩ ⟨by omega, h0.2.2.2.2.1⟩ ⟨by simp, trivial, hz, by rw [he]; rfl, by simp, fun i e hi => by simp at hi⟩ rfl
  | succ n ih =>
    intro c σ hn hc hF he hz
    unfold dLs
    refine s_D_call_18 S Q _ _ _ ?_
    simp only [k_D_call_0, k_D_call_18, k_D_call_24, k_D_call_38, k_D_call_41, k_D_call_52, k_D_call_60, k_D_call_62, k_D_call_90, k_D_call_97, k_D_call_104, k_D_call_111, k_D_call_118, k_D_call_122, k_D_call_126, k_D_call_132, k_D_call_139, k_D_call_146, k_D_call_153, k_D_call_160, k_D_call_164, k_D_call_165, k_D_call_167, k_D_call_174, k_D_call_180, k_D_call_187, k_D_call_194, k_D_call_196, k_D_call_204, k_D_call_216, k_D_call_217, k_D_call_219, k_D_call_225, k_D_call_237, k_D_call_238, k_D_call_240, k_D_call_332, k_D_call_347, k_D_call_362, k_D_call_369, k_D_call_371, k_D_call_390, k_D_call_396, k_D_call_409, k_D_call_416, k_D_call_420, k_D_call_421, k_D_call_425, k_D_call_446, k_D_call_467, k_D_call_482, k_D_call_488, k_D_call_513, k_D_call_521, k_D_call_531, k_D_call_539, k_D_call_547, k_D_call_549, k_D_call_561, k_D_call_566, k_D_call_568, k_D_call_600, k_D_call_602, k_D_call_609, k_D_call_616, k_D_call_618, k_D_call_636, k_D_call_644, k_D_call_651, k_D_call_659, k_D_call_666, k_D_call_674, k_D_call_681, k_D_call_689, k_D_call_696, k_D_call_704, k_D_call_707, k_D_call_715, k_D_call_719, k_D_call_720, k_D_call_721, k_D_call_727, o_c, o_il, o_ll, o_al, o_is, o_as, o_ls, o_inc, o_bi, o_bid, o_bl, o_bld, o_sl, o_i2l, o_l2i, o_dup, o_dup2, o_pop, o_pop2, o_if, o_i2, o_l2, swg, o_sw, o_gI, o_gZ, o_gJ, o_gA, o_gR, o_pI, o_pZ, o_pJ, o_pR, o_ia, o_iak, o_zak, o_ja, o_jak, o_is_, o_isk, o_zsk, o_js_, o_jsk, o_len, o_ri, o_rz, o_rl, o_rv, ls1, ls2, lks, lkj, List.getD_cons_zero, List.getD_cons_succ, List.set_cons_zero, List.set_cons_succ, qcat, true_and, and_true, List.map_nil, List.map_cons, List.sum_nil, List.sum_cons, Nat.reduceAdd, Nat.reduceLeDiff, Nat.zero_le, Int.reduceAdd, Int.reduceNeg, Int.reduceEq, or_true, true_or, Decidable.not_not, false_implies, not_false_eq_true, true_implies, not_true_eq_false, Int.reduceLT, Int.reduceLE]
    rw [w32_i _ (by omega) (by omega)]
    refine ⟨fun h => by omega, fun h => ⟨by omega, ?_⟩⟩
    refine ih (c + 1) _ (by omega) (by omega) (hF.up (by decide)) (by rw [su_k (by decide)]; exact he) (fun i i0 i1 => ?_)
    rw [su_e]
    by_cases e : i = c
    · rw [if_pos e]
    · rw [if_neg e]; exact hz i i0 (by omega)
theorem w_D_call {l : Launch} {ad : Nat → Nat} {D : va_G} {cA : Nat → ClassId} {WW : Nat → qP} {QR : Option qA → qS → Prop} (S : qSnd l rm_D_call ad D cA R_D b_D_call 21 WW) (Q : qRet (some .boolean) b_D_call WW QR) (a1 : Int) (a2 : Int) (a3 : Int) (a4 : Int) (a5 : Nat) (a6 : Int) (a7 : Int) (σ : qS) (ha1 : r32 a1) (ha2 : r32 a2) (ha3 : r32 a3) (ha4 : r64 a4) (ha6 : r32 a6) (ha7 : r32 a7) (hσ : qoS σ) (h : P_D_call a1 a2 a3 a4 a5 a6 a7 σ) (hq : ∀ (r : Int) σ', Q_D_call a1 a2 a3 a4 a5 a6 a7 σ r σ' → QR (some (.inl r)) σ') : WW 0 [] [some (.inr (.inr 901)), some (.inl a1), some (.inl a2), some (.inl a3), some (.inr (.inl a4)), none, some (.inr (.inr a5)), some (.inl a6), some (.inl a7), none, none, none, none, none, none, none, none, none, none, none, none] σ := by
  refine s_D_call_0 S Q _ _ _ ?_
  simp only [k_D_call_0, k_D_call_18, k_D_call_24, k_D_call_38, k_D_call_41, k_D_call_52, k_D_call_60, k_D_call_62, k_D_call_90, k_D_call_97, k_D_call_104, k_D_call_111, k_D_call_118, k_D_call_122, k_D_call_126, k_D_call_132, k_D_call_139, k_D_call_146, k_D_call_153, k_D_call_160, k_D_call_164, k_D_call_165, k_D_call_167, k_D_call_174, k_D_call_180, k_D_call_187, k_D_call_194, k_D_call_196, k_D_call_204, k_D_call_216, k_D_call_217, k_D_call_219, k_D_call_225, k_D_call_237, k_D_call_238, k_D_call_240, k_D_call_332, k_D_call_347, k_D_call_362, k_D_call_369, k_D_call_371, k_D_call_390, k_D_call_396, k_D_call_409, k_D_call_416, k_D_call_420, k_D_call_421, k_D_call_425, k_D_call_446, k_D_call_467, k_D_call_482, k_D_call_488, k_D_call_513, k_D_call_521, k_D_call_531, k_D_call_539, k_D_call_547, k_D_call_549, k_D_call_561, k_D_call_566, k_D_call_568, k_D_call_600, k_D_call_602, k_D_call_609, k_D_call_616, k_D_call_618, k_D_call_636, k_D_call_644, k_D_call_651, k_D_call_659, k_D_call_666, k_D_call_674, k_D_call_681, k_D_call_689, k_D_call_696, k_D_call_704, k_D_call_707, k_D_call_715, k_D_call_719, k_D_call_720, k_D_call_721, k_D_call_727, o_c, o_il, o_ll, o_al, o_is, o_as, o_ls, o_inc, o_bi, o_bid, o_bl, o_bld, o_sl, o_i2l, o_l2i, o_dup, o_dup2, o_pop, o_pop2, o_if, o_i2, o_l2, swg, o_sw, o_gI, o_gZ, o_gJ, o_gA, o_gR, o_pI, o_pZ, o_pJ, o_pR, o_ia, o_iak, o_zak, o_ja, o_jak, o_is_, o_isk, o_zsk, o_js_, o_jsk, o_len, o_ri, o_rz, o_rl, o_rv, ls1, ls2, lks, lkj, List.getD_cons_zero, List.getD_cons_succ, List.set_cons_zero, List.set_cons_succ, qcat, true_and, and_true, List.map_nil, List.map_cons, List.sum_nil, List.sum_cons, Nat.reduceAdd, Nat.reduceLeDiff, Nat.zero_le, Int.reduceAdd, Int.reduceNeg, Int.reduceEq, or_true, true_or, Decidable.not_not, false_implies, not_false_eq_true, true_implies, not_true_eq_false, Int.reduceLT, Int.reduceLE]
  refine v_D_call_18 S Q a1 a2 a3 a4 a5 a6 a7 σ h (fun r σ' hF hr => hq _ _ ⟨hF, ?_⟩) 4 0 _ rfl (by omega) ((F_dcl.rf σ).up (by decide)) su_s (fun i i0 i1 => by omega)
  unfold resD at hr
  exact hr
theorem c_D_call (l : Launch) (ad : Nat → Nat) (D : va_G) (cA : Nat → ClassId) : qC l ad D cA y_D_call (Cond.code y_D_call b_D_call 21 (some .boolean) :: lw_g) rm_D_call pre_D_call post_D_call := by
  refine qC_of (own := R_D) (by decide) rfl ⟨rfl, rfl⟩ ?_ ?_
  · intro av σ h; unfold pre_D_call at h; split at h
    · simp [qen]
    · exact h.elim
  · intro WW QR S Q av σ hav hσ h hq; unfold pre_D_call at h; split at h
    next o a1 a2 a3 a4 a5 a6 a7 =>
      obtain ⟨rfl, h⟩ := h
      exact w_D_call S Q a1 a2 a3 a4 a5 a6 a7 σ (hav _ (List.mem_of_getElem? (i := 1) rfl)) (hav _ (List.mem_of_getElem? (i := 2) rfl)) (hav _ (List.mem_of_getElem? (i := 3) rfl)) (hav _ (List.mem_of_getElem? (i := 4) rfl)) (hav _ (List.mem_of_getElem? (i := 6) rfl)) (hav _ (List.mem_of_getElem? (i := 7) rfl)) hσ h (fun r σ' h' => hq _ σ' h')
    next => exact h.elim

