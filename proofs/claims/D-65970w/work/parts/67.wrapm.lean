def wq (tgs : List (Nat × Int)) (QR : Option qA → qS → Prop) (tag : Nat) (σ' : qS) : Prop := ∃ k, tgf tag tgs = some k ∧ QR (some (.inl k)) σ'
def P_L_record (x : Nat) (f k v : Int) (o9 : Nat) (σ : qS) : Prop := x = 900 ∧ o9 = 140 ∧ P_M_record f k v σ
def Q_L_record (_x : Nat) (f k v : Int) (_o9 : Nat) (σ : qS) (r : Int) (σ' : qS) : Prop := (∃ q σ1, Q_M_record f k v σ q σ1 ∧ r = 0 ∧ σ' = su σ1 140 0 q) ∨ (∃ t, T_M_record f k v σ t σ' ∧ tgf t [(2, 1), (1, 2)] = some r)
def hh_L_record : List (Nat × Nat × Nat × Nat) := [(0, 13, 16, 13), (0, 13, 20, 15)]
def tg_L_record : List (Nat × Int) := [(2, 1), (1, 2)]
def pre_L_record (av : List qA) (σ : qS) : Prop := match av with
  | [.inr (.inr a1), .inl a2, .inr (.inl a3), .inr (.inl a4), .inr (.inr a5)] => P_L_record a1 a2 a3 a4 a5 σ
  | _ => False
def post_L_record (av : List qA) (σ : qS) (r : Option qA) (σ' : qS) : Prop := match av, r with
  | [.inr (.inr a1), .inl a2, .inr (.inl a3), .inr (.inl a4), .inr (.inr a5)], some (.inl r) => Q_L_record a1 a2 a3 a4 a5 σ r σ'
  | _, _ => False
def oc_L_record (K : qP) : qP := fun st ls σ => match st with
  | .inr (.inr a5) :: .inr (.inl a4) :: .inr (.inl a3) :: .inl a2 :: .inr (.inr a1) :: st => (st.map qcat).sum ≤ 8 ∧ P_L_record a1 a2 a3 a4 a5 σ ∧ ∀ (r : Int) (σ' : qS), Q_L_record a1 a2 a3 a4 a5 σ r σ' → K (.inl r :: st) ls σ'
  | _ => False
def rm_L_record : Room := { frames := 9, cells := 1, slots := 6, locals := 146 }
theorem sw_L_7 {l : Launch} {R : Room} {ad : Nat → Nat} {D : va_G} {cA : Nat → ClassId} {cc : ByteArray} {hh : List (Nat × Nat × Nat × Nat)} {tgs : List (Nat × Int)} {WW : Nat → qP} {QR : Option qA → qS → Prop} (Wr : qWrp l R ad D cA R_L cc hh tgs WW QR) (hR : rm_M_record.frames + 1 ≤ R.frames ∧ 8 + (6 + 11) + rm_M_record.locals ≤ R.locals ∧ 0 + rm_M_record.cells ≤ R.cells ∧ 0 + rm_M_record.slots ≤ R.slots) {K : qP} {pc : Nat} (hcov : ∀ h ∈ hh, h.1 ≤ pc ∧ pc < h.2.1) (d : decode cc pc = .ok (.invokevirtual 7, 3)) (h : qle K WW (pc + 3)) : qle (ot_M_record (wq tgs QR) K) WW pc := by
  intro st ls σ k
  refine Wr 900 0 82 0 7 3 6 pc R_M F_M _ _ _ rm_M_record pre_M_record post_M_record pst_M_record K hcov (Or.inl ⟨rfl, rfl, rfl, rfl, rfl, rfl⟩) ⟨lw_at 360 (by decide +kernel) rfl, lw_at 357 (by decide +kernel) rfl, lw_at 59 (by decide +kernel) rfl, by decide, by decide, by decide +kernel⟩ ⟨lw_at 358 (by decide +kernel) rfl, lw_at 359 (by decide +kernel) rfl⟩ hR (c_M_record l ad D cA) ?_ d h st ls σ ?_
  · intro av σ h; unfold pre_M_record at h; split at h
    · obtain ⟨rfl, h⟩ := h; exact ⟨_, rfl⟩
    · exact h.elim
  · unfold ot_M_record at k
    split at k
    next a3 a2 a1 o st =>
      obtain ⟨rfl, hs, hp, k, kt⟩ := k
      refine ⟨[.inr (.inr 900), .inl a1, .inr (.inl a2), .inr (.inl a3)], st, rfl, rfl, hs, ⟨rfl, hp⟩, fun r σ' hq => ?_, fun t σ' hq => kt t σ' hq⟩
      unfold post_M_record at hq
      split at hq
      next h1 =>
        cases h1
        exact k _ _ hq
      next => exact hq.elim
    next => exact k.elim
def k_L_record_24 (QR : Option qA → qS → Prop) (H : Nat → qP) : qP :=
  o_c (.inl 0) <| o_ri QR
def k_L_record_0 (QR : Option qA → qS → Prop) (H : Nat → qP) : qP :=
  o_al 6 <| o_c (.inl 0) <| o_al 0 <| o_il 1 <| o_ll 2 <| o_ll 4 <| ot_M_record (wq tg_L_record QR) <| o_i2l <| o_js_ <| k_L_record_24 QR H
set_option maxRecDepth 8000 in
theorem s_L_record_24 {l : Launch} {ad : Nat → Nat} {D : va_G} {cA : Nat → ClassId} {WW : Nat → qP} {QR : Option qA → qS → Prop} (S : qSnd l rm_L_record ad D cA R_L b_L_record 8 WW) (Q : qRet (some .int) b_L_record WW QR) (Wr : qWrp l rm_L_record ad D cA R_L b_L_record hh_L_record tg_L_record WW QR) : qle (k_L_record_24 QR WW) WW 24 :=
  S.iconst d_L_record_24 (by decide) <| Q.1 rfl _ d_L_record_25
set_option maxRecDepth 8000 in
theorem s_L_record_0 {l : Launch} {ad : Nat → Nat} {D : va_G} {cA : Nat → ClassId} {WW : Nat → qP} {QR : Option qA → qS → Prop} (S : qSnd l rm_L_record ad D cA R_L b_L_record 8 WW) (Q : qRet (some .int) b_L_record WW QR) (Wr : qWrp l rm_L_record ad D cA R_L b_L_record hh_L_record tg_L_record WW QR) : qle (k_L_record_0 QR WW) WW 0 :=
  S.aload d_L_record_0 <| S.iconst d_L_record_2 (by decide) <| S.aload_n d_L_record_3 rfl <| S.iload_n d_L_record_4 rfl <| S.lload_n d_L_record_5 rfl <| S.lload d_L_record_6 <| sw_L_7 Wr (by decide) (by decide) d_L_record_8 <| S.i2l d_L_record_11 <| S.jast d_L_record_12 <| S.goto d_L_record_13 (by decide) (s_L_record_24 S Q Wr)
theorem w_L_record {l : Launch} {ad : Nat → Nat} {D : va_G} {cA : Nat → ClassId} {WW : Nat → qP} {QR : Option qA → qS → Prop} (S : qSnd l rm_L_record ad D cA R_L b_L_record 8 WW) (Q : qRet (some .int) b_L_record WW QR) (Wr : qWrp l rm_L_record ad D cA R_L b_L_record hh_L_record tg_L_record WW QR) (a1 : Nat) (a2 : Int) (a3 : Int) (a4 : Int) (a5 : Nat) (σ : qS) (ha2 : r32 a2) (ha3 : r64 a3) (ha4 : r64 a4) (hσ : qoS σ) (h : P_L_record a1 a2 a3 a4 a5 σ) (hq : ∀ (r : Int) σ', Q_L_record a1 a2 a3 a4 a5 σ r σ' → QR (some (.inl r)) σ') : WW 0 [] [some (.inr (.inr a1)), some (.inl a2), some (.inr (.inl a3)), none, some (.inr (.inl a4)), none, some (.inr (.inr a5)), none] σ := by
  refine s_L_record_0 S Q Wr _ _ _ ?_
  simp only [k_L_record_0, k_L_record_24, ot_M_record, o_c, o_il, o_ll, o_al, o_is, o_as, o_ls, o_inc, o_bi, o_bid, o_bl, o_bld, o_sl, o_i2l, o_l2i, o_dup, o_dup2, o_pop, o_pop2, o_if, o_i2, o_l2, swg, o_sw, o_gI, o_gZ, o_gJ, o_gA, o_gR, o_pI, o_pZ, o_pJ, o_pR, o_ia, o_iak, o_zak, o_ja, o_jak, o_is_, o_isk, o_zsk, o_js_, o_jsk, o_len, o_ri, o_rz, o_rl, o_rv, ls1, ls2, lks, lkj, List.getD_cons_zero, List.getD_cons_succ, List.set_cons_zero, List.set_cons_succ, qcat, true_and, and_true, List.map_nil, List.map_cons, List.sum_nil, List.sum_cons, Nat.reduceAdd, Nat.reduceLeDiff, Nat.zero_le, Int.reduceAdd, Int.reduceNeg, Int.reduceEq, or_true, true_or, Decidable.not_not, false_implies, not_false_eq_true, true_implies, not_true_eq_false, Int.reduceLT, Int.reduceLE]
  obtain ⟨rfl, rfl, hp⟩ := h
  refine ⟨rfl, hp, fun q σ1 h1 => ⟨⟨by decide, by decide⟩, by decide, hq _ _ (Or.inl ⟨q, σ1, h1, rfl, rfl⟩)⟩, fun t σ1 ht => ?_⟩
  have h2 : t = 2 ∨ t = 1 := by
    unfold T_M_record at ht
    obtain ⟨-, ht⟩ := ht; rcases ht with ⟨-, e⟩ | ⟨-, -, e⟩ <;> omega
  rcases h2 with rfl | rfl <;> exact ⟨_, rfl, hq _ _ (Or.inr ⟨_, ht, rfl⟩)⟩
theorem c_L_record (l : Launch) (ad : Nat → Nat) (D : va_G) (cA : Nat → ClassId) : qLc l ad D cA y_L_record (Cond.codeWith y_L_record b_L_record 8 (some .int) hh_L_record :: lw_g) rm_L_record pre_L_record post_L_record := by
  refine qL_of (own := R_L) (tgs := tg_L_record) (by decide) rfl ⟨⟨by decide, by decide, by decide, lw_at 355 (by decide +kernel) rfl, ⟨7, 2, Or.inl ⟨d_L_record_16, rfl⟩, by decide, d_L_record_18, d_L_record_19⟩⟩, ⟨⟨by decide, by decide, by decide, lw_at 356 (by decide +kernel) rfl, ⟨7, 2, Or.inl ⟨d_L_record_20, rfl⟩, by decide, d_L_record_22, d_L_record_23⟩⟩, trivial⟩⟩ ?_ ?_
  · intro av σ h; unfold pre_L_record at h; split at h
    · simp [qen]
    · exact h.elim
  · intro WW QR S Q Wr av σ hav hσ h hq; unfold pre_L_record at h; split at h
    next a1 a2 a3 a4 a5 =>
      exact w_L_record S Q Wr a1 a2 a3 a4 a5 σ (hav _ (List.mem_of_getElem? (i := 1) rfl)) (hav _ (List.mem_of_getElem? (i := 2) rfl)) (hav _ (List.mem_of_getElem? (i := 3) rfl)) hσ h (fun r σ' h' => hq _ σ' h')
    next => exact h.elim
def P_L_clear (x : Nat) (f : Int) (o9 : Nat) (σ : qS) : Prop := x = 900 ∧ o9 = 140 ∧ P_M_clear f σ
def Q_L_clear (_x : Nat) (f : Int) (_o9 : Nat) (σ : qS) (r : Int) (σ' : qS) : Prop := (∃ q σ1, Q_M_clear f σ q σ1 ∧ r = 0 ∧ σ' = su σ1 140 0 q) ∨ (∃ t, T_M_clear f σ t σ' ∧ tgf t [(2, 1), (1, 2)] = some r)
def hh_L_clear : List (Nat × Nat × Nat × Nat) := [(0, 9, 12, 13), (0, 9, 15, 15)]
def tg_L_clear : List (Nat × Int) := [(2, 1), (1, 2)]
def pre_L_clear (av : List qA) (σ : qS) : Prop := match av with
  | [.inr (.inr a1), .inl a2, .inr (.inr a3)] => P_L_clear a1 a2 a3 σ
  | _ => False
def post_L_clear (av : List qA) (σ : qS) (r : Option qA) (σ' : qS) : Prop := match av, r with
  | [.inr (.inr a1), .inl a2, .inr (.inr a3)], some (.inl r) => Q_L_clear a1 a2 a3 σ r σ'
  | _, _ => False
def oc_L_clear (K : qP) : qP := fun st ls σ => match st with
  | .inr (.inr a3) :: .inl a2 :: .inr (.inr a1) :: st => (st.map qcat).sum ≤ 8 ∧ P_L_clear a1 a2 a3 σ ∧ ∀ (r : Int) (σ' : qS), Q_L_clear a1 a2 a3 σ r σ' → K (.inl r :: st) ls σ'
  | _ => False
def rm_L_clear : Room := { frames := 9, cells := 1, slots := 6, locals := 143 }
theorem sw_L_17 {l : Launch} {R : Room} {ad : Nat → Nat} {D : va_G} {cA : Nat → ClassId} {cc : ByteArray} {hh : List (Nat × Nat × Nat × Nat)} {tgs : List (Nat × Int)} {WW : Nat → qP} {QR : Option qA → qS → Prop} (Wr : qWrp l R ad D cA R_L cc hh tgs WW QR) (hR : rm_M_clear.frames + 1 ≤ R.frames ∧ 8 + (3 + 11) + rm_M_clear.locals ≤ R.locals ∧ 0 + rm_M_clear.cells ≤ R.cells ∧ 0 + rm_M_clear.slots ≤ R.slots) {K : qP} {pc : Nat} (hcov : ∀ h ∈ hh, h.1 ≤ pc ∧ pc < h.2.1) (d : decode cc pc = .ok (.invokevirtual 17, 3)) (h : qle K WW (pc + 3)) : qle (ot_M_clear (wq tgs QR) K) WW pc := by
  intro st ls σ k
  refine Wr 900 0 82 0 17 1 3 pc R_M F_M _ _ _ rm_M_clear pre_M_clear post_M_clear pst_M_clear K hcov (Or.inl ⟨rfl, rfl, rfl, rfl, rfl, rfl⟩) ⟨lw_at 459 (by decide +kernel) rfl, lw_at 456 (by decide +kernel) rfl, lw_at 59 (by decide +kernel) rfl, by decide, by decide, by decide +kernel⟩ ⟨lw_at 457 (by decide +kernel) rfl, lw_at 458 (by decide +kernel) rfl⟩ hR (c_M_clear l ad D cA) ?_ d h st ls σ ?_
  · intro av σ h; unfold pre_M_clear at h; split at h
    · obtain ⟨rfl, h⟩ := h; exact ⟨_, rfl⟩
    · exact h.elim
  · unfold ot_M_clear at k
    split at k
    next a1 o st =>
      obtain ⟨rfl, hs, hp, k, kt⟩ := k
      refine ⟨[.inr (.inr 900), .inl a1], st, rfl, rfl, hs, ⟨rfl, hp⟩, fun r σ' hq => ?_, fun t σ' hq => kt t σ' hq⟩
      unfold post_M_clear at hq
      split at hq
      next h1 =>
        cases h1
        exact k _ _ hq
      next => exact hq.elim
    next => exact k.elim
def k_L_clear_18 (QR : Option qA → qS → Prop) (H : Nat → qP) : qP :=
  o_c (.inl 0) <| o_ri QR
def k_L_clear_0 (QR : Option qA → qS → Prop) (H : Nat → qP) : qP :=
  o_al 2 <| o_c (.inl 0) <| o_al 0 <| o_il 1 <| ot_M_clear (wq tg_L_clear QR) <| o_i2l <| o_js_ <| k_L_clear_18 QR H
set_option maxRecDepth 8000 in
theorem s_L_clear_18 {l : Launch} {ad : Nat → Nat} {D : va_G} {cA : Nat → ClassId} {WW : Nat → qP} {QR : Option qA → qS → Prop} (S : qSnd l rm_L_clear ad D cA R_L b_L_clear 4 WW) (Q : qRet (some .int) b_L_clear WW QR) (Wr : qWrp l rm_L_clear ad D cA R_L b_L_clear hh_L_clear tg_L_clear WW QR) : qle (k_L_clear_18 QR WW) WW 18 :=
  S.iconst d_L_clear_18 (by decide) <| Q.1 rfl _ d_L_clear_19
set_option maxRecDepth 8000 in
theorem s_L_clear_0 {l : Launch} {ad : Nat → Nat} {D : va_G} {cA : Nat → ClassId} {WW : Nat → qP} {QR : Option qA → qS → Prop} (S : qSnd l rm_L_clear ad D cA R_L b_L_clear 4 WW) (Q : qRet (some .int) b_L_clear WW QR) (Wr : qWrp l rm_L_clear ad D cA R_L b_L_clear hh_L_clear tg_L_clear WW QR) : qle (k_L_clear_0 QR WW) WW 0 :=
  S.aload_n d_L_clear_0 rfl <| S.iconst d_L_clear_1 (by decide) <| S.aload_n d_L_clear_2 rfl <| S.iload_n d_L_clear_3 rfl <| sw_L_17 Wr (by decide) (by decide) d_L_clear_4 <| S.i2l d_L_clear_7 <| S.jast d_L_clear_8 <| S.goto d_L_clear_9 (by decide) (s_L_clear_18 S Q Wr)
theorem w_L_clear {l : Launch} {ad : Nat → Nat} {D : va_G} {cA : Nat → ClassId} {WW : Nat → qP} {QR : Option qA → qS → Prop} (S : qSnd l rm_L_clear ad D cA R_L b_L_clear 4 WW) (Q : qRet (some .int) b_L_clear WW QR) (Wr : qWrp l rm_L_clear ad D cA R_L b_L_clear hh_L_clear tg_L_clear WW QR) (a1 : Nat) (a2 : Int) (a3 : Nat) (σ : qS) (ha2 : r32 a2) (hσ : qoS σ) (h : P_L_clear a1 a2 a3 σ) (hq : ∀ (r : Int) σ', Q_L_clear a1 a2 a3 σ r σ' → QR (some (.inl r)) σ') : WW 0 [] [some (.inr (.inr a1)), some (.inl a2), some (.inr (.inr a3)), none] σ := by
  refine s_L_clear_0 S Q Wr _ _ _ ?_
  simp only [k_L_clear_0, k_L_clear_18, ot_M_clear, o_c, o_il, o_ll, o_al, o_is, o_as, o_ls, o_inc, o_bi, o_bid, o_bl, o_bld, o_sl, o_i2l, o_l2i, o_dup, o_dup2, o_pop, o_pop2, o_if, o_i2, o_l2, swg, o_sw, o_gI, o_gZ, o_gJ, o_gA, o_gR, o_pI, o_pZ, o_pJ, o_pR, o_ia, o_iak, o_zak, o_ja, o_jak, o_is_, o_isk, o_zsk, o_js_, o_jsk, o_len, o_ri, o_rz, o_rl, o_rv, ls1, ls2, lks, lkj, List.getD_cons_zero, List.getD_cons_succ, List.set_cons_zero, List.set_cons_succ, qcat, true_and, and_true, List.map_nil, List.map_cons, List.sum_nil, List.sum_cons, Nat.reduceAdd, Nat.reduceLeDiff, Nat.zero_le, Int.reduceAdd, Int.reduceNeg, Int.reduceEq, or_true, true_or, Decidable.not_not, false_implies, not_false_eq_true, true_implies, not_true_eq_false, Int.reduceLT, Int.reduceLE]
  obtain ⟨rfl, rfl, hp⟩ := h
  refine ⟨rfl, hp, fun q σ1 h1 => ⟨⟨by decide, by decide⟩, by decide, hq _ _ (Or.inl ⟨q, σ1, h1, rfl, rfl⟩)⟩, fun t σ1 ht => ?_⟩
  have h2 : t = 2 ∨ t = 1 := by
    unfold T_M_clear at ht
    obtain ⟨-, ht⟩ := ht; rcases ht with ⟨-, e⟩ | ⟨-, -, e⟩ <;> omega
  rcases h2 with rfl | rfl <;> exact ⟨_, rfl, hq _ _ (Or.inr ⟨_, ht, rfl⟩)⟩
theorem c_L_clear (l : Launch) (ad : Nat → Nat) (D : va_G) (cA : Nat → ClassId) : qLc l ad D cA y_L_clear (Cond.codeWith y_L_clear b_L_clear 4 (some .int) hh_L_clear :: lw_g) rm_L_clear pre_L_clear post_L_clear := by
  refine qL_of (own := R_L) (tgs := tg_L_clear) (by decide) rfl ⟨⟨by decide, by decide, by decide, lw_at 355 (by decide +kernel) rfl, ⟨3, 1, Or.inr ⟨⟨3, by decide⟩, rfl, d_L_clear_12, rfl⟩, by decide, d_L_clear_13, d_L_clear_14⟩⟩, ⟨⟨by decide, by decide, by decide, lw_at 356 (by decide +kernel) rfl, ⟨3, 1, Or.inr ⟨⟨3, by decide⟩, rfl, d_L_clear_15, rfl⟩, by decide, d_L_clear_16, d_L_clear_17⟩⟩, trivial⟩⟩ ?_ ?_
  · intro av σ h; unfold pre_L_clear at h; split at h
    · simp [qen]
    · exact h.elim
  · intro WW QR S Q Wr av σ hav hσ h hq; unfold pre_L_clear at h; split at h
    next a1 a2 a3 =>
      exact w_L_clear S Q Wr a1 a2 a3 σ (hav _ (List.mem_of_getElem? (i := 1) rfl)) hσ h (fun r σ' h' => hq _ σ' h')
    next => exact h.elim
def P_L_code (x : Nat) (o a : Int) (o9 : Nat) (σ : qS) : Prop := x = 900 ∧ o9 = 140 ∧ P_M_code o a σ
def Q_L_code (_x : Nat) (o a : Int) (_o9 : Nat) (σ : qS) (r : Int) (σ' : qS) : Prop := (∃ q σ1, Q_M_code o a σ q σ1 ∧ r = 0 ∧ σ' = su σ1 140 0 q) ∨ (∃ t, T_M_code o a σ t σ' ∧ tgf t [(0, 1), (1, 2)] = some r)
def hh_L_code : List (Nat × Nat × Nat × Nat) := [(0, 11, 14, 25), (0, 11, 18, 15)]
def tg_L_code : List (Nat × Int) := [(0, 1), (1, 2)]
def pre_L_code (av : List qA) (σ : qS) : Prop := match av with
  | [.inr (.inr a1), .inl a2, .inr (.inl a3), .inr (.inr a4)] => P_L_code a1 a2 a3 a4 σ
  | _ => False
def post_L_code (av : List qA) (σ : qS) (r : Option qA) (σ' : qS) : Prop := match av, r with
  | [.inr (.inr a1), .inl a2, .inr (.inl a3), .inr (.inr a4)], some (.inl r) => Q_L_code a1 a2 a3 a4 σ r σ'
  | _, _ => False
def oc_L_code (K : qP) : qP := fun st ls σ => match st with
  | .inr (.inr a4) :: .inr (.inl a3) :: .inl a2 :: .inr (.inr a1) :: st => (st.map qcat).sum ≤ 8 ∧ P_L_code a1 a2 a3 a4 σ ∧ ∀ (r : Int) (σ' : qS), Q_L_code a1 a2 a3 a4 σ r σ' → K (.inl r :: st) ls σ'
  | _ => False
def rm_L_code : Room := { frames := 8, cells := 1, slots := 6, locals := 124 }
theorem sw_L_21 {l : Launch} {R : Room} {ad : Nat → Nat} {D : va_G} {cA : Nat → ClassId} {cc : ByteArray} {hh : List (Nat × Nat × Nat × Nat)} {tgs : List (Nat × Int)} {WW : Nat → qP} {QR : Option qA → qS → Prop} (Wr : qWrp l R ad D cA R_L cc hh tgs WW QR) (hR : rm_M_code.frames + 1 ≤ R.frames ∧ 8 + (4 + 11) + rm_M_code.locals ≤ R.locals ∧ 0 + rm_M_code.cells ≤ R.cells ∧ 0 + rm_M_code.slots ≤ R.slots) {K : qP} {pc : Nat} (hcov : ∀ h ∈ hh, h.1 ≤ pc ∧ pc < h.2.1) (d : decode cc pc = .ok (.invokevirtual 21, 3)) (h : qle K WW (pc + 3)) : qle (ot_M_code (wq tgs QR) K) WW pc := by
  intro st ls σ k
  refine Wr 900 0 82 0 21 2 4 pc R_M F_M _ _ _ rm_M_code pre_M_code post_M_code pst_M_code K hcov (Or.inl ⟨rfl, rfl, rfl, rfl, rfl, rfl⟩) ⟨lw_at 471 (by decide +kernel) rfl, lw_at 468 (by decide +kernel) rfl, lw_at 59 (by decide +kernel) rfl, by decide, by decide, by decide +kernel⟩ ⟨lw_at 469 (by decide +kernel) rfl, lw_at 470 (by decide +kernel) rfl⟩ hR (c_M_code l ad D cA) ?_ d h st ls σ ?_
  · intro av σ h; unfold pre_M_code at h; split at h
    · obtain ⟨rfl, h⟩ := h; exact ⟨_, rfl⟩
    · exact h.elim
  · unfold ot_M_code at k
    split at k
    next a2 a1 o st =>
      obtain ⟨rfl, hs, hp, k, kt⟩ := k
      refine ⟨[.inr (.inr 900), .inl a1, .inr (.inl a2)], st, rfl, rfl, hs, ⟨rfl, hp⟩, fun r σ' hq => ?_, fun t σ' hq => kt t σ' hq⟩
      unfold post_M_code at hq
      split at hq
      next h1 =>
        cases h1
        exact k _ _ hq
      next => exact hq.elim
    next => exact k.elim
def k_L_code_22 (QR : Option qA → qS → Prop) (H : Nat → qP) : qP :=
  o_c (.inl 0) <| o_ri QR
def k_L_code_0 (QR : Option qA → qS → Prop) (H : Nat → qP) : qP :=
  o_al 4 <| o_c (.inl 0) <| o_al 0 <| o_il 1 <| o_ll 2 <| ot_M_code (wq tg_L_code QR) <| o_i2l <| o_js_ <| k_L_code_22 QR H
set_option maxRecDepth 8000 in
theorem s_L_code_22 {l : Launch} {ad : Nat → Nat} {D : va_G} {cA : Nat → ClassId} {WW : Nat → qP} {QR : Option qA → qS → Prop} (S : qSnd l rm_L_code ad D cA R_L b_L_code 6 WW) (Q : qRet (some .int) b_L_code WW QR) (Wr : qWrp l rm_L_code ad D cA R_L b_L_code hh_L_code tg_L_code WW QR) : qle (k_L_code_22 QR WW) WW 22 :=
  S.iconst d_L_code_22 (by decide) <| Q.1 rfl _ d_L_code_23
set_option maxRecDepth 8000 in
theorem s_L_code_0 {l : Launch} {ad : Nat → Nat} {D : va_G} {cA : Nat → ClassId} {WW : Nat → qP} {QR : Option qA → qS → Prop} (S : qSnd l rm_L_code ad D cA R_L b_L_code 6 WW) (Q : qRet (some .int) b_L_code WW QR) (Wr : qWrp l rm_L_code ad D cA R_L b_L_code hh_L_code tg_L_code WW QR) : qle (k_L_code_0 QR WW) WW 0 :=
  S.aload d_L_code_0 <| S.iconst d_L_code_2 (by decide) <| S.aload_n d_L_code_3 rfl <| S.iload_n d_L_code_4 rfl <| S.lload_n d_L_code_5 rfl <| sw_L_21 Wr (by decide) (by decide) d_L_code_6 <| S.i2l d_L_code_9 <| S.jast d_L_code_10 <| S.goto d_L_code_11 (by decide) (s_L_code_22 S Q Wr)
theorem w_L_code {l : Launch} {ad : Nat → Nat} {D : va_G} {cA : Nat → ClassId} {WW : Nat → qP} {QR : Option qA → qS → Prop} (S : qSnd l rm_L_code ad D cA R_L b_L_code 6 WW) (Q : qRet (some .int) b_L_code WW QR) (Wr : qWrp l rm_L_code ad D cA R_L b_L_code hh_L_code tg_L_code WW QR) (a1 : Nat) (a2 : Int) (a3 : Int) (a4 : Nat) (σ : qS) (ha2 : r32 a2) (ha3 : r64 a3) (hσ : qoS σ) (h : P_L_code a1 a2 a3 a4 σ) (hq : ∀ (r : Int) σ', Q_L_code a1 a2 a3 a4 σ r σ' → QR (some (.inl r)) σ') : WW 0 [] [some (.inr (.inr a1)), some (.inl a2), some (.inr (.inl a3)), none, some (.inr (.inr a4)), none] σ := by
  refine s_L_code_0 S Q Wr _ _ _ ?_
  simp only [k_L_code_0, k_L_code_22, ot_M_code, o_c, o_il, o_ll, o_al, o_is, o_as, o_ls, o_inc, o_bi, o_bid, o_bl, o_bld, o_sl, o_i2l, o_l2i, o_dup, o_dup2, o_pop, o_pop2, o_if, o_i2, o_l2, swg, o_sw, o_gI, o_gZ, o_gJ, o_gA, o_gR, o_pI, o_pZ, o_pJ, o_pR, o_ia, o_iak, o_zak, o_ja, o_jak, o_is_, o_isk, o_zsk, o_js_, o_jsk, o_len, o_ri, o_rz, o_rl, o_rv, ls1, ls2, lks, lkj, List.getD_cons_zero, List.getD_cons_succ, List.set_cons_zero, List.set_cons_succ, qcat, true_and, and_true, List.map_nil, List.map_cons, List.sum_nil, List.sum_cons, Nat.reduceAdd, Nat.reduceLeDiff, Nat.zero_le, Int.reduceAdd, Int.reduceNeg, Int.reduceEq, or_true, true_or, Decidable.not_not, false_implies, not_false_eq_true, true_implies, not_true_eq_false, Int.reduceLT, Int.reduceLE]
  obtain ⟨rfl, rfl, hp⟩ := h
  refine ⟨rfl, hp, fun q σ1 h1 => ⟨⟨by decide, by decide⟩, by decide, hq _ _ (Or.inl ⟨q, σ1, h1, rfl, rfl⟩)⟩, fun t σ1 ht => ?_⟩
  have h2 : t = 0 ∨ t = 1 := by
    unfold T_M_code at ht
    obtain ⟨-, ht⟩ := ht; rcases ht with ⟨-, e⟩ | ⟨-, -, e⟩ <;> omega
  rcases h2 with rfl | rfl <;> exact ⟨_, rfl, hq _ _ (Or.inr ⟨_, ht, rfl⟩)⟩
theorem c_L_code (l : Launch) (ad : Nat → Nat) (D : va_G) (cA : Nat → ClassId) : qLc l ad D cA y_L_code (Cond.codeWith y_L_code b_L_code 6 (some .int) hh_L_code :: lw_g) rm_L_code pre_L_code post_L_code := by
  refine qL_of (own := R_L) (tgs := tg_L_code) (by decide) rfl ⟨⟨by decide, by decide, by decide, lw_at 467 (by decide +kernel) rfl, ⟨5, 2, Or.inl ⟨d_L_code_14, rfl⟩, by decide, d_L_code_16, d_L_code_17⟩⟩, ⟨⟨by decide, by decide, by decide, lw_at 356 (by decide +kernel) rfl, ⟨5, 2, Or.inl ⟨d_L_code_18, rfl⟩, by decide, d_L_code_20, d_L_code_21⟩⟩, trivial⟩⟩ ?_ ?_
  · intro av σ h; unfold pre_L_code at h; split at h
    · simp [qen]
    · exact h.elim
  · intro WW QR S Q Wr av σ hav hσ h hq; unfold pre_L_code at h; split at h
    next a1 a2 a3 a4 =>
      exact w_L_code S Q Wr a1 a2 a3 a4 σ (hav _ (List.mem_of_getElem? (i := 1) rfl)) (hav _ (List.mem_of_getElem? (i := 2) rfl)) hσ h (fun r σ' h' => hq _ σ' h')
    next => exact h.elim
def P_L_program (x : Nat) (j w : Int) (o9 : Nat) (σ : qS) : Prop := x = 900 ∧ o9 = 140 ∧ P_M_program j w σ
def Q_L_program (_x : Nat) (j w : Int) (_o9 : Nat) (σ : qS) (r : Int) (σ' : qS) : Prop := (∃ q σ1, Q_M_program j w σ q σ1 ∧ r = 0 ∧ σ' = su σ1 140 0 q) ∨ (∃ t, T_M_program j w σ t σ' ∧ tgf t [(2, 1), (0, 2), (1, 3)] = some r)
def hh_L_program : List (Nat × Nat × Nat × Nat) := [(0, 10, 13, 13), (0, 10, 17, 25), (0, 10, 21, 15)]
def tg_L_program : List (Nat × Int) := [(2, 1), (0, 2), (1, 3)]
def pre_L_program (av : List qA) (σ : qS) : Prop := match av with
  | [.inr (.inr a1), .inl a2, .inl a3, .inr (.inr a4)] => P_L_program a1 a2 a3 a4 σ
  | _ => False
def post_L_program (av : List qA) (σ : qS) (r : Option qA) (σ' : qS) : Prop := match av, r with
  | [.inr (.inr a1), .inl a2, .inl a3, .inr (.inr a4)], some (.inl r) => Q_L_program a1 a2 a3 a4 σ r σ'
  | _, _ => False
def oc_L_program (K : qP) : qP := fun st ls σ => match st with
  | .inr (.inr a4) :: .inl a3 :: .inl a2 :: .inr (.inr a1) :: st => (st.map qcat).sum ≤ 8 ∧ P_L_program a1 a2 a3 a4 σ ∧ ∀ (r : Int) (σ' : qS), Q_L_program a1 a2 a3 a4 σ r σ' → K (.inl r :: st) ls σ'
  | _ => False
def rm_L_program : Room := { frames := 9, cells := 1, slots := 6, locals := 145 }
theorem sw_L_27 {l : Launch} {R : Room} {ad : Nat → Nat} {D : va_G} {cA : Nat → ClassId} {cc : ByteArray} {hh : List (Nat × Nat × Nat × Nat)} {tgs : List (Nat × Int)} {WW : Nat → qP} {QR : Option qA → qS → Prop} (Wr : qWrp l R ad D cA R_L cc hh tgs WW QR) (hR : rm_M_program.frames + 1 ≤ R.frames ∧ 8 + (5 + 11) + rm_M_program.locals ≤ R.locals ∧ 0 + rm_M_program.cells ≤ R.cells ∧ 0 + rm_M_program.slots ≤ R.slots) {K : qP} {pc : Nat} (hcov : ∀ h ∈ hh, h.1 ≤ pc ∧ pc < h.2.1) (d : decode cc pc = .ok (.invokevirtual 27, 3)) (h : qle K WW (pc + 3)) : qle (ot_M_program (wq tgs QR) K) WW pc := by
  intro st ls σ k
  refine Wr 900 0 82 0 27 2 5 pc R_M F_M _ _ _ rm_M_program pre_M_program post_M_program pst_M_program K hcov (Or.inl ⟨rfl, rfl, rfl, rfl, rfl, rfl⟩) ⟨lw_at 499 (by decide +kernel) rfl, lw_at 496 (by decide +kernel) rfl, lw_at 59 (by decide +kernel) rfl, by decide, by decide, by decide +kernel⟩ ⟨lw_at 497 (by decide +kernel) rfl, lw_at 498 (by decide +kernel) rfl⟩ hR (c_M_program l ad D cA) ?_ d h st ls σ ?_
  · intro av σ h; unfold pre_M_program at h; split at h
    · obtain ⟨rfl, h⟩ := h; exact ⟨_, rfl⟩
    · exact h.elim
  · unfold ot_M_program at k
    split at k
    next a2 a1 o st =>
      obtain ⟨rfl, hs, hp, k, kt⟩ := k
      refine ⟨[.inr (.inr 900), .inl a1, .inl a2], st, rfl, rfl, hs, ⟨rfl, hp⟩, fun r σ' hq => ?_, fun t σ' hq => kt t σ' hq⟩
      unfold post_M_program at hq
      split at hq
      next h1 =>
        cases h1
        exact k _ _ hq
      next => exact hq.elim
    next => exact k.elim
def k_L_program_25 (QR : Option qA → qS → Prop) (H : Nat → qP) : qP :=
  o_c (.inl 0) <| o_ri QR
def k_L_program_0 (QR : Option qA → qS → Prop) (H : Nat → qP) : qP :=
  o_al 3 <| o_c (.inl 0) <| o_al 0 <| o_il 1 <| o_il 2 <| ot_M_program (wq tg_L_program QR) <| o_i2l <| o_js_ <| k_L_program_25 QR H
set_option maxRecDepth 8000 in
theorem s_L_program_25 {l : Launch} {ad : Nat → Nat} {D : va_G} {cA : Nat → ClassId} {WW : Nat → qP} {QR : Option qA → qS → Prop} (S : qSnd l rm_L_program ad D cA R_L b_L_program 5 WW) (Q : qRet (some .int) b_L_program WW QR) (Wr : qWrp l rm_L_program ad D cA R_L b_L_program hh_L_program tg_L_program WW QR) : qle (k_L_program_25 QR WW) WW 25 :=
  S.iconst d_L_program_25 (by decide) <| Q.1 rfl _ d_L_program_26
set_option maxRecDepth 8000 in
theorem s_L_program_0 {l : Launch} {ad : Nat → Nat} {D : va_G} {cA : Nat → ClassId} {WW : Nat → qP} {QR : Option qA → qS → Prop} (S : qSnd l rm_L_program ad D cA R_L b_L_program 5 WW) (Q : qRet (some .int) b_L_program WW QR) (Wr : qWrp l rm_L_program ad D cA R_L b_L_program hh_L_program tg_L_program WW QR) : qle (k_L_program_0 QR WW) WW 0 :=
  S.aload_n d_L_program_0 rfl <| S.iconst d_L_program_1 (by decide) <| S.aload_n d_L_program_2 rfl <| S.iload_n d_L_program_3 rfl <| S.iload_n d_L_program_4 rfl <| sw_L_27 Wr (by decide) (by decide) d_L_program_5 <| S.i2l d_L_program_8 <| S.jast d_L_program_9 <| S.goto d_L_program_10 (by decide) (s_L_program_25 S Q Wr)
theorem w_L_program {l : Launch} {ad : Nat → Nat} {D : va_G} {cA : Nat → ClassId} {WW : Nat → qP} {QR : Option qA → qS → Prop} (S : qSnd l rm_L_program ad D cA R_L b_L_program 5 WW) (Q : qRet (some .int) b_L_program WW QR) (Wr : qWrp l rm_L_program ad D cA R_L b_L_program hh_L_program tg_L_program WW QR) (a1 : Nat) (a2 : Int) (a3 : Int) (a4 : Nat) (σ : qS) (ha2 : r32 a2) (ha3 : r32 a3) (hσ : qoS σ) (h : P_L_program a1 a2 a3 a4 σ) (hq : ∀ (r : Int) σ', Q_L_program a1 a2 a3 a4 σ r σ' → QR (some (.inl r)) σ') : WW 0 [] [some (.inr (.inr a1)), some (.inl a2), some (.inl a3), some (.inr (.inr a4)), none] σ := by
  refine s_L_program_0 S Q Wr _ _ _ ?_
  simp only [k_L_program_0, k_L_program_25, ot_M_program, o_c, o_il, o_ll, o_al, o_is, o_as, o_ls, o_inc, o_bi, o_bid, o_bl, o_bld, o_sl, o_i2l, o_l2i, o_dup, o_dup2, o_pop, o_pop2, o_if, o_i2, o_l2, swg, o_sw, o_gI, o_gZ, o_gJ, o_gA, o_gR, o_pI, o_pZ, o_pJ, o_pR, o_ia, o_iak, o_zak, o_ja, o_jak, o_is_, o_isk, o_zsk, o_js_, o_jsk, o_len, o_ri, o_rz, o_rl, o_rv, ls1, ls2, lks, lkj, List.getD_cons_zero, List.getD_cons_succ, List.set_cons_zero, List.set_cons_succ, qcat, true_and, and_true, List.map_nil, List.map_cons, List.sum_nil, List.sum_cons, Nat.reduceAdd, Nat.reduceLeDiff, Nat.zero_le, Int.reduceAdd, Int.reduceNeg, Int.reduceEq, or_true, true_or, Decidable.not_not, false_implies, not_false_eq_true, true_implies, not_true_eq_false, Int.reduceLT, Int.reduceLE]
  obtain ⟨rfl, rfl, hp⟩ := h
  refine ⟨rfl, hp, fun q σ1 h1 => ⟨⟨by decide, by decide⟩, by decide, hq _ _ (Or.inl ⟨q, σ1, h1, rfl, rfl⟩)⟩, fun t σ1 ht => ?_⟩
  have h2 : t = 2 ∨ t = 0 ∨ t = 1 := by
    unfold T_M_program at ht
    obtain ⟨-, ht⟩ := ht; rcases ht with ⟨-, e⟩ | ⟨-, -, e⟩ | ⟨-, -, -, -, e⟩ <;> omega
  rcases h2 with rfl | rfl | rfl <;> exact ⟨_, rfl, hq _ _ (Or.inr ⟨_, ht, rfl⟩)⟩
theorem c_L_program (l : Launch) (ad : Nat → Nat) (D : va_G) (cA : Nat → ClassId) : qLc l ad D cA y_L_program (Cond.codeWith y_L_program b_L_program 5 (some .int) hh_L_program :: lw_g) rm_L_program pre_L_program post_L_program := by
  refine qL_of (own := R_L) (tgs := tg_L_program) (by decide) rfl ⟨⟨by decide, by decide, by decide, lw_at 355 (by decide +kernel) rfl, ⟨4, 2, Or.inl ⟨d_L_program_13, rfl⟩, by decide, d_L_program_15, d_L_program_16⟩⟩, ⟨⟨by decide, by decide, by decide, lw_at 467 (by decide +kernel) rfl, ⟨4, 2, Or.inl ⟨d_L_program_17, rfl⟩, by decide, d_L_program_19, d_L_program_20⟩⟩, ⟨⟨by decide, by decide, by decide, lw_at 356 (by decide +kernel) rfl, ⟨4, 2, Or.inl ⟨d_L_program_21, rfl⟩, by decide, d_L_program_23, d_L_program_24⟩⟩, trivial⟩⟩⟩ ?_ ?_
  · intro av σ h; unfold pre_L_program at h; split at h
    · simp [qen]
    · exact h.elim
  · intro WW QR S Q Wr av σ hav hσ h hq; unfold pre_L_program at h; split at h
    next a1 a2 a3 a4 =>
      exact w_L_program S Q Wr a1 a2 a3 a4 σ (hav _ (List.mem_of_getElem? (i := 1) rfl)) (hav _ (List.mem_of_getElem? (i := 2) rfl)) hσ h (fun r σ' h' => hq _ σ' h')
    next => exact h.elim
def P_L_job (x : Nat) (j a b o n : Int) (σ : qS) : Prop := x = 900 ∧ P_M_jobs j a b o n σ
def Q_L_job (_x : Nat) (j a b o n : Int) (σ : qS) (r : Int) (σ' : qS) : Prop := (Q_M_jobs j a b o n σ σ' ∧ r = 0) ∨ (∃ t, T_M_jobs j a b o n σ t σ' ∧ tgf t [(2, 1), (0, 2), (1, 3)] = some r)
def hh_L_job : List (Nat × Nat × Nat × Nat) := [(0, 11, 14, 13), (0, 11, 18, 25), (0, 11, 22, 15)]
def tg_L_job : List (Nat × Int) := [(2, 1), (0, 2), (1, 3)]
def pre_L_job (av : List qA) (σ : qS) : Prop := match av with
  | [.inr (.inr a1), .inl a2, .inl a3, .inl a4, .inl a5, .inl a6] => P_L_job a1 a2 a3 a4 a5 a6 σ
  | _ => False
def post_L_job (av : List qA) (σ : qS) (r : Option qA) (σ' : qS) : Prop := match av, r with
  | [.inr (.inr a1), .inl a2, .inl a3, .inl a4, .inl a5, .inl a6], some (.inl r) => Q_L_job a1 a2 a3 a4 a5 a6 σ r σ'
  | _, _ => False
def oc_L_job (K : qP) : qP := fun st ls σ => match st with
  | .inl a6 :: .inl a5 :: .inl a4 :: .inl a3 :: .inl a2 :: .inr (.inr a1) :: st => (st.map qcat).sum ≤ 8 ∧ P_L_job a1 a2 a3 a4 a5 a6 σ ∧ ∀ (r : Int) (σ' : qS), Q_L_job a1 a2 a3 a4 a5 a6 σ r σ' → K (.inl r :: st) ls σ'
  | _ => False
def rm_L_job : Room := { frames := 8, cells := 1, slots := 6, locals := 126 }
theorem sw_L_31 {l : Launch} {R : Room} {ad : Nat → Nat} {D : va_G} {cA : Nat → ClassId} {cc : ByteArray} {hh : List (Nat × Nat × Nat × Nat)} {tgs : List (Nat × Int)} {WW : Nat → qP} {QR : Option qA → qS → Prop} (Wr : qWrp l R ad D cA R_L cc hh tgs WW QR) (hR : rm_M_jobs.frames + 1 ≤ R.frames ∧ 8 + (6 + 11) + rm_M_jobs.locals ≤ R.locals ∧ 0 + rm_M_jobs.cells ≤ R.cells ∧ 0 + rm_M_jobs.slots ≤ R.slots) {K : qP} {pc : Nat} (hcov : ∀ h ∈ hh, h.1 ≤ pc ∧ pc < h.2.1) (d : decode cc pc = .ok (.invokevirtual 31, 3)) (h : qle K WW (pc + 3)) : qle (ot_M_jobs (wq tgs QR) K) WW pc := by
  intro st ls σ k
  refine Wr 900 0 82 0 31 5 6 pc R_M F_M _ _ _ rm_M_jobs pre_M_jobs post_M_jobs pst_M_jobs K hcov (Or.inl ⟨rfl, rfl, rfl, rfl, rfl, rfl⟩) ⟨lw_at 508 (by decide +kernel) rfl, lw_at 505 (by decide +kernel) rfl, lw_at 59 (by decide +kernel) rfl, by decide, by decide, by decide +kernel⟩ ⟨lw_at 506 (by decide +kernel) rfl, lw_at 507 (by decide +kernel) rfl⟩ hR (c_M_jobs l ad D cA) ?_ d h st ls σ ?_
  · intro av σ h; unfold pre_M_jobs at h; split at h
    · obtain ⟨rfl, h⟩ := h; exact ⟨_, rfl⟩
    · exact h.elim
  · unfold ot_M_jobs at k
    split at k
    next a5 a4 a3 a2 a1 o st =>
      obtain ⟨rfl, hs, hp, k, kt⟩ := k
      refine ⟨[.inr (.inr 900), .inl a1, .inl a2, .inl a3, .inl a4, .inl a5], st, rfl, rfl, hs, ⟨rfl, hp⟩, fun r σ' hq => ?_, fun t σ' hq => kt t σ' hq⟩
      unfold post_M_jobs at hq
      split at hq
      next h1 =>
        cases h1
        exact k _ hq
      next => exact hq.elim
    next => exact k.elim
def k_L_job_26 (QR : Option qA → qS → Prop) (H : Nat → qP) : qP :=
  o_c (.inl 0) <| o_ri QR
def k_L_job_0 (QR : Option qA → qS → Prop) (H : Nat → qP) : qP :=
  o_al 0 <| o_il 1 <| o_il 2 <| o_il 3 <| o_il 4 <| o_il 5 <| ot_M_jobs (wq tg_L_job QR) <| k_L_job_26 QR H
set_option maxRecDepth 8000 in
theorem s_L_job_26 {l : Launch} {ad : Nat → Nat} {D : va_G} {cA : Nat → ClassId} {WW : Nat → qP} {QR : Option qA → qS → Prop} (S : qSnd l rm_L_job ad D cA R_L b_L_job 7 WW) (Q : qRet (some .int) b_L_job WW QR) (Wr : qWrp l rm_L_job ad D cA R_L b_L_job hh_L_job tg_L_job WW QR) : qle (k_L_job_26 QR WW) WW 26 :=
  S.iconst d_L_job_26 (by decide) <| Q.1 rfl _ d_L_job_27
set_option maxRecDepth 8000 in
theorem s_L_job_0 {l : Launch} {ad : Nat → Nat} {D : va_G} {cA : Nat → ClassId} {WW : Nat → qP} {QR : Option qA → qS → Prop} (S : qSnd l rm_L_job ad D cA R_L b_L_job 7 WW) (Q : qRet (some .int) b_L_job WW QR) (Wr : qWrp l rm_L_job ad D cA R_L b_L_job hh_L_job tg_L_job WW QR) : qle (k_L_job_0 QR WW) WW 0 :=
  S.aload_n d_L_job_0 rfl <| S.iload_n d_L_job_1 rfl <| S.iload_n d_L_job_2 rfl <| S.iload_n d_L_job_3 rfl <| S.iload d_L_job_4 <| S.iload d_L_job_6 <| sw_L_31 Wr (by decide) (by decide) d_L_job_8 <| S.goto d_L_job_11 (by decide) (s_L_job_26 S Q Wr)
theorem w_L_job {l : Launch} {ad : Nat → Nat} {D : va_G} {cA : Nat → ClassId} {WW : Nat → qP} {QR : Option qA → qS → Prop} (S : qSnd l rm_L_job ad D cA R_L b_L_job 7 WW) (Q : qRet (some .int) b_L_job WW QR) (Wr : qWrp l rm_L_job ad D cA R_L b_L_job hh_L_job tg_L_job WW QR) (a1 : Nat) (a2 : Int) (a3 : Int) (a4 : Int) (a5 : Int) (a6 : Int) (σ : qS) (ha2 : r32 a2) (ha3 : r32 a3) (ha4 : r32 a4) (ha5 : r32 a5) (ha6 : r32 a6) (hσ : qoS σ) (h : P_L_job a1 a2 a3 a4 a5 a6 σ) (hq : ∀ (r : Int) σ', Q_L_job a1 a2 a3 a4 a5 a6 σ r σ' → QR (some (.inl r)) σ') : WW 0 [] [some (.inr (.inr a1)), some (.inl a2), some (.inl a3), some (.inl a4), some (.inl a5), some (.inl a6), none] σ := by
  refine s_L_job_0 S Q Wr _ _ _ ?_
  simp only [k_L_job_0, k_L_job_26, ot_M_jobs, o_c, o_il, o_ll, o_al, o_is, o_as, o_ls, o_inc, o_bi, o_bid, o_bl, o_bld, o_sl, o_i2l, o_l2i, o_dup, o_dup2, o_pop, o_pop2, o_if, o_i2, o_l2, swg, o_sw, o_gI, o_gZ, o_gJ, o_gA, o_gR, o_pI, o_pZ, o_pJ, o_pR, o_ia, o_iak, o_zak, o_ja, o_jak, o_is_, o_isk, o_zsk, o_js_, o_jsk, o_len, o_ri, o_rz, o_rl, o_rv, ls1, ls2, lks, lkj, List.getD_cons_zero, List.getD_cons_succ, List.set_cons_zero, List.set_cons_succ, qcat, true_and, and_true, List.map_nil, List.map_cons, List.sum_nil, List.sum_cons, Nat.reduceAdd, Nat.reduceLeDiff, Nat.zero_le, Int.reduceAdd, Int.reduceNeg, Int.reduceEq, or_true, true_or, Decidable.not_not, false_implies, not_false_eq_true, true_implies, not_true_eq_false, Int.reduceLT, Int.reduceLE]
  obtain ⟨rfl, hp⟩ := h
  refine ⟨rfl, hp, fun σ1 h1 => hq _ _ (Or.inl ⟨h1, rfl⟩), fun t σ1 ht => ?_⟩
  have h2 : t = 2 ∨ t = 0 ∨ t = 1 := by
    unfold T_M_jobs at ht
    obtain ⟨-, ht⟩ := ht; rcases ht with ⟨-, e⟩ | ⟨-, -, e⟩ | ⟨-, -, -, e⟩ <;> omega
  rcases h2 with rfl | rfl | rfl <;> exact ⟨_, rfl, hq _ _ (Or.inr ⟨_, ht, rfl⟩)⟩
theorem c_L_job (l : Launch) (ad : Nat → Nat) (D : va_G) (cA : Nat → ClassId) : qLc l ad D cA y_L_job (Cond.codeWith y_L_job b_L_job 7 (some .int) hh_L_job :: lw_g) rm_L_job pre_L_job post_L_job := by
  refine qL_of (own := R_L) (tgs := tg_L_job) (by decide) rfl ⟨⟨by decide, by decide, by decide, lw_at 355 (by decide +kernel) rfl, ⟨6, 2, Or.inl ⟨d_L_job_14, rfl⟩, by decide, d_L_job_16, d_L_job_17⟩⟩, ⟨⟨by decide, by decide, by decide, lw_at 467 (by decide +kernel) rfl, ⟨6, 2, Or.inl ⟨d_L_job_18, rfl⟩, by decide, d_L_job_20, d_L_job_21⟩⟩, ⟨⟨by decide, by decide, by decide, lw_at 356 (by decide +kernel) rfl, ⟨6, 2, Or.inl ⟨d_L_job_22, rfl⟩, by decide, d_L_job_24, d_L_job_25⟩⟩, trivial⟩⟩⟩ ?_ ?_
  · intro av σ h; unfold pre_L_job at h; split at h
    · simp [qen]
    · exact h.elim
  · intro WW QR S Q Wr av σ hav hσ h hq; unfold pre_L_job at h; split at h
    next a1 a2 a3 a4 a5 a6 =>
      exact w_L_job S Q Wr a1 a2 a3 a4 a5 a6 σ (hav _ (List.mem_of_getElem? (i := 1) rfl)) (hav _ (List.mem_of_getElem? (i := 2) rfl)) (hav _ (List.mem_of_getElem? (i := 3) rfl)) (hav _ (List.mem_of_getElem? (i := 4) rfl)) (hav _ (List.mem_of_getElem? (i := 5) rfl)) hσ h (fun r σ' h' => hq _ σ' h')
    next => exact h.elim
def P_L_drop (x : Nat) (j : Int) (o9 : Nat) (σ : qS) : Prop := x = 900 ∧ o9 = 140 ∧ P_M_drop j σ
def Q_L_drop (_x : Nat) (j : Int) (_o9 : Nat) (σ : qS) (r : Int) (σ' : qS) : Prop := (∃ q σ1, Q_M_drop j σ q σ1 ∧ r = 0 ∧ σ' = su σ1 140 0 (if q = 0 then 0 else 1)) ∨ (∃ t, T_M_drop j σ t σ' ∧ tgf t [(2, 1), (1, 2)] = some r)
def hh_L_drop : List (Nat × Nat × Nat × Nat) := [(0, 16, 19, 13), (0, 16, 22, 15)]
def tg_L_drop : List (Nat × Int) := [(2, 1), (1, 2)]
def pre_L_drop (av : List qA) (σ : qS) : Prop := match av with
  | [.inr (.inr a1), .inl a2, .inr (.inr a3)] => P_L_drop a1 a2 a3 σ
  | _ => False
def post_L_drop (av : List qA) (σ : qS) (r : Option qA) (σ' : qS) : Prop := match av, r with
  | [.inr (.inr a1), .inl a2, .inr (.inr a3)], some (.inl r) => Q_L_drop a1 a2 a3 σ r σ'
  | _, _ => False
def oc_L_drop (K : qP) : qP := fun st ls σ => match st with
  | .inr (.inr a3) :: .inl a2 :: .inr (.inr a1) :: st => (st.map qcat).sum ≤ 8 ∧ P_L_drop a1 a2 a3 σ ∧ ∀ (r : Int) (σ' : qS), Q_L_drop a1 a2 a3 σ r σ' → K (.inl r :: st) ls σ'
  | _ => False
def rm_L_drop : Room := { frames := 9, cells := 1, slots := 6, locals := 143 }
theorem sw_L_35 {l : Launch} {R : Room} {ad : Nat → Nat} {D : va_G} {cA : Nat → ClassId} {cc : ByteArray} {hh : List (Nat × Nat × Nat × Nat)} {tgs : List (Nat × Int)} {WW : Nat → qP} {QR : Option qA → qS → Prop} (Wr : qWrp l R ad D cA R_L cc hh tgs WW QR) (hR : rm_M_drop.frames + 1 ≤ R.frames ∧ 8 + (3 + 11) + rm_M_drop.locals ≤ R.locals ∧ 0 + rm_M_drop.cells ≤ R.cells ∧ 0 + rm_M_drop.slots ≤ R.slots) {K : qP} {pc : Nat} (hcov : ∀ h ∈ hh, h.1 ≤ pc ∧ pc < h.2.1) (d : decode cc pc = .ok (.invokevirtual 35, 3)) (h : qle K WW (pc + 3)) : qle (ot_M_drop (wq tgs QR) K) WW pc := by
  intro st ls σ k
  refine Wr 900 0 82 0 35 1 3 pc R_M F_M _ _ _ rm_M_drop pre_M_drop post_M_drop pst_M_drop K hcov (Or.inl ⟨rfl, rfl, rfl, rfl, rfl, rfl⟩) ⟨lw_at 517 (by decide +kernel) rfl, lw_at 514 (by decide +kernel) rfl, lw_at 59 (by decide +kernel) rfl, by decide, by decide, by decide +kernel⟩ ⟨lw_at 515 (by decide +kernel) rfl, lw_at 516 (by decide +kernel) rfl⟩ hR (c_M_drop l ad D cA) ?_ d h st ls σ ?_
  · intro av σ h; unfold pre_M_drop at h; split at h
    · obtain ⟨rfl, h⟩ := h; exact ⟨_, rfl⟩
    · exact h.elim
  · unfold ot_M_drop at k
    split at k
    next a1 o st =>
      obtain ⟨rfl, hs, hp, k, kt⟩ := k
      refine ⟨[.inr (.inr 900), .inl a1], st, rfl, rfl, hs, ⟨rfl, hp⟩, fun r σ' hq => ?_, fun t σ' hq => kt t σ' hq⟩
      unfold post_M_drop at hq
      split at hq
      next h1 =>
        cases h1
        exact k _ _ hq
      next => exact hq.elim
    next => exact k.elim
def k_L_drop_25 (QR : Option qA → qS → Prop) (H : Nat → qP) : qP :=
  o_c (.inl 0) <| o_ri QR
def k_L_drop_15 (QR : Option qA → qS → Prop) (H : Nat → qP) : qP :=
  o_js_ <| k_L_drop_25 QR H
def k_L_drop_14 (QR : Option qA → qS → Prop) (H : Nat → qP) : qP :=
  o_c (.inr (.inl 0)) <| k_L_drop_15 QR H
def k_L_drop_10 (QR : Option qA → qS → Prop) (H : Nat → qP) : qP :=
  o_c (.inr (.inl 1)) <| k_L_drop_15 QR H
def k_L_drop_0 (QR : Option qA → qS → Prop) (H : Nat → qP) : qP :=
  o_al 2 <| o_c (.inl 0) <| o_al 0 <| o_il 1 <| ot_M_drop (wq tg_L_drop QR) <| o_if (fun a => a = 0) (k_L_drop_14 QR H) (k_L_drop_10 QR H)
set_option maxRecDepth 8000 in
theorem s_L_drop_25 {l : Launch} {ad : Nat → Nat} {D : va_G} {cA : Nat → ClassId} {WW : Nat → qP} {QR : Option qA → qS → Prop} (S : qSnd l rm_L_drop ad D cA R_L b_L_drop 4 WW) (Q : qRet (some .int) b_L_drop WW QR) (Wr : qWrp l rm_L_drop ad D cA R_L b_L_drop hh_L_drop tg_L_drop WW QR) : qle (k_L_drop_25 QR WW) WW 25 :=
  S.iconst d_L_drop_25 (by decide) <| Q.1 rfl _ d_L_drop_26
set_option maxRecDepth 8000 in
theorem s_L_drop_15 {l : Launch} {ad : Nat → Nat} {D : va_G} {cA : Nat → ClassId} {WW : Nat → qP} {QR : Option qA → qS → Prop} (S : qSnd l rm_L_drop ad D cA R_L b_L_drop 4 WW) (Q : qRet (some .int) b_L_drop WW QR) (Wr : qWrp l rm_L_drop ad D cA R_L b_L_drop hh_L_drop tg_L_drop WW QR) : qle (k_L_drop_15 QR WW) WW 15 :=
  S.jast d_L_drop_15 <| S.goto d_L_drop_16 (by decide) (s_L_drop_25 S Q Wr)
set_option maxRecDepth 8000 in
theorem s_L_drop_14 {l : Launch} {ad : Nat → Nat} {D : va_G} {cA : Nat → ClassId} {WW : Nat → qP} {QR : Option qA → qS → Prop} (S : qSnd l rm_L_drop ad D cA R_L b_L_drop 4 WW) (Q : qRet (some .int) b_L_drop WW QR) (Wr : qWrp l rm_L_drop ad D cA R_L b_L_drop hh_L_drop tg_L_drop WW QR) : qle (k_L_drop_14 QR WW) WW 14 :=
  S.lconst d_L_drop_14 (by decide) <| (s_L_drop_15 S Q Wr)
set_option maxRecDepth 8000 in
theorem s_L_drop_10 {l : Launch} {ad : Nat → Nat} {D : va_G} {cA : Nat → ClassId} {WW : Nat → qP} {QR : Option qA → qS → Prop} (S : qSnd l rm_L_drop ad D cA R_L b_L_drop 4 WW) (Q : qRet (some .int) b_L_drop WW QR) (Wr : qWrp l rm_L_drop ad D cA R_L b_L_drop hh_L_drop tg_L_drop WW QR) : qle (k_L_drop_10 QR WW) WW 10 :=
  S.lconst d_L_drop_10 (by decide) <| S.goto d_L_drop_11 (by decide) (s_L_drop_15 S Q Wr)
set_option maxRecDepth 8000 in
theorem s_L_drop_0 {l : Launch} {ad : Nat → Nat} {D : va_G} {cA : Nat → ClassId} {WW : Nat → qP} {QR : Option qA → qS → Prop} (S : qSnd l rm_L_drop ad D cA R_L b_L_drop 4 WW) (Q : qRet (some .int) b_L_drop WW QR) (Wr : qWrp l rm_L_drop ad D cA R_L b_L_drop hh_L_drop tg_L_drop WW QR) : qle (k_L_drop_0 QR WW) WW 0 :=
  S.aload_n d_L_drop_0 rfl <| S.iconst d_L_drop_1 (by decide) <| S.aload_n d_L_drop_2 rfl <| S.iload_n d_L_drop_3 rfl <| sw_L_35 Wr (by decide) (by decide) d_L_drop_4 <| S.if_eq d_L_drop_7 (by decide) (s_L_drop_14 S Q Wr) (s_L_drop_10 S Q Wr)
theorem w_L_drop {l : Launch} {ad : Nat → Nat} {D : va_G} {cA : Nat → ClassId} {WW : Nat → qP} {QR : Option qA → qS → Prop} (S : qSnd l rm_L_drop ad D cA R_L b_L_drop 4 WW) (Q : qRet (some .int) b_L_drop WW QR) (Wr : qWrp l rm_L_drop ad D cA R_L b_L_drop hh_L_drop tg_L_drop WW QR) (a1 : Nat) (a2 : Int) (a3 : Nat) (σ : qS) (ha2 : r32 a2) (hσ : qoS σ) (h : P_L_drop a1 a2 a3 σ) (hq : ∀ (r : Int) σ', Q_L_drop a1 a2 a3 σ r σ' → QR (some (.inl r)) σ') : WW 0 [] [some (.inr (.inr a1)), some (.inl a2), some (.inr (.inr a3)), none] σ := by
  refine s_L_drop_0 S Q Wr _ _ _ ?_
  simp only [k_L_drop_0, k_L_drop_10, k_L_drop_14, k_L_drop_15, k_L_drop_25, ot_M_drop, o_c, o_il, o_ll, o_al, o_is, o_as, o_ls, o_inc, o_bi, o_bid, o_bl, o_bld, o_sl, o_i2l, o_l2i, o_dup, o_dup2, o_pop, o_pop2, o_if, o_i2, o_l2, swg, o_sw, o_gI, o_gZ, o_gJ, o_gA, o_gR, o_pI, o_pZ, o_pJ, o_pR, o_ia, o_iak, o_zak, o_ja, o_jak, o_is_, o_isk, o_zsk, o_js_, o_jsk, o_len, o_ri, o_rz, o_rl, o_rv, ls1, ls2, lks, lkj, List.getD_cons_zero, List.getD_cons_succ, List.set_cons_zero, List.set_cons_succ, qcat, true_and, and_true, List.map_nil, List.map_cons, List.sum_nil, List.sum_cons, Nat.reduceAdd, Nat.reduceLeDiff, Nat.zero_le, Int.reduceAdd, Int.reduceNeg, Int.reduceEq, or_true, true_or, Decidable.not_not, false_implies, not_false_eq_true, true_implies, not_true_eq_false, Int.reduceLT, Int.reduceLE]
  obtain ⟨rfl, rfl, hp⟩ := h
  refine ⟨rfl, hp, fun q σ1 h1 => ⟨fun e => ⟨⟨by decide, by decide⟩, by decide, hq _ _ (Or.inl ⟨q, σ1, h1, rfl, by rw [if_pos e]⟩)⟩, fun e => ⟨⟨by decide, by decide⟩, by decide, hq _ _ (Or.inl ⟨q, σ1, h1, rfl, by rw [if_neg e]⟩)⟩⟩, fun t σ1 ht => ?_⟩
  have h2 : t = 2 ∨ t = 1 := by
    unfold T_M_drop at ht
    obtain ⟨-, ht⟩ := ht; rcases ht with ⟨-, e⟩ | ⟨-, -, e⟩ <;> omega
  rcases h2 with rfl | rfl <;> exact ⟨_, rfl, hq _ _ (Or.inr ⟨_, ht, rfl⟩)⟩
theorem c_L_drop (l : Launch) (ad : Nat → Nat) (D : va_G) (cA : Nat → ClassId) : qLc l ad D cA y_L_drop (Cond.codeWith y_L_drop b_L_drop 4 (some .int) hh_L_drop :: lw_g) rm_L_drop pre_L_drop post_L_drop := by
  refine qL_of (own := R_L) (tgs := tg_L_drop) (by decide) rfl ⟨⟨by decide, by decide, by decide, lw_at 355 (by decide +kernel) rfl, ⟨3, 1, Or.inr ⟨⟨3, by decide⟩, rfl, d_L_drop_19, rfl⟩, by decide, d_L_drop_20, d_L_drop_21⟩⟩, ⟨⟨by decide, by decide, by decide, lw_at 356 (by decide +kernel) rfl, ⟨3, 1, Or.inr ⟨⟨3, by decide⟩, rfl, d_L_drop_22, rfl⟩, by decide, d_L_drop_23, d_L_drop_24⟩⟩, trivial⟩⟩ ?_ ?_
  · intro av σ h; unfold pre_L_drop at h; split at h
    · simp [qen]
    · exact h.elim
  · intro WW QR S Q Wr av σ hav hσ h hq; unfold pre_L_drop at h; split at h
    next a1 a2 a3 =>
      exact w_L_drop S Q Wr a1 a2 a3 σ (hav _ (List.mem_of_getElem? (i := 1) rfl)) hσ h (fun r σ' h' => hq _ σ' h')
    next => exact h.elim
def P_L_begin (x : Nat) (o9 : Nat) (σ : qS) : Prop := x = 900 ∧ o9 = 140 ∧ P_M_begin  σ
def Q_L_begin (_x : Nat) (_o9 : Nat) (σ : qS) (r : Int) (σ' : qS) : Prop := (∃ q σ1, Q_M_begin  σ q σ1 ∧ r = 0 ∧ σ' = su σ1 140 0 q) ∨ (∃ t, T_M_begin  σ t σ' ∧ tgf t [(1, 1), (3, 2)] = some r)
def hh_L_begin : List (Nat × Nat × Nat × Nat) := [(0, 8, 11, 15), (0, 8, 14, 43)]
def tg_L_begin : List (Nat × Int) := [(1, 1), (3, 2)]
def pre_L_begin (av : List qA) (σ : qS) : Prop := match av with
  | [.inr (.inr a1), .inr (.inr a2)] => P_L_begin a1 a2 σ
  | _ => False
def post_L_begin (av : List qA) (σ : qS) (r : Option qA) (σ' : qS) : Prop := match av, r with
  | [.inr (.inr a1), .inr (.inr a2)], some (.inl r) => Q_L_begin a1 a2 σ r σ'
  | _, _ => False
def oc_L_begin (K : qP) : qP := fun st ls σ => match st with
  | .inr (.inr a2) :: .inr (.inr a1) :: st => (st.map qcat).sum ≤ 8 ∧ P_L_begin a1 a2 σ ∧ ∀ (r : Int) (σ' : qS), Q_L_begin a1 a2 σ r σ' → K (.inl r :: st) ls σ'
  | _ => False
def rm_L_begin : Room := { frames := 9, cells := 1, slots := 6, locals := 144 }
theorem sw_L_39 {l : Launch} {R : Room} {ad : Nat → Nat} {D : va_G} {cA : Nat → ClassId} {cc : ByteArray} {hh : List (Nat × Nat × Nat × Nat)} {tgs : List (Nat × Int)} {WW : Nat → qP} {QR : Option qA → qS → Prop} (Wr : qWrp l R ad D cA R_L cc hh tgs WW QR) (hR : rm_M_begin.frames + 1 ≤ R.frames ∧ 8 + (4 + 11) + rm_M_begin.locals ≤ R.locals ∧ 0 + rm_M_begin.cells ≤ R.cells ∧ 0 + rm_M_begin.slots ≤ R.slots) {K : qP} {pc : Nat} (hcov : ∀ h ∈ hh, h.1 ≤ pc ∧ pc < h.2.1) (d : decode cc pc = .ok (.invokevirtual 39, 3)) (h : qle K WW (pc + 3)) : qle (ot_M_begin (wq tgs QR) K) WW pc := by
  intro st ls σ k
  refine Wr 900 0 82 0 39 0 4 pc R_M F_M _ _ _ rm_M_begin pre_M_begin post_M_begin pst_M_begin K hcov (Or.inl ⟨rfl, rfl, rfl, rfl, rfl, rfl⟩) ⟨lw_at 525 (by decide +kernel) rfl, lw_at 522 (by decide +kernel) rfl, lw_at 59 (by decide +kernel) rfl, by decide, by decide, by decide +kernel⟩ ⟨lw_at 523 (by decide +kernel) rfl, lw_at 524 (by decide +kernel) rfl⟩ hR (c_M_begin l ad D cA) ?_ d h st ls σ ?_
  · intro av σ h; unfold pre_M_begin at h; split at h
    · obtain ⟨rfl, h⟩ := h; exact ⟨_, rfl⟩
    · exact h.elim
  · unfold ot_M_begin at k
    split at k
    next o st =>
      obtain ⟨rfl, hs, hp, k, kt⟩ := k
      refine ⟨[.inr (.inr 900)], st, rfl, rfl, hs, ⟨rfl, hp⟩, fun r σ' hq => ?_, fun t σ' hq => kt t σ' hq⟩
      unfold post_M_begin at hq
      split at hq
      next h1 =>
        cases h1
        exact k _ _ hq
      next => exact hq.elim
    next => exact k.elim
def k_L_begin_17 (QR : Option qA → qS → Prop) (H : Nat → qP) : qP :=
  o_c (.inl 0) <| o_ri QR
def k_L_begin_0 (QR : Option qA → qS → Prop) (H : Nat → qP) : qP :=
  o_al 1 <| o_c (.inl 0) <| o_al 0 <| ot_M_begin (wq tg_L_begin QR) <| o_i2l <| o_js_ <| k_L_begin_17 QR H
set_option maxRecDepth 8000 in
theorem s_L_begin_17 {l : Launch} {ad : Nat → Nat} {D : va_G} {cA : Nat → ClassId} {WW : Nat → qP} {QR : Option qA → qS → Prop} (S : qSnd l rm_L_begin ad D cA R_L b_L_begin 3 WW) (Q : qRet (some .int) b_L_begin WW QR) (Wr : qWrp l rm_L_begin ad D cA R_L b_L_begin hh_L_begin tg_L_begin WW QR) : qle (k_L_begin_17 QR WW) WW 17 :=
  S.iconst d_L_begin_17 (by decide) <| Q.1 rfl _ d_L_begin_18
set_option maxRecDepth 8000 in
theorem s_L_begin_0 {l : Launch} {ad : Nat → Nat} {D : va_G} {cA : Nat → ClassId} {WW : Nat → qP} {QR : Option qA → qS → Prop} (S : qSnd l rm_L_begin ad D cA R_L b_L_begin 3 WW) (Q : qRet (some .int) b_L_begin WW QR) (Wr : qWrp l rm_L_begin ad D cA R_L b_L_begin hh_L_begin tg_L_begin WW QR) : qle (k_L_begin_0 QR WW) WW 0 :=
  S.aload_n d_L_begin_0 rfl <| S.iconst d_L_begin_1 (by decide) <| S.aload_n d_L_begin_2 rfl <| sw_L_39 Wr (by decide) (by decide) d_L_begin_3 <| S.i2l d_L_begin_6 <| S.jast d_L_begin_7 <| S.goto d_L_begin_8 (by decide) (s_L_begin_17 S Q Wr)
theorem w_L_begin {l : Launch} {ad : Nat → Nat} {D : va_G} {cA : Nat → ClassId} {WW : Nat → qP} {QR : Option qA → qS → Prop} (S : qSnd l rm_L_begin ad D cA R_L b_L_begin 3 WW) (Q : qRet (some .int) b_L_begin WW QR) (Wr : qWrp l rm_L_begin ad D cA R_L b_L_begin hh_L_begin tg_L_begin WW QR) (a1 : Nat) (a2 : Nat) (σ : qS)  (hσ : qoS σ) (h : P_L_begin a1 a2 σ) (hq : ∀ (r : Int) σ', Q_L_begin a1 a2 σ r σ' → QR (some (.inl r)) σ') : WW 0 [] [some (.inr (.inr a1)), some (.inr (.inr a2)), none] σ := by
  refine s_L_begin_0 S Q Wr _ _ _ ?_
  simp only [k_L_begin_0, k_L_begin_17, ot_M_begin, o_c, o_il, o_ll, o_al, o_is, o_as, o_ls, o_inc, o_bi, o_bid, o_bl, o_bld, o_sl, o_i2l, o_l2i, o_dup, o_dup2, o_pop, o_pop2, o_if, o_i2, o_l2, swg, o_sw, o_gI, o_gZ, o_gJ, o_gA, o_gR, o_pI, o_pZ, o_pJ, o_pR, o_ia, o_iak, o_zak, o_ja, o_jak, o_is_, o_isk, o_zsk, o_js_, o_jsk, o_len, o_ri, o_rz, o_rl, o_rv, ls1, ls2, lks, lkj, List.getD_cons_zero, List.getD_cons_succ, List.set_cons_zero, List.set_cons_succ, qcat, true_and, and_true, List.map_nil, List.map_cons, List.sum_nil, List.sum_cons, Nat.reduceAdd, Nat.reduceLeDiff, Nat.zero_le, Int.reduceAdd, Int.reduceNeg, Int.reduceEq, or_true, true_or, Decidable.not_not, false_implies, not_false_eq_true, true_implies, not_true_eq_false, Int.reduceLT, Int.reduceLE]
  obtain ⟨rfl, rfl, hp⟩ := h
  refine ⟨rfl, hp, fun q σ1 h1 => ⟨⟨by decide, by decide⟩, by decide, hq _ _ (Or.inl ⟨q, σ1, h1, rfl, rfl⟩)⟩, fun t σ1 ht => ?_⟩
  have h2 : t = 1 ∨ t = 3 := by
    unfold T_M_begin at ht
    rcases ht with ⟨-, e, -⟩ | ⟨-, e, -⟩ <;> omega
  rcases h2 with rfl | rfl <;> exact ⟨_, rfl, hq _ _ (Or.inr ⟨_, ht, rfl⟩)⟩
theorem c_L_begin (l : Launch) (ad : Nat → Nat) (D : va_G) (cA : Nat → ClassId) : qLc l ad D cA y_L_begin (Cond.codeWith y_L_begin b_L_begin 3 (some .int) hh_L_begin :: lw_g) rm_L_begin pre_L_begin post_L_begin := by
  refine qL_of (own := R_L) (tgs := tg_L_begin) (by decide) rfl ⟨⟨by decide, by decide, by decide, lw_at 356 (by decide +kernel) rfl, ⟨2, 1, Or.inr ⟨⟨2, by decide⟩, rfl, d_L_begin_11, rfl⟩, by decide, d_L_begin_12, d_L_begin_13⟩⟩, ⟨⟨by decide, by decide, by decide, lw_at 521 (by decide +kernel) rfl, ⟨2, 1, Or.inr ⟨⟨2, by decide⟩, rfl, d_L_begin_14, rfl⟩, by decide, d_L_begin_15, d_L_begin_16⟩⟩, trivial⟩⟩ ?_ ?_
  · intro av σ h; unfold pre_L_begin at h; split at h
    · simp [qen]
    · exact h.elim
  · intro WW QR S Q Wr av σ hav hσ h hq; unfold pre_L_begin at h; split at h
    next a1 a2 =>
      exact w_L_begin S Q Wr a1 a2 σ  hσ h (fun r σ' h' => hq _ σ' h')
    next => exact h.elim
def P_L_tick (x : Nat) (w n : Int) (σ : qS) : Prop := x = 900 ∧ P_M_tick w n σ
def Q_L_tick (_x : Nat) (w n : Int) (σ : qS) (r : Int) (σ' : qS) : Prop := (Q_M_tick w n σ σ' ∧ r = 0) ∨ (∃ t, T_M_tick w n σ t σ' ∧ tgf t [(2, 1), (0, 2), (1, 3)] = some r)
def hh_L_tick : List (Nat × Nat × Nat × Nat) := [(0, 6, 9, 13), (0, 6, 12, 25), (0, 6, 15, 15)]
def tg_L_tick : List (Nat × Int) := [(2, 1), (0, 2), (1, 3)]
def pre_L_tick (av : List qA) (σ : qS) : Prop := match av with
  | [.inr (.inr a1), .inl a2, .inl a3] => P_L_tick a1 a2 a3 σ
  | _ => False
def post_L_tick (av : List qA) (σ : qS) (r : Option qA) (σ' : qS) : Prop := match av, r with
  | [.inr (.inr a1), .inl a2, .inl a3], some (.inl r) => Q_L_tick a1 a2 a3 σ r σ'
  | _, _ => False
def oc_L_tick (K : qP) : qP := fun st ls σ => match st with
  | .inl a3 :: .inl a2 :: .inr (.inr a1) :: st => (st.map qcat).sum ≤ 8 ∧ P_L_tick a1 a2 a3 σ ∧ ∀ (r : Int) (σ' : qS), Q_L_tick a1 a2 a3 σ r σ' → K (.inl r :: st) ls σ'
  | _ => False
def rm_L_tick : Room := { frames := 10, cells := 1, slots := 6, locals := 243 }
theorem sw_L_45 {l : Launch} {R : Room} {ad : Nat → Nat} {D : va_G} {cA : Nat → ClassId} {cc : ByteArray} {hh : List (Nat × Nat × Nat × Nat)} {tgs : List (Nat × Int)} {WW : Nat → qP} {QR : Option qA → qS → Prop} (Wr : qWrp l R ad D cA R_L cc hh tgs WW QR) (hR : rm_M_tick.frames + 1 ≤ R.frames ∧ 8 + (4 + 11) + rm_M_tick.locals ≤ R.locals ∧ 0 + rm_M_tick.cells ≤ R.cells ∧ 0 + rm_M_tick.slots ≤ R.slots) {K : qP} {pc : Nat} (hcov : ∀ h ∈ hh, h.1 ≤ pc ∧ pc < h.2.1) (d : decode cc pc = .ok (.invokevirtual 45, 3)) (h : qle K WW (pc + 3)) : qle (ot_M_tick (wq tgs QR) K) WW pc := by
  intro st ls σ k
  refine Wr 900 0 82 0 45 2 4 pc R_M F_M _ _ _ rm_M_tick pre_M_tick post_M_tick pst_M_tick K hcov (Or.inl ⟨rfl, rfl, rfl, rfl, rfl, rfl⟩) ⟨lw_at 559 (by decide +kernel) rfl, lw_at 556 (by decide +kernel) rfl, lw_at 59 (by decide +kernel) rfl, by decide, by decide, by decide +kernel⟩ ⟨lw_at 557 (by decide +kernel) rfl, lw_at 558 (by decide +kernel) rfl⟩ hR (c_M_tick l ad D cA) ?_ d h st ls σ ?_
  · intro av σ h; unfold pre_M_tick at h; split at h
    · obtain ⟨rfl, h⟩ := h; exact ⟨_, rfl⟩
    · exact h.elim
  · unfold ot_M_tick at k
    split at k
    next a2 a1 o st =>
      obtain ⟨rfl, hs, hp, k, kt⟩ := k
      refine ⟨[.inr (.inr 900), .inl a1, .inl a2], st, rfl, rfl, hs, ⟨rfl, hp⟩, fun r σ' hq => ?_, fun t σ' hq => kt t σ' hq⟩
      unfold post_M_tick at hq
      split at hq
      next h1 =>
        cases h1
        exact k _ hq
      next => exact hq.elim
    next => exact k.elim
def k_L_tick_18 (QR : Option qA → qS → Prop) (H : Nat → qP) : qP :=
  o_c (.inl 0) <| o_ri QR
def k_L_tick_0 (QR : Option qA → qS → Prop) (H : Nat → qP) : qP :=
  o_al 0 <| o_il 1 <| o_il 2 <| ot_M_tick (wq tg_L_tick QR) <| k_L_tick_18 QR H
set_option maxRecDepth 8000 in
theorem s_L_tick_18 {l : Launch} {ad : Nat → Nat} {D : va_G} {cA : Nat → ClassId} {WW : Nat → qP} {QR : Option qA → qS → Prop} (S : qSnd l rm_L_tick ad D cA R_L b_L_tick 4 WW) (Q : qRet (some .int) b_L_tick WW QR) (Wr : qWrp l rm_L_tick ad D cA R_L b_L_tick hh_L_tick tg_L_tick WW QR) : qle (k_L_tick_18 QR WW) WW 18 :=
  S.iconst d_L_tick_18 (by decide) <| Q.1 rfl _ d_L_tick_19
set_option maxRecDepth 8000 in
theorem s_L_tick_0 {l : Launch} {ad : Nat → Nat} {D : va_G} {cA : Nat → ClassId} {WW : Nat → qP} {QR : Option qA → qS → Prop} (S : qSnd l rm_L_tick ad D cA R_L b_L_tick 4 WW) (Q : qRet (some .int) b_L_tick WW QR) (Wr : qWrp l rm_L_tick ad D cA R_L b_L_tick hh_L_tick tg_L_tick WW QR) : qle (k_L_tick_0 QR WW) WW 0 :=
  S.aload_n d_L_tick_0 rfl <| S.iload_n d_L_tick_1 rfl <| S.iload_n d_L_tick_2 rfl <| sw_L_45 Wr (by decide) (by decide) d_L_tick_3 <| S.goto d_L_tick_6 (by decide) (s_L_tick_18 S Q Wr)
theorem w_L_tick {l : Launch} {ad : Nat → Nat} {D : va_G} {cA : Nat → ClassId} {WW : Nat → qP} {QR : Option qA → qS → Prop} (S : qSnd l rm_L_tick ad D cA R_L b_L_tick 4 WW) (Q : qRet (some .int) b_L_tick WW QR) (Wr : qWrp l rm_L_tick ad D cA R_L b_L_tick hh_L_tick tg_L_tick WW QR) (a1 : Nat) (a2 : Int) (a3 : Int) (σ : qS) (ha2 : r32 a2) (ha3 : r32 a3) (hσ : qoS σ) (h : P_L_tick a1 a2 a3 σ) (hq : ∀ (r : Int) σ', Q_L_tick a1 a2 a3 σ r σ' → QR (some (.inl r)) σ') : WW 0 [] [some (.inr (.inr a1)), some (.inl a2), some (.inl a3), none] σ := by
  refine s_L_tick_0 S Q Wr _ _ _ ?_
  simp only [k_L_tick_0, k_L_tick_18, ot_M_tick, o_c, o_il, o_ll, o_al, o_is, o_as, o_ls, o_inc, o_bi, o_bid, o_bl, o_bld, o_sl, o_i2l, o_l2i, o_dup, o_dup2, o_pop, o_pop2, o_if, o_i2, o_l2, swg, o_sw, o_gI, o_gZ, o_gJ, o_gA, o_gR, o_pI, o_pZ, o_pJ, o_pR, o_ia, o_iak, o_zak, o_ja, o_jak, o_is_, o_isk, o_zsk, o_js_, o_jsk, o_len, o_ri, o_rz, o_rl, o_rv, ls1, ls2, lks, lkj, List.getD_cons_zero, List.getD_cons_succ, List.set_cons_zero, List.set_cons_succ, qcat, true_and, and_true, List.map_nil, List.map_cons, List.sum_nil, List.sum_cons, Nat.reduceAdd, Nat.reduceLeDiff, Nat.zero_le, Int.reduceAdd, Int.reduceNeg, Int.reduceEq, or_true, true_or, Decidable.not_not, false_implies, not_false_eq_true, true_implies, not_true_eq_false, Int.reduceLT, Int.reduceLE]
  obtain ⟨rfl, hp⟩ := h
  refine ⟨rfl, hp, fun σ1 h1 => hq _ _ (Or.inl ⟨h1, rfl⟩), fun t σ1 ht => ?_⟩
  have h2 : t = 2 ∨ t = 0 ∨ t = 1 := by
    unfold T_M_tick at ht
    obtain ⟨-, ht⟩ := ht; rcases ht with ⟨-, e⟩ | ⟨-, -, e⟩ | ⟨-, -, -, e⟩ <;> omega
  rcases h2 with rfl | rfl | rfl <;> exact ⟨_, rfl, hq _ _ (Or.inr ⟨_, ht, rfl⟩)⟩
theorem c_L_tick (l : Launch) (ad : Nat → Nat) (D : va_G) (cA : Nat → ClassId) : qLc l ad D cA y_L_tick (Cond.codeWith y_L_tick b_L_tick 4 (some .int) hh_L_tick :: lw_g) rm_L_tick pre_L_tick post_L_tick := by
  refine qL_of (own := R_L) (tgs := tg_L_tick) (by decide) rfl ⟨⟨by decide, by decide, by decide, lw_at 355 (by decide +kernel) rfl, ⟨3, 1, Or.inr ⟨⟨3, by decide⟩, rfl, d_L_tick_9, rfl⟩, by decide, d_L_tick_10, d_L_tick_11⟩⟩, ⟨⟨by decide, by decide, by decide, lw_at 467 (by decide +kernel) rfl, ⟨3, 1, Or.inr ⟨⟨3, by decide⟩, rfl, d_L_tick_12, rfl⟩, by decide, d_L_tick_13, d_L_tick_14⟩⟩, ⟨⟨by decide, by decide, by decide, lw_at 356 (by decide +kernel) rfl, ⟨3, 1, Or.inr ⟨⟨3, by decide⟩, rfl, d_L_tick_15, rfl⟩, by decide, d_L_tick_16, d_L_tick_17⟩⟩, trivial⟩⟩⟩ ?_ ?_
  · intro av σ h; unfold pre_L_tick at h; split at h
    · simp [qen]
    · exact h.elim
  · intro WW QR S Q Wr av σ hav hσ h hq; unfold pre_L_tick at h; split at h
    next a1 a2 a3 =>
      exact w_L_tick S Q Wr a1 a2 a3 σ (hav _ (List.mem_of_getElem? (i := 1) rfl)) (hav _ (List.mem_of_getElem? (i := 2) rfl)) hσ h (fun r σ' h' => hq _ σ' h')
    next => exact h.elim
def P_L_crash (x : Nat) (w : Int) (σ : qS) : Prop := x = 900 ∧ P_M_crash w σ
def Q_L_crash (_x : Nat) (w : Int) (σ : qS) (r : Int) (σ' : qS) : Prop := (Q_M_crash w σ σ' ∧ r = 0) ∨ (∃ t, T_M_crash w σ t σ' ∧ tgf t [(2, 1), (1, 2)] = some r)
def hh_L_crash : List (Nat × Nat × Nat × Nat) := [(0, 5, 8, 13), (0, 5, 11, 15)]
def tg_L_crash : List (Nat × Int) := [(2, 1), (1, 2)]
def pre_L_crash (av : List qA) (σ : qS) : Prop := match av with
  | [.inr (.inr a1), .inl a2] => P_L_crash a1 a2 σ
  | _ => False
def post_L_crash (av : List qA) (σ : qS) (r : Option qA) (σ' : qS) : Prop := match av, r with
  | [.inr (.inr a1), .inl a2], some (.inl r) => Q_L_crash a1 a2 σ r σ'
  | _, _ => False
def oc_L_crash (K : qP) : qP := fun st ls σ => match st with
  | .inl a2 :: .inr (.inr a1) :: st => (st.map qcat).sum ≤ 8 ∧ P_L_crash a1 a2 σ ∧ ∀ (r : Int) (σ' : qS), Q_L_crash a1 a2 σ r σ' → K (.inl r :: st) ls σ'
  | _ => False
def rm_L_crash : Room := { frames := 8, cells := 1, slots := 6, locals := 122 }
theorem sw_L_49 {l : Launch} {R : Room} {ad : Nat → Nat} {D : va_G} {cA : Nat → ClassId} {cc : ByteArray} {hh : List (Nat × Nat × Nat × Nat)} {tgs : List (Nat × Int)} {WW : Nat → qP} {QR : Option qA → qS → Prop} (Wr : qWrp l R ad D cA R_L cc hh tgs WW QR) (hR : rm_M_crash.frames + 1 ≤ R.frames ∧ 8 + (2 + 11) + rm_M_crash.locals ≤ R.locals ∧ 0 + rm_M_crash.cells ≤ R.cells ∧ 0 + rm_M_crash.slots ≤ R.slots) {K : qP} {pc : Nat} (hcov : ∀ h ∈ hh, h.1 ≤ pc ∧ pc < h.2.1) (d : decode cc pc = .ok (.invokevirtual 49, 3)) (h : qle K WW (pc + 3)) : qle (ot_M_crash (wq tgs QR) K) WW pc := by
  intro st ls σ k
  refine Wr 900 0 82 0 49 1 2 pc R_M F_M _ _ _ rm_M_crash pre_M_crash post_M_crash pst_M_crash K hcov (Or.inl ⟨rfl, rfl, rfl, rfl, rfl, rfl⟩) ⟨lw_at 739 (by decide +kernel) rfl, lw_at 736 (by decide +kernel) rfl, lw_at 59 (by decide +kernel) rfl, by decide, by decide, by decide +kernel⟩ ⟨lw_at 737 (by decide +kernel) rfl, lw_at 738 (by decide +kernel) rfl⟩ hR (c_M_crash l ad D cA) ?_ d h st ls σ ?_
  · intro av σ h; unfold pre_M_crash at h; split at h
    · obtain ⟨rfl, h⟩ := h; exact ⟨_, rfl⟩
    · exact h.elim
  · unfold ot_M_crash at k
    split at k
    next a1 o st =>
      obtain ⟨rfl, hs, hp, k, kt⟩ := k
      refine ⟨[.inr (.inr 900), .inl a1], st, rfl, rfl, hs, ⟨rfl, hp⟩, fun r σ' hq => ?_, fun t σ' hq => kt t σ' hq⟩
      unfold post_M_crash at hq
      split at hq
      next h1 =>
        cases h1
        exact k _ hq
      next => exact hq.elim
    next => exact k.elim
def k_L_crash_14 (QR : Option qA → qS → Prop) (H : Nat → qP) : qP :=
  o_c (.inl 0) <| o_ri QR
def k_L_crash_0 (QR : Option qA → qS → Prop) (H : Nat → qP) : qP :=
  o_al 0 <| o_il 1 <| ot_M_crash (wq tg_L_crash QR) <| k_L_crash_14 QR H
set_option maxRecDepth 8000 in
theorem s_L_crash_14 {l : Launch} {ad : Nat → Nat} {D : va_G} {cA : Nat → ClassId} {WW : Nat → qP} {QR : Option qA → qS → Prop} (S : qSnd l rm_L_crash ad D cA R_L b_L_crash 3 WW) (Q : qRet (some .int) b_L_crash WW QR) (Wr : qWrp l rm_L_crash ad D cA R_L b_L_crash hh_L_crash tg_L_crash WW QR) : qle (k_L_crash_14 QR WW) WW 14 :=
  S.iconst d_L_crash_14 (by decide) <| Q.1 rfl _ d_L_crash_15
set_option maxRecDepth 8000 in
theorem s_L_crash_0 {l : Launch} {ad : Nat → Nat} {D : va_G} {cA : Nat → ClassId} {WW : Nat → qP} {QR : Option qA → qS → Prop} (S : qSnd l rm_L_crash ad D cA R_L b_L_crash 3 WW) (Q : qRet (some .int) b_L_crash WW QR) (Wr : qWrp l rm_L_crash ad D cA R_L b_L_crash hh_L_crash tg_L_crash WW QR) : qle (k_L_crash_0 QR WW) WW 0 :=
  S.aload_n d_L_crash_0 rfl <| S.iload_n d_L_crash_1 rfl <| sw_L_49 Wr (by decide) (by decide) d_L_crash_2 <| S.goto d_L_crash_5 (by decide) (s_L_crash_14 S Q Wr)
theorem w_L_crash {l : Launch} {ad : Nat → Nat} {D : va_G} {cA : Nat → ClassId} {WW : Nat → qP} {QR : Option qA → qS → Prop} (S : qSnd l rm_L_crash ad D cA R_L b_L_crash 3 WW) (Q : qRet (some .int) b_L_crash WW QR) (Wr : qWrp l rm_L_crash ad D cA R_L b_L_crash hh_L_crash tg_L_crash WW QR) (a1 : Nat) (a2 : Int) (σ : qS) (ha2 : r32 a2) (hσ : qoS σ) (h : P_L_crash a1 a2 σ) (hq : ∀ (r : Int) σ', Q_L_crash a1 a2 σ r σ' → QR (some (.inl r)) σ') : WW 0 [] [some (.inr (.inr a1)), some (.inl a2), none] σ := by
  refine s_L_crash_0 S Q Wr _ _ _ ?_
  simp only [k_L_crash_0, k_L_crash_14, ot_M_crash, o_c, o_il, o_ll, o_al, o_is, o_as, o_ls, o_inc, o_bi, o_bid, o_bl, o_bld, o_sl, o_i2l, o_l2i, o_dup, o_dup2, o_pop, o_pop2, o_if, o_i2, o_l2, swg, o_sw, o_gI, o_gZ, o_gJ, o_gA, o_gR, o_pI, o_pZ, o_pJ, o_pR, o_ia, o_iak, o_zak, o_ja, o_jak, o_is_, o_isk, o_zsk, o_js_, o_jsk, o_len, o_ri, o_rz, o_rl, o_rv, ls1, ls2, lks, lkj, List.getD_cons_zero, List.getD_cons_succ, List.set_cons_zero, List.set_cons_succ, qcat, true_and, and_true, List.map_nil, List.map_cons, List.sum_nil, List.sum_cons, Nat.reduceAdd, Nat.reduceLeDiff, Nat.zero_le, Int.reduceAdd, Int.reduceNeg, Int.reduceEq, or_true, true_or, Decidable.not_not, false_implies, not_false_eq_true, true_implies, not_true_eq_false, Int.reduceLT, Int.reduceLE]
  obtain ⟨rfl, hp⟩ := h
  refine ⟨rfl, hp, fun σ1 h1 => hq _ _ (Or.inl ⟨h1, rfl⟩), fun t σ1 ht => ?_⟩
  have h2 : t = 2 ∨ t = 1 := by
    unfold T_M_crash at ht
    obtain ⟨-, ht⟩ := ht; rcases ht with ⟨-, e⟩ | ⟨-, -, e⟩ <;> omega
  rcases h2 with rfl | rfl <;> exact ⟨_, rfl, hq _ _ (Or.inr ⟨_, ht, rfl⟩)⟩
theorem c_L_crash (l : Launch) (ad : Nat → Nat) (D : va_G) (cA : Nat → ClassId) : qLc l ad D cA y_L_crash (Cond.codeWith y_L_crash b_L_crash 3 (some .int) hh_L_crash :: lw_g) rm_L_crash pre_L_crash post_L_crash := by
  refine qL_of (own := R_L) (tgs := tg_L_crash) (by decide) rfl ⟨⟨by decide, by decide, by decide, lw_at 355 (by decide +kernel) rfl, ⟨2, 1, Or.inr ⟨⟨2, by decide⟩, rfl, d_L_crash_8, rfl⟩, by decide, d_L_crash_9, d_L_crash_10⟩⟩, ⟨⟨by decide, by decide, by decide, lw_at 356 (by decide +kernel) rfl, ⟨2, 1, Or.inr ⟨⟨2, by decide⟩, rfl, d_L_crash_11, rfl⟩, by decide, d_L_crash_12, d_L_crash_13⟩⟩, trivial⟩⟩ ?_ ?_
  · intro av σ h; unfold pre_L_crash at h; split at h
    · simp [qen]
    · exact h.elim
  · intro WW QR S Q Wr av σ hav hσ h hq; unfold pre_L_crash at h; split at h
    next a1 a2 =>
      exact w_L_crash S Q Wr a1 a2 σ (hav _ (List.mem_of_getElem? (i := 1) rfl)) hσ h (fun r σ' h' => hq _ σ' h')
    next => exact h.elim
def P_L_line (x : Nat) (a b : Int) (σ : qS) : Prop := x = 900 ∧ P_M_line a b σ
def Q_L_line (_x : Nat) (a b : Int) (σ : qS) (r : Int) (σ' : qS) : Prop := (Q_M_line a b σ σ' ∧ r = 0) ∨ (∃ t, T_M_line a b σ t σ' ∧ tgf t [(1, 1)] = some r)
def hh_L_line : List (Nat × Nat × Nat × Nat) := [(0, 6, 9, 15)]
def tg_L_line : List (Nat × Int) := [(1, 1)]
def pre_L_line (av : List qA) (σ : qS) : Prop := match av with
  | [.inr (.inr a1), .inl a2, .inl a3] => P_L_line a1 a2 a3 σ
  | _ => False
def post_L_line (av : List qA) (σ : qS) (r : Option qA) (σ' : qS) : Prop := match av, r with
  | [.inr (.inr a1), .inl a2, .inl a3], some (.inl r) => Q_L_line a1 a2 a3 σ r σ'
  | _, _ => False
def oc_L_line (K : qP) : qP := fun st ls σ => match st with
  | .inl a3 :: .inl a2 :: .inr (.inr a1) :: st => (st.map qcat).sum ≤ 8 ∧ P_L_line a1 a2 a3 σ ∧ ∀ (r : Int) (σ' : qS), Q_L_line a1 a2 a3 σ r σ' → K (.inl r :: st) ls σ'
  | _ => False
def rm_L_line : Room := { frames := 8, cells := 1, slots := 6, locals := 123 }
theorem sw_L_53 {l : Launch} {R : Room} {ad : Nat → Nat} {D : va_G} {cA : Nat → ClassId} {cc : ByteArray} {hh : List (Nat × Nat × Nat × Nat)} {tgs : List (Nat × Int)} {WW : Nat → qP} {QR : Option qA → qS → Prop} (Wr : qWrp l R ad D cA R_L cc hh tgs WW QR) (hR : rm_M_line.frames + 1 ≤ R.frames ∧ 8 + (3 + 11) + rm_M_line.locals ≤ R.locals ∧ 0 + rm_M_line.cells ≤ R.cells ∧ 0 + rm_M_line.slots ≤ R.slots) {K : qP} {pc : Nat} (hcov : ∀ h ∈ hh, h.1 ≤ pc ∧ pc < h.2.1) (d : decode cc pc = .ok (.invokevirtual 53, 3)) (h : qle K WW (pc + 3)) : qle (ot_M_line (wq tgs QR) K) WW pc := by
  intro st ls σ k
  refine Wr 900 0 82 0 53 2 3 pc R_M F_M _ _ _ rm_M_line pre_M_line post_M_line pst_M_line K hcov (Or.inl ⟨rfl, rfl, rfl, rfl, rfl, rfl⟩) ⟨lw_at 746 (by decide +kernel) rfl, lw_at 743 (by decide +kernel) rfl, lw_at 59 (by decide +kernel) rfl, by decide, by decide, by decide +kernel⟩ ⟨lw_at 744 (by decide +kernel) rfl, lw_at 745 (by decide +kernel) rfl⟩ hR (c_M_line l ad D cA) ?_ d h st ls σ ?_
  · intro av σ h; unfold pre_M_line at h; split at h
    · obtain ⟨rfl, h⟩ := h; exact ⟨_, rfl⟩
    · exact h.elim
  · unfold ot_M_line at k
    split at k
    next a2 a1 o st =>
      obtain ⟨rfl, hs, hp, k, kt⟩ := k
      refine ⟨[.inr (.inr 900), .inl a1, .inl a2], st, rfl, rfl, hs, ⟨rfl, hp⟩, fun r σ' hq => ?_, fun t σ' hq => kt t σ' hq⟩
      unfold post_M_line at hq
      split at hq
      next h1 =>
        cases h1
        exact k _ hq
      next => exact hq.elim
    next => exact k.elim
def k_L_line_12 (QR : Option qA → qS → Prop) (H : Nat → qP) : qP :=
  o_c (.inl 0) <| o_ri QR
def k_L_line_0 (QR : Option qA → qS → Prop) (H : Nat → qP) : qP :=
  o_al 0 <| o_il 1 <| o_il 2 <| ot_M_line (wq tg_L_line QR) <| k_L_line_12 QR H
set_option maxRecDepth 8000 in
theorem s_L_line_12 {l : Launch} {ad : Nat → Nat} {D : va_G} {cA : Nat → ClassId} {WW : Nat → qP} {QR : Option qA → qS → Prop} (S : qSnd l rm_L_line ad D cA R_L b_L_line 4 WW) (Q : qRet (some .int) b_L_line WW QR) (Wr : qWrp l rm_L_line ad D cA R_L b_L_line hh_L_line tg_L_line WW QR) : qle (k_L_line_12 QR WW) WW 12 :=
  S.iconst d_L_line_12 (by decide) <| Q.1 rfl _ d_L_line_13
set_option maxRecDepth 8000 in
theorem s_L_line_0 {l : Launch} {ad : Nat → Nat} {D : va_G} {cA : Nat → ClassId} {WW : Nat → qP} {QR : Option qA → qS → Prop} (S : qSnd l rm_L_line ad D cA R_L b_L_line 4 WW) (Q : qRet (some .int) b_L_line WW QR) (Wr : qWrp l rm_L_line ad D cA R_L b_L_line hh_L_line tg_L_line WW QR) : qle (k_L_line_0 QR WW) WW 0 :=
  S.aload_n d_L_line_0 rfl <| S.iload_n d_L_line_1 rfl <| S.iload_n d_L_line_2 rfl <| sw_L_53 Wr (by decide) (by decide) d_L_line_3 <| S.goto d_L_line_6 (by decide) (s_L_line_12 S Q Wr)
theorem w_L_line {l : Launch} {ad : Nat → Nat} {D : va_G} {cA : Nat → ClassId} {WW : Nat → qP} {QR : Option qA → qS → Prop} (S : qSnd l rm_L_line ad D cA R_L b_L_line 4 WW) (Q : qRet (some .int) b_L_line WW QR) (Wr : qWrp l rm_L_line ad D cA R_L b_L_line hh_L_line tg_L_line WW QR) (a1 : Nat) (a2 : Int) (a3 : Int) (σ : qS) (ha2 : r32 a2) (ha3 : r32 a3) (hσ : qoS σ) (h : P_L_line a1 a2 a3 σ) (hq : ∀ (r : Int) σ', Q_L_line a1 a2 a3 σ r σ' → QR (some (.inl r)) σ') : WW 0 [] [some (.inr (.inr a1)), some (.inl a2), some (.inl a3), none] σ := by
  refine s_L_line_0 S Q Wr _ _ _ ?_
  simp only [k_L_line_0, k_L_line_12, ot_M_line, o_c, o_il, o_ll, o_al, o_is, o_as, o_ls, o_inc, o_bi, o_bid, o_bl, o_bld, o_sl, o_i2l, o_l2i, o_dup, o_dup2, o_pop, o_pop2, o_if, o_i2, o_l2, swg, o_sw, o_gI, o_gZ, o_gJ, o_gA, o_gR, o_pI, o_pZ, o_pJ, o_pR, o_ia, o_iak, o_zak, o_ja, o_jak, o_is_, o_isk, o_zsk, o_js_, o_jsk, o_len, o_ri, o_rz, o_rl, o_rv, ls1, ls2, lks, lkj, List.getD_cons_zero, List.getD_cons_succ, List.set_cons_zero, List.set_cons_succ, qcat, true_and, and_true, List.map_nil, List.map_cons, List.sum_nil, List.sum_cons, Nat.reduceAdd, Nat.reduceLeDiff, Nat.zero_le, Int.reduceAdd, Int.reduceNeg, Int.reduceEq, or_true, true_or, Decidable.not_not, false_implies, not_false_eq_true, true_implies, not_true_eq_false, Int.reduceLT, Int.reduceLE]
  obtain ⟨rfl, hp⟩ := h
  refine ⟨rfl, hp, fun σ1 h1 => hq _ _ (Or.inl ⟨h1, rfl⟩), fun t σ1 ht => ?_⟩
  have h2 : t = 1 := by
    unfold T_M_line at ht
    obtain ⟨-, -, e⟩ := ht; omega
  subst h2
  exact ⟨_, rfl, hq _ _ (Or.inr ⟨_, ht, rfl⟩)⟩
theorem c_L_line (l : Launch) (ad : Nat → Nat) (D : va_G) (cA : Nat → ClassId) : qLc l ad D cA y_L_line (Cond.codeWith y_L_line b_L_line 4 (some .int) hh_L_line :: lw_g) rm_L_line pre_L_line post_L_line := by
  refine qL_of (own := R_L) (tgs := tg_L_line) (by decide) rfl ⟨⟨by decide, by decide, by decide, lw_at 356 (by decide +kernel) rfl, ⟨3, 1, Or.inr ⟨⟨3, by decide⟩, rfl, d_L_line_9, rfl⟩, by decide, d_L_line_10, d_L_line_11⟩⟩, trivial⟩ ?_ ?_
  · intro av σ h; unfold pre_L_line at h; split at h
    · simp [qen]
    · exact h.elim
  · intro WW QR S Q Wr av σ hav hσ h hq; unfold pre_L_line at h; split at h
    next a1 a2 a3 =>
      exact w_L_line S Q Wr a1 a2 a3 σ (hav _ (List.mem_of_getElem? (i := 1) rfl)) (hav _ (List.mem_of_getElem? (i := 2) rfl)) hσ h (fun r σ' h' => hq _ σ' h')
    next => exact h.elim
def P_L_finish (x : Nat) (o9 : Nat) (σ : qS) : Prop := x = 900 ∧ o9 = 140 ∧ P_M_finish  σ
def Q_L_finish (_x : Nat) (_o9 : Nat) (σ : qS) (r : Int) (σ' : qS) : Prop := (∃ q σ1, Q_M_finish  σ q σ1 ∧ r = 0 ∧ σ' = su σ1 140 0 q) ∨ (∃ t, T_M_finish  σ t σ' ∧ tgf t [(1, 1)] = some r)
def hh_L_finish : List (Nat × Nat × Nat × Nat) := [(0, 8, 11, 15)]
def tg_L_finish : List (Nat × Int) := [(1, 1)]
def pre_L_finish (av : List qA) (σ : qS) : Prop := match av with
  | [.inr (.inr a1), .inr (.inr a2)] => P_L_finish a1 a2 σ
  | _ => False
def post_L_finish (av : List qA) (σ : qS) (r : Option qA) (σ' : qS) : Prop := match av, r with
  | [.inr (.inr a1), .inr (.inr a2)], some (.inl r) => Q_L_finish a1 a2 σ r σ'
  | _, _ => False
def oc_L_finish (K : qP) : qP := fun st ls σ => match st with
  | .inr (.inr a2) :: .inr (.inr a1) :: st => (st.map qcat).sum ≤ 8 ∧ P_L_finish a1 a2 σ ∧ ∀ (r : Int) (σ' : qS), Q_L_finish a1 a2 σ r σ' → K (.inl r :: st) ls σ'
  | _ => False
def rm_L_finish : Room := { frames := 10, cells := 1, slots := 6, locals := 241 }
theorem sw_L_56 {l : Launch} {R : Room} {ad : Nat → Nat} {D : va_G} {cA : Nat → ClassId} {cc : ByteArray} {hh : List (Nat × Nat × Nat × Nat)} {tgs : List (Nat × Int)} {WW : Nat → qP} {QR : Option qA → qS → Prop} (Wr : qWrp l R ad D cA R_L cc hh tgs WW QR) (hR : rm_M_finish.frames + 1 ≤ R.frames ∧ 8 + (2 + 11) + rm_M_finish.locals ≤ R.locals ∧ 0 + rm_M_finish.cells ≤ R.cells ∧ 0 + rm_M_finish.slots ≤ R.slots) {K : qP} {pc : Nat} (hcov : ∀ h ∈ hh, h.1 ≤ pc ∧ pc < h.2.1) (d : decode cc pc = .ok (.invokevirtual 56, 3)) (h : qle K WW (pc + 3)) : qle (ot_M_finish (wq tgs QR) K) WW pc := by
  intro st ls σ k
  refine Wr 900 0 82 0 56 0 2 pc R_M F_M _ _ _ rm_M_finish pre_M_finish post_M_finish pst_M_finish K hcov (Or.inl ⟨rfl, rfl, rfl, rfl, rfl, rfl⟩) ⟨lw_at 754 (by decide +kernel) rfl, lw_at 751 (by decide +kernel) rfl, lw_at 59 (by decide +kernel) rfl, by decide, by decide, by decide +kernel⟩ ⟨lw_at 752 (by decide +kernel) rfl, lw_at 753 (by decide +kernel) rfl⟩ hR (c_M_finish l ad D cA) ?_ d h st ls σ ?_
  · intro av σ h; unfold pre_M_finish at h; split at h
    · obtain ⟨rfl, h⟩ := h; exact ⟨_, rfl⟩
    · exact h.elim
  · unfold ot_M_finish at k
    split at k
    next o st =>
      obtain ⟨rfl, hs, hp, k, kt⟩ := k
      refine ⟨[.inr (.inr 900)], st, rfl, rfl, hs, ⟨rfl, hp⟩, fun r σ' hq => ?_, fun t σ' hq => kt t σ' hq⟩
      unfold post_M_finish at hq
      split at hq
      next h1 =>
        cases h1
        exact k _ _ hq
      next => exact hq.elim
    next => exact k.elim
def k_L_finish_14 (QR : Option qA → qS → Prop) (H : Nat → qP) : qP :=
  o_c (.inl 0) <| o_ri QR
def k_L_finish_0 (QR : Option qA → qS → Prop) (H : Nat → qP) : qP :=
  o_al 1 <| o_c (.inl 0) <| o_al 0 <| ot_M_finish (wq tg_L_finish QR) <| o_i2l <| o_js_ <| k_L_finish_14 QR H
set_option maxRecDepth 8000 in
theorem s_L_finish_14 {l : Launch} {ad : Nat → Nat} {D : va_G} {cA : Nat → ClassId} {WW : Nat → qP} {QR : Option qA → qS → Prop} (S : qSnd l rm_L_finish ad D cA R_L b_L_finish 3 WW) (Q : qRet (some .int) b_L_finish WW QR) (Wr : qWrp l rm_L_finish ad D cA R_L b_L_finish hh_L_finish tg_L_finish WW QR) : qle (k_L_finish_14 QR WW) WW 14 :=
  S.iconst d_L_finish_14 (by decide) <| Q.1 rfl _ d_L_finish_15
set_option maxRecDepth 8000 in
theorem s_L_finish_0 {l : Launch} {ad : Nat → Nat} {D : va_G} {cA : Nat → ClassId} {WW : Nat → qP} {QR : Option qA → qS → Prop} (S : qSnd l rm_L_finish ad D cA R_L b_L_finish 3 WW) (Q : qRet (some .int) b_L_finish WW QR) (Wr : qWrp l rm_L_finish ad D cA R_L b_L_finish hh_L_finish tg_L_finish WW QR) : qle (k_L_finish_0 QR WW) WW 0 :=
  S.aload_n d_L_finish_0 rfl <| S.iconst d_L_finish_1 (by decide) <| S.aload_n d_L_finish_2 rfl <| sw_L_56 Wr (by decide) (by decide) d_L_finish_3 <| S.i2l d_L_finish_6 <| S.jast d_L_finish_7 <| S.goto d_L_finish_8 (by decide) (s_L_finish_14 S Q Wr)
theorem w_L_finish {l : Launch} {ad : Nat → Nat} {D : va_G} {cA : Nat → ClassId} {WW : Nat → qP} {QR : Option qA → qS → Prop} (S : qSnd l rm_L_finish ad D cA R_L b_L_finish 3 WW) (Q : qRet (some .int) b_L_finish WW QR) (Wr : qWrp l rm_L_finish ad D cA R_L b_L_finish hh_L_finish tg_L_finish WW QR) (a1 : Nat) (a2 : Nat) (σ : qS)  (hσ : qoS σ) (h : P_L_finish a1 a2 σ) (hq : ∀ (r : Int) σ', Q_L_finish a1 a2 σ r σ' → QR (some (.inl r)) σ') : WW 0 [] [some (.inr (.inr a1)), some (.inr (.inr a2)), none] σ := by
  refine s_L_finish_0 S Q Wr _ _ _ ?_
  simp only [k_L_finish_0, k_L_finish_14, ot_M_finish, o_c, o_il, o_ll, o_al, o_is, o_as, o_ls, o_inc, o_bi, o_bid, o_bl, o_bld, o_sl, o_i2l, o_l2i, o_dup, o_dup2, o_pop, o_pop2, o_if, o_i2, o_l2, swg, o_sw, o_gI, o_gZ, o_gJ, o_gA, o_gR, o_pI, o_pZ, o_pJ, o_pR, o_ia, o_iak, o_zak, o_ja, o_jak, o_is_, o_isk, o_zsk, o_js_, o_jsk, o_len, o_ri, o_rz, o_rl, o_rv, ls1, ls2, lks, lkj, List.getD_cons_zero, List.getD_cons_succ, List.set_cons_zero, List.set_cons_succ, qcat, true_and, and_true, List.map_nil, List.map_cons, List.sum_nil, List.sum_cons, Nat.reduceAdd, Nat.reduceLeDiff, Nat.zero_le, Int.reduceAdd, Int.reduceNeg, Int.reduceEq, or_true, true_or, Decidable.not_not, false_implies, not_false_eq_true, true_implies, not_true_eq_false, Int.reduceLT, Int.reduceLE]
  obtain ⟨rfl, rfl, hp⟩ := h
  refine ⟨rfl, hp, fun q σ1 h1 => ⟨⟨by decide, by decide⟩, by decide, hq _ _ (Or.inl ⟨q, σ1, h1, rfl, rfl⟩)⟩, fun t σ1 ht => ?_⟩
  have h2 : t = 1 := by
    unfold T_M_finish at ht
    obtain ⟨-, -, e⟩ := ht; omega
  subst h2
  exact ⟨_, rfl, hq _ _ (Or.inr ⟨_, ht, rfl⟩)⟩
theorem c_L_finish (l : Launch) (ad : Nat → Nat) (D : va_G) (cA : Nat → ClassId) : qLc l ad D cA y_L_finish (Cond.codeWith y_L_finish b_L_finish 3 (some .int) hh_L_finish :: lw_g) rm_L_finish pre_L_finish post_L_finish := by
  refine qL_of (own := R_L) (tgs := tg_L_finish) (by decide) rfl ⟨⟨by decide, by decide, by decide, lw_at 356 (by decide +kernel) rfl, ⟨2, 1, Or.inr ⟨⟨2, by decide⟩, rfl, d_L_finish_11, rfl⟩, by decide, d_L_finish_12, d_L_finish_13⟩⟩, trivial⟩ ?_ ?_
  · intro av σ h; unfold pre_L_finish at h; split at h
    · simp [qen]
    · exact h.elim
  · intro WW QR S Q Wr av σ hav hσ h hq; unfold pre_L_finish at h; split at h
    next a1 a2 =>
      exact w_L_finish S Q Wr a1 a2 σ  hσ h (fun r σ' h' => hq _ σ' h')
    next => exact h.elim
def P_L_told (x : Nat) (f i v : Int) (o9 : Nat) (σ : qS) : Prop := x = 900 ∧ o9 = 140 ∧ P_M_told f i v σ
def Q_L_told (_x : Nat) (f i v : Int) (_o9 : Nat) (σ : qS) (r : Int) (σ' : qS) : Prop := (∃ q σ1, Q_M_told f i v σ q σ1 ∧ r = 0 ∧ σ' = su σ1 140 0 q) ∨ (∃ t, T_M_told f i v σ t σ' ∧ tgf t [(2, 1), (1, 2)] = some r)
def hh_L_told : List (Nat × Nat × Nat × Nat) := [(0, 11, 14, 13), (0, 11, 18, 15)]
def tg_L_told : List (Nat × Int) := [(2, 1), (1, 2)]
def pre_L_told (av : List qA) (σ : qS) : Prop := match av with
  | [.inr (.inr a1), .inl a2, .inl a3, .inl a4, .inr (.inr a5)] => P_L_told a1 a2 a3 a4 a5 σ
  | _ => False
def post_L_told (av : List qA) (σ : qS) (r : Option qA) (σ' : qS) : Prop := match av, r with
  | [.inr (.inr a1), .inl a2, .inl a3, .inl a4, .inr (.inr a5)], some (.inl r) => Q_L_told a1 a2 a3 a4 a5 σ r σ'
  | _, _ => False
def oc_L_told (K : qP) : qP := fun st ls σ => match st with
  | .inr (.inr a5) :: .inl a4 :: .inl a3 :: .inl a2 :: .inr (.inr a1) :: st => (st.map qcat).sum ≤ 8 ∧ P_L_told a1 a2 a3 a4 a5 σ ∧ ∀ (r : Int) (σ' : qS), Q_L_told a1 a2 a3 a4 a5 σ r σ' → K (.inl r :: st) ls σ'
  | _ => False
def rm_L_told : Room := { frames := 9, cells := 1, slots := 6, locals := 144 }
theorem sw_L_59 {l : Launch} {R : Room} {ad : Nat → Nat} {D : va_G} {cA : Nat → ClassId} {cc : ByteArray} {hh : List (Nat × Nat × Nat × Nat)} {tgs : List (Nat × Int)} {WW : Nat → qP} {QR : Option qA → qS → Prop} (Wr : qWrp l R ad D cA R_L cc hh tgs WW QR) (hR : rm_M_told.frames + 1 ≤ R.frames ∧ 8 + (4 + 11) + rm_M_told.locals ≤ R.locals ∧ 0 + rm_M_told.cells ≤ R.cells ∧ 0 + rm_M_told.slots ≤ R.slots) {K : qP} {pc : Nat} (hcov : ∀ h ∈ hh, h.1 ≤ pc ∧ pc < h.2.1) (d : decode cc pc = .ok (.invokevirtual 59, 3)) (h : qle K WW (pc + 3)) : qle (ot_M_told (wq tgs QR) K) WW pc := by
  intro st ls σ k
  refine Wr 900 0 82 0 59 3 4 pc R_M F_M _ _ _ rm_M_told pre_M_told post_M_told pst_M_told K hcov (Or.inl ⟨rfl, rfl, rfl, rfl, rfl, rfl⟩) ⟨lw_at 761 (by decide +kernel) rfl, lw_at 758 (by decide +kernel) rfl, lw_at 59 (by decide +kernel) rfl, by decide, by decide, by decide +kernel⟩ ⟨lw_at 759 (by decide +kernel) rfl, lw_at 760 (by decide +kernel) rfl⟩ hR (c_M_told l ad D cA) ?_ d h st ls σ ?_
  · intro av σ h; unfold pre_M_told at h; split at h
    · obtain ⟨rfl, h⟩ := h; exact ⟨_, rfl⟩
    · exact h.elim
  · unfold ot_M_told at k
    split at k
    next a3 a2 a1 o st =>
      obtain ⟨rfl, hs, hp, k, kt⟩ := k
      refine ⟨[.inr (.inr 900), .inl a1, .inl a2, .inl a3], st, rfl, rfl, hs, ⟨rfl, hp⟩, fun r σ' hq => ?_, fun t σ' hq => kt t σ' hq⟩
      unfold post_M_told at hq
      split at hq
      next h1 =>
        cases h1
        exact k _ _ hq
      next => exact hq.elim
    next => exact k.elim
def k_L_told_22 (QR : Option qA → qS → Prop) (H : Nat → qP) : qP :=
  o_c (.inl 0) <| o_ri QR
def k_L_told_0 (QR : Option qA → qS → Prop) (H : Nat → qP) : qP :=
  o_al 4 <| o_c (.inl 0) <| o_al 0 <| o_il 1 <| o_il 2 <| o_il 3 <| ot_M_told (wq tg_L_told QR) <| o_js_ <| k_L_told_22 QR H
set_option maxRecDepth 8000 in
theorem s_L_told_22 {l : Launch} {ad : Nat → Nat} {D : va_G} {cA : Nat → ClassId} {WW : Nat → qP} {QR : Option qA → qS → Prop} (S : qSnd l rm_L_told ad D cA R_L b_L_told 6 WW) (Q : qRet (some .int) b_L_told WW QR) (Wr : qWrp l rm_L_told ad D cA R_L b_L_told hh_L_told tg_L_told WW QR) : qle (k_L_told_22 QR WW) WW 22 :=
  S.iconst d_L_told_22 (by decide) <| Q.1 rfl _ d_L_told_23
set_option maxRecDepth 8000 in
theorem s_L_told_0 {l : Launch} {ad : Nat → Nat} {D : va_G} {cA : Nat → ClassId} {WW : Nat → qP} {QR : Option qA → qS → Prop} (S : qSnd l rm_L_told ad D cA R_L b_L_told 6 WW) (Q : qRet (some .int) b_L_told WW QR) (Wr : qWrp l rm_L_told ad D cA R_L b_L_told hh_L_told tg_L_told WW QR) : qle (k_L_told_0 QR WW) WW 0 :=
  S.aload d_L_told_0 <| S.iconst d_L_told_2 (by decide) <| S.aload_n d_L_told_3 rfl <| S.iload_n d_L_told_4 rfl <| S.iload_n d_L_told_5 rfl <| S.iload_n d_L_told_6 rfl <| sw_L_59 Wr (by decide) (by decide) d_L_told_7 <| S.jast d_L_told_10 <| S.goto d_L_told_11 (by decide) (s_L_told_22 S Q Wr)
theorem w_L_told {l : Launch} {ad : Nat → Nat} {D : va_G} {cA : Nat → ClassId} {WW : Nat → qP} {QR : Option qA → qS → Prop} (S : qSnd l rm_L_told ad D cA R_L b_L_told 6 WW) (Q : qRet (some .int) b_L_told WW QR) (Wr : qWrp l rm_L_told ad D cA R_L b_L_told hh_L_told tg_L_told WW QR) (a1 : Nat) (a2 : Int) (a3 : Int) (a4 : Int) (a5 : Nat) (σ : qS) (ha2 : r32 a2) (ha3 : r32 a3) (ha4 : r32 a4) (hσ : qoS σ) (h : P_L_told a1 a2 a3 a4 a5 σ) (hq : ∀ (r : Int) σ', Q_L_told a1 a2 a3 a4 a5 σ r σ' → QR (some (.inl r)) σ') : WW 0 [] [some (.inr (.inr a1)), some (.inl a2), some (.inl a3), some (.inl a4), some (.inr (.inr a5)), none] σ := by
  refine s_L_told_0 S Q Wr _ _ _ ?_
  simp only [k_L_told_0, k_L_told_22, ot_M_told, o_c, o_il, o_ll, o_al, o_is, o_as, o_ls, o_inc, o_bi, o_bid, o_bl, o_bld, o_sl, o_i2l, o_l2i, o_dup, o_dup2, o_pop, o_pop2, o_if, o_i2, o_l2, swg, o_sw, o_gI, o_gZ, o_gJ, o_gA, o_gR, o_pI, o_pZ, o_pJ, o_pR, o_ia, o_iak, o_zak, o_ja, o_jak, o_is_, o_isk, o_zsk, o_js_, o_jsk, o_len, o_ri, o_rz, o_rl, o_rv, ls1, ls2, lks, lkj, List.getD_cons_zero, List.getD_cons_succ, List.set_cons_zero, List.set_cons_succ, qcat, true_and, and_true, List.map_nil, List.map_cons, List.sum_nil, List.sum_cons, Nat.reduceAdd, Nat.reduceLeDiff, Nat.zero_le, Int.reduceAdd, Int.reduceNeg, Int.reduceEq, or_true, true_or, Decidable.not_not, false_implies, not_false_eq_true, true_implies, not_true_eq_false, Int.reduceLT, Int.reduceLE]
  obtain ⟨rfl, rfl, hp⟩ := h
  refine ⟨rfl, hp, fun q σ1 h1 => ⟨⟨by decide, by decide⟩, by decide, hq _ _ (Or.inl ⟨q, σ1, h1, rfl, rfl⟩)⟩, fun t σ1 ht => ?_⟩
  have h2 : t = 2 ∨ t = 1 := by
    unfold T_M_told at ht
    obtain ⟨-, ht⟩ := ht; rcases ht with ⟨-, e⟩ | ⟨-, -, e⟩ | ⟨-, -, -, e⟩ <;> omega
  rcases h2 with rfl | rfl <;> exact ⟨_, rfl, hq _ _ (Or.inr ⟨_, ht, rfl⟩)⟩
theorem c_L_told (l : Launch) (ad : Nat → Nat) (D : va_G) (cA : Nat → ClassId) : qLc l ad D cA y_L_told (Cond.codeWith y_L_told b_L_told 6 (some .int) hh_L_told :: lw_g) rm_L_told pre_L_told post_L_told := by
  refine qL_of (own := R_L) (tgs := tg_L_told) (by decide) rfl ⟨⟨by decide, by decide, by decide, lw_at 355 (by decide +kernel) rfl, ⟨5, 2, Or.inl ⟨d_L_told_14, rfl⟩, by decide, d_L_told_16, d_L_told_17⟩⟩, ⟨⟨by decide, by decide, by decide, lw_at 356 (by decide +kernel) rfl, ⟨5, 2, Or.inl ⟨d_L_told_18, rfl⟩, by decide, d_L_told_20, d_L_told_21⟩⟩, trivial⟩⟩ ?_ ?_
  · intro av σ h; unfold pre_L_told at h; split at h
    · simp [qen]
    · exact h.elim
  · intro WW QR S Q Wr av σ hav hσ h hq; unfold pre_L_told at h; split at h
    next a1 a2 a3 a4 a5 =>
      exact w_L_told S Q Wr a1 a2 a3 a4 a5 σ (hav _ (List.mem_of_getElem? (i := 1) rfl)) (hav _ (List.mem_of_getElem? (i := 2) rfl)) (hav _ (List.mem_of_getElem? (i := 3) rfl)) hσ h (fun r σ' h' => hq _ σ' h')
    next => exact h.elim
def P_L_size (x : Nat) (f : Int) (o9 : Nat) (σ : qS) : Prop := x = 900 ∧ o9 = 140 ∧ P_M_size f σ
def Q_L_size (_x : Nat) (f : Int) (_o9 : Nat) (σ : qS) (r : Int) (σ' : qS) : Prop := (∃ q σ1, Q_M_size f σ q σ1 ∧ r = 0 ∧ σ' = su σ1 140 0 q) ∨ (∃ t, T_M_size f σ t σ' ∧ tgf t [(2, 1), (1, 2)] = some r)
def hh_L_size : List (Nat × Nat × Nat × Nat) := [(0, 9, 12, 13), (0, 9, 15, 15)]
def tg_L_size : List (Nat × Int) := [(2, 1), (1, 2)]
def pre_L_size (av : List qA) (σ : qS) : Prop := match av with
  | [.inr (.inr a1), .inl a2, .inr (.inr a3)] => P_L_size a1 a2 a3 σ
  | _ => False
def post_L_size (av : List qA) (σ : qS) (r : Option qA) (σ' : qS) : Prop := match av, r with
  | [.inr (.inr a1), .inl a2, .inr (.inr a3)], some (.inl r) => Q_L_size a1 a2 a3 σ r σ'
  | _, _ => False
def oc_L_size (K : qP) : qP := fun st ls σ => match st with
  | .inr (.inr a3) :: .inl a2 :: .inr (.inr a1) :: st => (st.map qcat).sum ≤ 8 ∧ P_L_size a1 a2 a3 σ ∧ ∀ (r : Int) (σ' : qS), Q_L_size a1 a2 a3 σ r σ' → K (.inl r :: st) ls σ'
  | _ => False
def rm_L_size : Room := { frames := 9, cells := 1, slots := 6, locals := 142 }
theorem sw_L_63 {l : Launch} {R : Room} {ad : Nat → Nat} {D : va_G} {cA : Nat → ClassId} {cc : ByteArray} {hh : List (Nat × Nat × Nat × Nat)} {tgs : List (Nat × Int)} {WW : Nat → qP} {QR : Option qA → qS → Prop} (Wr : qWrp l R ad D cA R_L cc hh tgs WW QR) (hR : rm_M_size.frames + 1 ≤ R.frames ∧ 8 + (2 + 11) + rm_M_size.locals ≤ R.locals ∧ 0 + rm_M_size.cells ≤ R.cells ∧ 0 + rm_M_size.slots ≤ R.slots) {K : qP} {pc : Nat} (hcov : ∀ h ∈ hh, h.1 ≤ pc ∧ pc < h.2.1) (d : decode cc pc = .ok (.invokevirtual 63, 3)) (h : qle K WW (pc + 3)) : qle (ot_M_size (wq tgs QR) K) WW pc := by
  intro st ls σ k
  refine Wr 900 0 82 0 63 1 2 pc R_M F_M _ _ _ rm_M_size pre_M_size post_M_size pst_M_size K hcov (Or.inl ⟨rfl, rfl, rfl, rfl, rfl, rfl⟩) ⟨lw_at 768 (by decide +kernel) rfl, lw_at 765 (by decide +kernel) rfl, lw_at 59 (by decide +kernel) rfl, by decide, by decide, by decide +kernel⟩ ⟨lw_at 766 (by decide +kernel) rfl, lw_at 767 (by decide +kernel) rfl⟩ hR (c_M_size l ad D cA) ?_ d h st ls σ ?_
  · intro av σ h; unfold pre_M_size at h; split at h
    · obtain ⟨rfl, h⟩ := h; exact ⟨_, rfl⟩
    · exact h.elim
  · unfold ot_M_size at k
    split at k
    next a1 o st =>
      obtain ⟨rfl, hs, hp, k, kt⟩ := k
      refine ⟨[.inr (.inr 900), .inl a1], st, rfl, rfl, hs, ⟨rfl, hp⟩, fun r σ' hq => ?_, fun t σ' hq => kt t σ' hq⟩
      unfold post_M_size at hq
      split at hq
      next h1 =>
        cases h1
        exact k _ _ hq
      next => exact hq.elim
    next => exact k.elim
def k_L_size_18 (QR : Option qA → qS → Prop) (H : Nat → qP) : qP :=
  o_c (.inl 0) <| o_ri QR
def k_L_size_0 (QR : Option qA → qS → Prop) (H : Nat → qP) : qP :=
  o_al 2 <| o_c (.inl 0) <| o_al 0 <| o_il 1 <| ot_M_size (wq tg_L_size QR) <| o_i2l <| o_js_ <| k_L_size_18 QR H
set_option maxRecDepth 8000 in
theorem s_L_size_18 {l : Launch} {ad : Nat → Nat} {D : va_G} {cA : Nat → ClassId} {WW : Nat → qP} {QR : Option qA → qS → Prop} (S : qSnd l rm_L_size ad D cA R_L b_L_size 4 WW) (Q : qRet (some .int) b_L_size WW QR) (Wr : qWrp l rm_L_size ad D cA R_L b_L_size hh_L_size tg_L_size WW QR) : qle (k_L_size_18 QR WW) WW 18 :=
  S.iconst d_L_size_18 (by decide) <| Q.1 rfl _ d_L_size_19
set_option maxRecDepth 8000 in
theorem s_L_size_0 {l : Launch} {ad : Nat → Nat} {D : va_G} {cA : Nat → ClassId} {WW : Nat → qP} {QR : Option qA → qS → Prop} (S : qSnd l rm_L_size ad D cA R_L b_L_size 4 WW) (Q : qRet (some .int) b_L_size WW QR) (Wr : qWrp l rm_L_size ad D cA R_L b_L_size hh_L_size tg_L_size WW QR) : qle (k_L_size_0 QR WW) WW 0 :=
  S.aload_n d_L_size_0 rfl <| S.iconst d_L_size_1 (by decide) <| S.aload_n d_L_size_2 rfl <| S.iload_n d_L_size_3 rfl <| sw_L_63 Wr (by decide) (by decide) d_L_size_4 <| S.i2l d_L_size_7 <| S.jast d_L_size_8 <| S.goto d_L_size_9 (by decide) (s_L_size_18 S Q Wr)
theorem w_L_size {l : Launch} {ad : Nat → Nat} {D : va_G} {cA : Nat → ClassId} {WW : Nat → qP} {QR : Option qA → qS → Prop} (S : qSnd l rm_L_size ad D cA R_L b_L_size 4 WW) (Q : qRet (some .int) b_L_size WW QR) (Wr : qWrp l rm_L_size ad D cA R_L b_L_size hh_L_size tg_L_size WW QR) (a1 : Nat) (a2 : Int) (a3 : Nat) (σ : qS) (ha2 : r32 a2) (hσ : qoS σ) (h : P_L_size a1 a2 a3 σ) (hq : ∀ (r : Int) σ', Q_L_size a1 a2 a3 σ r σ' → QR (some (.inl r)) σ') : WW 0 [] [some (.inr (.inr a1)), some (.inl a2), some (.inr (.inr a3)), none] σ := by
  refine s_L_size_0 S Q Wr _ _ _ ?_
  simp only [k_L_size_0, k_L_size_18, ot_M_size, o_c, o_il, o_ll, o_al, o_is, o_as, o_ls, o_inc, o_bi, o_bid, o_bl, o_bld, o_sl, o_i2l, o_l2i, o_dup, o_dup2, o_pop, o_pop2, o_if, o_i2, o_l2, swg, o_sw, o_gI, o_gZ, o_gJ, o_gA, o_gR, o_pI, o_pZ, o_pJ, o_pR, o_ia, o_iak, o_zak, o_ja, o_jak, o_is_, o_isk, o_zsk, o_js_, o_jsk, o_len, o_ri, o_rz, o_rl, o_rv, ls1, ls2, lks, lkj, List.getD_cons_zero, List.getD_cons_succ, List.set_cons_zero, List.set_cons_succ, qcat, true_and, and_true, List.map_nil, List.map_cons, List.sum_nil, List.sum_cons, Nat.reduceAdd, Nat.reduceLeDiff, Nat.zero_le, Int.reduceAdd, Int.reduceNeg, Int.reduceEq, or_true, true_or, Decidable.not_not, false_implies, not_false_eq_true, true_implies, not_true_eq_false, Int.reduceLT, Int.reduceLE]
  obtain ⟨rfl, rfl, hp⟩ := h
  refine ⟨rfl, hp, fun q σ1 h1 => ⟨⟨by decide, by decide⟩, by decide, hq _ _ (Or.inl ⟨q, σ1, h1, rfl, rfl⟩)⟩, fun t σ1 ht => ?_⟩
  have h2 : t = 2 ∨ t = 1 := by
    unfold T_M_size at ht
    obtain ⟨-, ht⟩ := ht; rcases ht with ⟨-, e⟩ | ⟨-, -, e⟩ <;> omega
  rcases h2 with rfl | rfl <;> exact ⟨_, rfl, hq _ _ (Or.inr ⟨_, ht, rfl⟩)⟩
theorem c_L_size (l : Launch) (ad : Nat → Nat) (D : va_G) (cA : Nat → ClassId) : qLc l ad D cA y_L_size (Cond.codeWith y_L_size b_L_size 4 (some .int) hh_L_size :: lw_g) rm_L_size pre_L_size post_L_size := by
  refine qL_of (own := R_L) (tgs := tg_L_size) (by decide) rfl ⟨⟨by decide, by decide, by decide, lw_at 355 (by decide +kernel) rfl, ⟨3, 1, Or.inr ⟨⟨3, by decide⟩, rfl, d_L_size_12, rfl⟩, by decide, d_L_size_13, d_L_size_14⟩⟩, ⟨⟨by decide, by decide, by decide, lw_at 356 (by decide +kernel) rfl, ⟨3, 1, Or.inr ⟨⟨3, by decide⟩, rfl, d_L_size_15, rfl⟩, by decide, d_L_size_16, d_L_size_17⟩⟩, trivial⟩⟩ ?_ ?_
  · intro av σ h; unfold pre_L_size at h; split at h
    · simp [qen]
    · exact h.elim
  · intro WW QR S Q Wr av σ hav hσ h hq; unfold pre_L_size at h; split at h
    next a1 a2 a3 =>
      exact w_L_size S Q Wr a1 a2 a3 σ (hav _ (List.mem_of_getElem? (i := 1) rfl)) hσ h (fun r σ' h' => hq _ σ' h')
    next => exact h.elim
def P_L_count (x : Nat) (w : Int) (o9 : Nat) (σ : qS) : Prop := x = 900 ∧ o9 = 140 ∧ P_M_count w σ
def Q_L_count (_x : Nat) (w : Int) (_o9 : Nat) (σ : qS) (r : Int) (σ' : qS) : Prop := (∃ q σ1, Q_M_count w σ q σ1 ∧ r = 0 ∧ σ' = su σ1 140 0 q) ∨ (∃ t, T_M_count w σ t σ' ∧ tgf t [(0, 1)] = some r)
def hh_L_count : List (Nat × Nat × Nat × Nat) := [(0, 9, 12, 25)]
def tg_L_count : List (Nat × Int) := [(0, 1)]
def pre_L_count (av : List qA) (σ : qS) : Prop := match av with
  | [.inr (.inr a1), .inl a2, .inr (.inr a3)] => P_L_count a1 a2 a3 σ
  | _ => False
def post_L_count (av : List qA) (σ : qS) (r : Option qA) (σ' : qS) : Prop := match av, r with
  | [.inr (.inr a1), .inl a2, .inr (.inr a3)], some (.inl r) => Q_L_count a1 a2 a3 σ r σ'
  | _, _ => False
def oc_L_count (K : qP) : qP := fun st ls σ => match st with
  | .inr (.inr a3) :: .inl a2 :: .inr (.inr a1) :: st => (st.map qcat).sum ≤ 8 ∧ P_L_count a1 a2 a3 σ ∧ ∀ (r : Int) (σ' : qS), Q_L_count a1 a2 a3 σ r σ' → K (.inl r :: st) ls σ'
  | _ => False
def rm_L_count : Room := { frames := 8, cells := 1, slots := 6, locals := 124 }
theorem sw_L_66 {l : Launch} {R : Room} {ad : Nat → Nat} {D : va_G} {cA : Nat → ClassId} {cc : ByteArray} {hh : List (Nat × Nat × Nat × Nat)} {tgs : List (Nat × Int)} {WW : Nat → qP} {QR : Option qA → qS → Prop} (Wr : qWrp l R ad D cA R_L cc hh tgs WW QR) (hR : rm_M_count.frames + 1 ≤ R.frames ∧ 8 + (4 + 11) + rm_M_count.locals ≤ R.locals ∧ 0 + rm_M_count.cells ≤ R.cells ∧ 0 + rm_M_count.slots ≤ R.slots) {K : qP} {pc : Nat} (hcov : ∀ h ∈ hh, h.1 ≤ pc ∧ pc < h.2.1) (d : decode cc pc = .ok (.invokevirtual 66, 3)) (h : qle K WW (pc + 3)) : qle (ot_M_count (wq tgs QR) K) WW pc := by
  intro st ls σ k
  refine Wr 900 0 82 0 66 1 4 pc R_M F_M _ _ _ rm_M_count pre_M_count post_M_count pst_M_count K hcov (Or.inl ⟨rfl, rfl, rfl, rfl, rfl, rfl⟩) ⟨lw_at 775 (by decide +kernel) rfl, lw_at 772 (by decide +kernel) rfl, lw_at 59 (by decide +kernel) rfl, by decide, by decide, by decide +kernel⟩ ⟨lw_at 773 (by decide +kernel) rfl, lw_at 774 (by decide +kernel) rfl⟩ hR (c_M_count l ad D cA) ?_ d h st ls σ ?_
  · intro av σ h; unfold pre_M_count at h; split at h
    · obtain ⟨rfl, h⟩ := h; exact ⟨_, rfl⟩
    · exact h.elim
  · unfold ot_M_count at k
    split at k
    next a1 o st =>
      obtain ⟨rfl, hs, hp, k, kt⟩ := k
      refine ⟨[.inr (.inr 900), .inl a1], st, rfl, rfl, hs, ⟨rfl, hp⟩, fun r σ' hq => ?_, fun t σ' hq => kt t σ' hq⟩
      unfold post_M_count at hq
      split at hq
      next h1 =>
        cases h1
        exact k _ _ hq
      next => exact hq.elim
    next => exact k.elim
def k_L_count_15 (QR : Option qA → qS → Prop) (H : Nat → qP) : qP :=
  o_c (.inl 0) <| o_ri QR
def k_L_count_0 (QR : Option qA → qS → Prop) (H : Nat → qP) : qP :=
  o_al 2 <| o_c (.inl 0) <| o_al 0 <| o_il 1 <| ot_M_count (wq tg_L_count QR) <| o_i2l <| o_js_ <| k_L_count_15 QR H
set_option maxRecDepth 8000 in
theorem s_L_count_15 {l : Launch} {ad : Nat → Nat} {D : va_G} {cA : Nat → ClassId} {WW : Nat → qP} {QR : Option qA → qS → Prop} (S : qSnd l rm_L_count ad D cA R_L b_L_count 4 WW) (Q : qRet (some .int) b_L_count WW QR) (Wr : qWrp l rm_L_count ad D cA R_L b_L_count hh_L_count tg_L_count WW QR) : qle (k_L_count_15 QR WW) WW 15 :=
  S.iconst d_L_count_15 (by decide) <| Q.1 rfl _ d_L_count_16
set_option maxRecDepth 8000 in
theorem s_L_count_0 {l : Launch} {ad : Nat → Nat} {D : va_G} {cA : Nat → ClassId} {WW : Nat → qP} {QR : Option qA → qS → Prop} (S : qSnd l rm_L_count ad D cA R_L b_L_count 4 WW) (Q : qRet (some .int) b_L_count WW QR) (Wr : qWrp l rm_L_count ad D cA R_L b_L_count hh_L_count tg_L_count WW QR) : qle (k_L_count_0 QR WW) WW 0 :=
  S.aload_n d_L_count_0 rfl <| S.iconst d_L_count_1 (by decide) <| S.aload_n d_L_count_2 rfl <| S.iload_n d_L_count_3 rfl <| sw_L_66 Wr (by decide) (by decide) d_L_count_4 <| S.i2l d_L_count_7 <| S.jast d_L_count_8 <| S.goto d_L_count_9 (by decide) (s_L_count_15 S Q Wr)
theorem w_L_count {l : Launch} {ad : Nat → Nat} {D : va_G} {cA : Nat → ClassId} {WW : Nat → qP} {QR : Option qA → qS → Prop} (S : qSnd l rm_L_count ad D cA R_L b_L_count 4 WW) (Q : qRet (some .int) b_L_count WW QR) (Wr : qWrp l rm_L_count ad D cA R_L b_L_count hh_L_count tg_L_count WW QR) (a1 : Nat) (a2 : Int) (a3 : Nat) (σ : qS) (ha2 : r32 a2) (hσ : qoS σ) (h : P_L_count a1 a2 a3 σ) (hq : ∀ (r : Int) σ', Q_L_count a1 a2 a3 σ r σ' → QR (some (.inl r)) σ') : WW 0 [] [some (.inr (.inr a1)), some (.inl a2), some (.inr (.inr a3)), none] σ := by
  refine s_L_count_0 S Q Wr _ _ _ ?_
  simp only [k_L_count_0, k_L_count_15, ot_M_count, o_c, o_il, o_ll, o_al, o_is, o_as, o_ls, o_inc, o_bi, o_bid, o_bl, o_bld, o_sl, o_i2l, o_l2i, o_dup, o_dup2, o_pop, o_pop2, o_if, o_i2, o_l2, swg, o_sw, o_gI, o_gZ, o_gJ, o_gA, o_gR, o_pI, o_pZ, o_pJ, o_pR, o_ia, o_iak, o_zak, o_ja, o_jak, o_is_, o_isk, o_zsk, o_js_, o_jsk, o_len, o_ri, o_rz, o_rl, o_rv, ls1, ls2, lks, lkj, List.getD_cons_zero, List.getD_cons_succ, List.set_cons_zero, List.set_cons_succ, qcat, true_and, and_true, List.map_nil, List.map_cons, List.sum_nil, List.sum_cons, Nat.reduceAdd, Nat.reduceLeDiff, Nat.zero_le, Int.reduceAdd, Int.reduceNeg, Int.reduceEq, or_true, true_or, Decidable.not_not, false_implies, not_false_eq_true, true_implies, not_true_eq_false, Int.reduceLT, Int.reduceLE]
  obtain ⟨rfl, rfl, hp⟩ := h
  refine ⟨rfl, hp, fun q σ1 h1 => ⟨⟨by decide, by decide⟩, by decide, hq _ _ (Or.inl ⟨q, σ1, h1, rfl, rfl⟩)⟩, fun t σ1 ht => ?_⟩
  have h2 : t = 0 := by
    unfold T_M_count at ht
    obtain ⟨-, e, -⟩ := ht; omega
  subst h2
  exact ⟨_, rfl, hq _ _ (Or.inr ⟨_, ht, rfl⟩)⟩
theorem c_L_count (l : Launch) (ad : Nat → Nat) (D : va_G) (cA : Nat → ClassId) : qLc l ad D cA y_L_count (Cond.codeWith y_L_count b_L_count 4 (some .int) hh_L_count :: lw_g) rm_L_count pre_L_count post_L_count := by
  refine qL_of (own := R_L) (tgs := tg_L_count) (by decide) rfl ⟨⟨by decide, by decide, by decide, lw_at 467 (by decide +kernel) rfl, ⟨3, 1, Or.inr ⟨⟨3, by decide⟩, rfl, d_L_count_12, rfl⟩, by decide, d_L_count_13, d_L_count_14⟩⟩, trivial⟩ ?_ ?_
  · intro av σ h; unfold pre_L_count at h; split at h
    · simp [qen]
    · exact h.elim
  · intro WW QR S Q Wr av σ hav hσ h hq; unfold pre_L_count at h; split at h
    next a1 a2 a3 =>
      exact w_L_count S Q Wr a1 a2 a3 σ (hav _ (List.mem_of_getElem? (i := 1) rfl)) hσ h (fun r σ' h' => hq _ σ' h')
    next => exact h.elim

