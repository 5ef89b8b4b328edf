def P_M_right (_b : Int) (_σ : qS) : Prop := True
def Q_M_right (b : Int) (σ σ' : qS) : Prop := b ≠ 0 ∧ σ' = σ
def T_M_right (b : Int) (σ : qS) (t : Nat) (σ' : qS) : Prop := b = 0 ∧ t = 0 ∧ σ' = σ
def pre_M_right (av : List qA) (σ : qS) : Prop := match av with
  | [.inl a1] => P_M_right a1 σ
  | _ => False
def post_M_right (av : List qA) (σ : qS) (r : Option qA) (σ' : qS) : Prop := match av, r with
  | [.inl a1], none => Q_M_right a1 σ σ'
  | _, _ => False
def oc_M_right (K : qP) : qP := fun st ls σ => match st with
  | .inl a1 :: st => (st.map qcat).sum ≤ 8 ∧ P_M_right a1 σ ∧ ∀ (σ' : qS), Q_M_right a1 σ σ' → K st ls σ'
  | _ => False
def pst_M_right (av : List qA) (σ : qS) (t : Nat) (σ' : qS) : Prop := match av with
  | [.inl a1] => T_M_right a1 σ t σ'
  | _ => False
def ot_M_right (QT : Nat → qS → Prop) (K : qP) : qP := fun st ls σ => match st with
  | .inl a1 :: st => (st.map qcat).sum ≤ 8 ∧ P_M_right a1 σ ∧ (∀ (σ' : qS), Q_M_right a1 σ σ' → K st ls σ') ∧ ∀ (t : Nat) (σ' : qS), T_M_right a1 σ t σ' → QT t σ'
  | _ => False
def rm_M_right : Room := { frames := 6, cells := 1, slots := 6, locals := 81 }
def k_M_right_12 (QR : Option qA → qS → Prop) (QT : Nat → qS → Prop) (H : Nat → qP) : qP :=
  o_rv QR
def k_M_right_4 (QR : Option qA → qS → Prop) (QT : Nat → qS → Prop) (H : Nat → qP) : qP :=
  o_th QT 0
def k_M_right_0 (QR : Option qA → qS → Prop) (QT : Nat → qS → Prop) (H : Nat → qP) : qP :=
  o_il 0 <| o_if (fun a => ¬ a = 0) (k_M_right_12 QR QT H) (k_M_right_4 QR QT H)
set_option maxRecDepth 8000 in
theorem s_M_right_12 {l : Launch} {ad : Nat → Nat} {D : va_G} {cA : Nat → ClassId} {WW : Nat → qP} {QR : Option qA → qS → Prop} (S : qSnd l rm_M_right ad D cA R_M b_M_right 1 WW) (Q : qRet (none) b_M_right WW QR) {QT : Nat → qS → Prop} (Th : qThr l rm_M_right ad D cA R_M b_M_right WW QT) : qle (k_M_right_12 QR QT WW) WW 12 :=
  Q.2.2.2 rfl _ d_M_right_12
set_option maxRecDepth 8000 in
theorem s_M_right_4 {l : Launch} {ad : Nat → Nat} {D : va_G} {cA : Nat → ClassId} {WW : Nat → qP} {QR : Option qA → qS → Prop} (S : qSnd l rm_M_right ad D cA R_M b_M_right 1 WW) (Q : qRet (none) b_M_right WW QR) {QT : Nat → qS → Prop} (Th : qThr l rm_M_right ad D cA R_M b_M_right WW QT) : qle (k_M_right_4 QR QT WW) WW 4 :=
  Th.1 rfl 0 198 4 (by decide) (lw_at 478 (by decide +kernel) rfl) (lw_at 479 (by decide +kernel) rfl) (lw_at 66 (by decide +kernel) rfl) (by decide) d_M_right_4 d_M_right_7 d_M_right_8 d_M_right_11
set_option maxRecDepth 8000 in
theorem s_M_right_0 {l : Launch} {ad : Nat → Nat} {D : va_G} {cA : Nat → ClassId} {WW : Nat → qP} {QR : Option qA → qS → Prop} (S : qSnd l rm_M_right ad D cA R_M b_M_right 1 WW) (Q : qRet (none) b_M_right WW QR) {QT : Nat → qS → Prop} (Th : qThr l rm_M_right ad D cA R_M b_M_right WW QT) : qle (k_M_right_0 QR QT WW) WW 0 :=
  S.iload_n d_M_right_0 rfl <| S.if_ne d_M_right_1 (by decide) (s_M_right_12 S Q Th) (s_M_right_4 S Q Th)
theorem w_M_right {l : Launch} {ad : Nat → Nat} {D : va_G} {cA : Nat → ClassId} {WW : Nat → qP} {QR : Option qA → qS → Prop} (S : qSnd l rm_M_right ad D cA R_M b_M_right 1 WW) (Q : qRet (none) b_M_right WW QR) {QT : Nat → qS → Prop} (Th : qThr l rm_M_right ad D cA R_M b_M_right WW QT) (a1 : Int) (σ : qS) (ha1 : r32 a1) (hσ : qoS σ) (h : P_M_right a1 σ) (hq : ∀ σ', Q_M_right a1 σ σ' → QR none σ') (ht : ∀ (t : Nat) σ', T_M_right a1 σ t σ' → QT t σ') : WW 0 [] [some (.inl a1)] σ := by
  refine s_M_right_0 S Q Th _ _ _ ?_
  simp only [k_M_right_0, k_M_right_4, k_M_right_12, o_th, o_c, o_il, o_ll, o_al, o_is, o_as, o_ls, o_inc, o_bi, o_bid, o_bl, o_bld, o_sl, o_i2l, o_l2i, o_dup, o_dup2, o_pop, o_pop2, o_if, o_i2, o_l2, swg, o_sw, o_gI, o_gZ, o_gJ, o_gA, o_gR, o_pI, o_pZ, o_pJ, o_pR, o_ia, o_iak, o_zak, o_ja, o_jak, o_is_, o_isk, o_zsk, o_js_, o_jsk, o_len, o_ri, o_rz, o_rl, o_rv, ls1, ls2, lks, lkj, List.getD_cons_zero, List.getD_cons_succ, List.set_cons_zero, List.set_cons_succ, qcat, true_and, and_true, List.map_nil, List.map_cons, List.sum_nil, List.sum_cons, Nat.reduceAdd, Nat.reduceLeDiff, Nat.zero_le, Int.reduceAdd, Int.reduceNeg, Int.reduceEq, or_true, true_or, Decidable.not_not, false_implies, not_false_eq_true, true_implies, not_true_eq_false, Int.reduceLT, Int.reduceLE]
  exact ⟨fun h => hq _ ⟨h, rfl⟩, fun h => ht _ _ ⟨h, rfl, rfl⟩⟩
theorem c_M_right (l : Launch) (ad : Nat → Nat) (D : va_G) (cA : Nat → ClassId) : qT l ad D cA y_M_right (Cond.code y_M_right b_M_right 1 (none) :: lw_g) rm_M_right pre_M_right post_M_right pst_M_right := by
  refine qT_of (own := R_M) (by decide) rfl ?_ ?_
  · intro av σ h; unfold pre_M_right at h; split at h
    · simp [qen]
    · exact h.elim
  · intro WW QR QT S Q Th av σ hav hσ h hq ht; unfold pre_M_right at h; split at h
    next a1 =>
      exact w_M_right S Q Th a1 σ (hav _ (List.mem_of_getElem? (i := 0) rfl)) hσ h (fun σ' h' => hq _ σ' h') (fun t σ' h' => ht t σ' h')
    next => exact h.elim
def P_M_may (_b : Int) (_σ : qS) : Prop := True
def Q_M_may (b : Int) (σ σ' : qS) : Prop := b ≠ 0 ∧ σ' = σ
def T_M_may (b : Int) (σ : qS) (t : Nat) (σ' : qS) : Prop := b = 0 ∧ t = 1 ∧ σ' = σ
def pre_M_may (av : List qA) (σ : qS) : Prop := match av with
  | [.inl a1] => P_M_may a1 σ
  | _ => False
def post_M_may (av : List qA) (σ : qS) (r : Option qA) (σ' : qS) : Prop := match av, r with
  | [.inl a1], none => Q_M_may a1 σ σ'
  | _, _ => False
def oc_M_may (K : qP) : qP := fun st ls σ => match st with
  | .inl a1 :: st => (st.map qcat).sum ≤ 8 ∧ P_M_may a1 σ ∧ ∀ (σ' : qS), Q_M_may a1 σ σ' → K st ls σ'
  | _ => False
def pst_M_may (av : List qA) (σ : qS) (t : Nat) (σ' : qS) : Prop := match av with
  | [.inl a1] => T_M_may a1 σ t σ'
  | _ => False
def ot_M_may (QT : Nat → qS → Prop) (K : qP) : qP := fun st ls σ => match st with
  | .inl a1 :: st => (st.map qcat).sum ≤ 8 ∧ P_M_may a1 σ ∧ (∀ (σ' : qS), Q_M_may a1 σ σ' → K st ls σ') ∧ ∀ (t : Nat) (σ' : qS), T_M_may a1 σ t σ' → QT t σ'
  | _ => False
def rm_M_may : Room := { frames := 6, cells := 1, slots := 6, locals := 81 }
def k_M_may_12 (QR : Option qA → qS → Prop) (QT : Nat → qS → Prop) (H : Nat → qP) : qP :=
  o_rv QR
def k_M_may_4 (QR : Option qA → qS → Prop) (QT : Nat → qS → Prop) (H : Nat → qP) : qP :=
  o_th QT 1
def k_M_may_0 (QR : Option qA → qS → Prop) (QT : Nat → qS → Prop) (H : Nat → qP) : qP :=
  o_il 0 <| o_if (fun a => ¬ a = 0) (k_M_may_12 QR QT H) (k_M_may_4 QR QT H)
set_option maxRecDepth 8000 in
theorem s_M_may_12 {l : Launch} {ad : Nat → Nat} {D : va_G} {cA : Nat → ClassId} {WW : Nat → qP} {QR : Option qA → qS → Prop} (S : qSnd l rm_M_may ad D cA R_M b_M_may 1 WW) (Q : qRet (none) b_M_may WW QR) {QT : Nat → qS → Prop} (Th : qThr l rm_M_may ad D cA R_M b_M_may WW QT) : qle (k_M_may_12 QR QT WW) WW 12 :=
  Q.2.2.2 rfl _ d_M_may_12
set_option maxRecDepth 8000 in
theorem s_M_may_4 {l : Launch} {ad : Nat → Nat} {D : va_G} {cA : Nat → ClassId} {WW : Nat → qP} {QR : Option qA → qS → Prop} (S : qSnd l rm_M_may ad D cA R_M b_M_may 1 WW) (Q : qRet (none) b_M_may WW QR) {QT : Nat → qS → Prop} (Th : qThr l rm_M_may ad D cA R_M b_M_may WW QT) : qle (k_M_may_4 QR QT WW) WW 4 :=
  Th.1 rfl 1 201 4 (by decide) (lw_at 438 (by decide +kernel) rfl) (lw_at 439 (by decide +kernel) rfl) (lw_at 65 (by decide +kernel) rfl) (by decide) d_M_may_4 d_M_may_7 d_M_may_8 d_M_may_11
set_option maxRecDepth 8000 in
theorem s_M_may_0 {l : Launch} {ad : Nat → Nat} {D : va_G} {cA : Nat → ClassId} {WW : Nat → qP} {QR : Option qA → qS → Prop} (S : qSnd l rm_M_may ad D cA R_M b_M_may 1 WW) (Q : qRet (none) b_M_may WW QR) {QT : Nat → qS → Prop} (Th : qThr l rm_M_may ad D cA R_M b_M_may WW QT) : qle (k_M_may_0 QR QT WW) WW 0 :=
  S.iload_n d_M_may_0 rfl <| S.if_ne d_M_may_1 (by decide) (s_M_may_12 S Q Th) (s_M_may_4 S Q Th)
theorem w_M_may {l : Launch} {ad : Nat → Nat} {D : va_G} {cA : Nat → ClassId} {WW : Nat → qP} {QR : Option qA → qS → Prop} (S : qSnd l rm_M_may ad D cA R_M b_M_may 1 WW) (Q : qRet (none) b_M_may WW QR) {QT : Nat → qS → Prop} (Th : qThr l rm_M_may ad D cA R_M b_M_may WW QT) (a1 : Int) (σ : qS) (ha1 : r32 a1) (hσ : qoS σ) (h : P_M_may a1 σ) (hq : ∀ σ', Q_M_may a1 σ σ' → QR none σ') (ht : ∀ (t : Nat) σ', T_M_may a1 σ t σ' → QT t σ') : WW 0 [] [some (.inl a1)] σ := by
  refine s_M_may_0 S Q Th _ _ _ ?_
  simp only [k_M_may_0, k_M_may_4, k_M_may_12, o_th, o_c, o_il, o_ll, o_al, o_is, o_as, o_ls, o_inc, o_bi, o_bid, o_bl, o_bld, o_sl, o_i2l, o_l2i, o_dup, o_dup2, o_pop, o_pop2, o_if, o_i2, o_l2, swg, o_sw, o_gI, o_gZ, o_gJ, o_gA, o_gR, o_pI, o_pZ, o_pJ, o_pR, o_ia, o_iak, o_zak, o_ja, o_jak, o_is_, o_isk, o_zsk, o_js_, o_jsk, o_len, o_ri, o_rz, o_rl, o_rv, ls1, ls2, lks, lkj, List.getD_cons_zero, List.getD_cons_succ, List.set_cons_zero, List.set_cons_succ, qcat, true_and, and_true, List.map_nil, List.map_cons, List.sum_nil, List.sum_cons, Nat.reduceAdd, Nat.reduceLeDiff, Nat.zero_le, Int.reduceAdd, Int.reduceNeg, Int.reduceEq, or_true, true_or, Decidable.not_not, false_implies, not_false_eq_true, true_implies, not_true_eq_false, Int.reduceLT, Int.reduceLE]
  exact ⟨fun h => hq _ ⟨h, rfl⟩, fun h => ht _ _ ⟨h, rfl, rfl⟩⟩
theorem c_M_may (l : Launch) (ad : Nat → Nat) (D : va_G) (cA : Nat → ClassId) : qT l ad D cA y_M_may (Cond.code y_M_may b_M_may 1 (none) :: lw_g) rm_M_may pre_M_may post_M_may pst_M_may := by
  refine qT_of (own := R_M) (by decide) rfl ?_ ?_
  · intro av σ h; unfold pre_M_may at h; split at h
    · simp [qen]
    · exact h.elim
  · intro WW QR QT S Q Th av σ hav hσ h hq ht; unfold pre_M_may at h; split at h
    next a1 =>
      exact w_M_may S Q Th a1 σ (hav _ (List.mem_of_getElem? (i := 0) rfl)) hσ h (fun σ' h' => hq _ σ' h') (fun t σ' h' => ht t σ' h')
    next => exact h.elim
def P_M_there (_b : Int) (_σ : qS) : Prop := True
def Q_M_there (b : Int) (σ σ' : qS) : Prop := b ≠ 0 ∧ σ' = σ
def T_M_there (b : Int) (σ : qS) (t : Nat) (σ' : qS) : Prop := b = 0 ∧ t = 2 ∧ σ' = σ
def pre_M_there (av : List qA) (σ : qS) : Prop := match av with
  | [.inl a1] => P_M_there a1 σ
  | _ => False
def post_M_there (av : List qA) (σ : qS) (r : Option qA) (σ' : qS) : Prop := match av, r with
  | [.inl a1], none => Q_M_there a1 σ σ'
  | _, _ => False
def oc_M_there (K : qP) : qP := fun st ls σ => match st with
  | .inl a1 :: st => (st.map qcat).sum ≤ 8 ∧ P_M_there a1 σ ∧ ∀ (σ' : qS), Q_M_there a1 σ σ' → K st ls σ'
  | _ => False
def pst_M_there (av : List qA) (σ : qS) (t : Nat) (σ' : qS) : Prop := match av with
  | [.inl a1] => T_M_there a1 σ t σ'
  | _ => False
def ot_M_there (QT : Nat → qS → Prop) (K : qP) : qP := fun st ls σ => match st with
  | .inl a1 :: st => (st.map qcat).sum ≤ 8 ∧ P_M_there a1 σ ∧ (∀ (σ' : qS), Q_M_there a1 σ σ' → K st ls σ') ∧ ∀ (t : Nat) (σ' : qS), T_M_there a1 σ t σ' → QT t σ'
  | _ => False
def rm_M_there : Room := { frames := 6, cells := 1, slots := 6, locals := 81 }
def k_M_there_12 (QR : Option qA → qS → Prop) (QT : Nat → qS → Prop) (H : Nat → qP) : qP :=
  o_rv QR
def k_M_there_4 (QR : Option qA → qS → Prop) (QT : Nat → qS → Prop) (H : Nat → qP) : qP :=
  o_th QT 2
def k_M_there_0 (QR : Option qA → qS → Prop) (QT : Nat → qS → Prop) (H : Nat → qP) : qP :=
  o_il 0 <| o_if (fun a => ¬ a = 0) (k_M_there_12 QR QT H) (k_M_there_4 QR QT H)
set_option maxRecDepth 8000 in
theorem s_M_there_12 {l : Launch} {ad : Nat → Nat} {D : va_G} {cA : Nat → ClassId} {WW : Nat → qP} {QR : Option qA → qS → Prop} (S : qSnd l rm_M_there ad D cA R_M b_M_there 1 WW) (Q : qRet (none) b_M_there WW QR) {QT : Nat → qS → Prop} (Th : qThr l rm_M_there ad D cA R_M b_M_there WW QT) : qle (k_M_there_12 QR QT WW) WW 12 :=
  Q.2.2.2 rfl _ d_M_there_12
set_option maxRecDepth 8000 in
theorem s_M_there_4 {l : Launch} {ad : Nat → Nat} {D : va_G} {cA : Nat → ClassId} {WW : Nat → qP} {QR : Option qA → qS → Prop} (S : qSnd l rm_M_there ad D cA R_M b_M_there 1 WW) (Q : qRet (none) b_M_there WW QR) {QT : Nat → qS → Prop} (Th : qThr l rm_M_there ad D cA R_M b_M_there WW QT) : qle (k_M_there_4 QR QT WW) WW 4 :=
  Th.1 rfl 2 204 4 (by decide) (lw_at 371 (by decide +kernel) rfl) (lw_at 372 (by decide +kernel) rfl) (lw_at 64 (by decide +kernel) rfl) (by decide) d_M_there_4 d_M_there_7 d_M_there_8 d_M_there_11
set_option maxRecDepth 8000 in
theorem s_M_there_0 {l : Launch} {ad : Nat → Nat} {D : va_G} {cA : Nat → ClassId} {WW : Nat → qP} {QR : Option qA → qS → Prop} (S : qSnd l rm_M_there ad D cA R_M b_M_there 1 WW) (Q : qRet (none) b_M_there WW QR) {QT : Nat → qS → Prop} (Th : qThr l rm_M_there ad D cA R_M b_M_there WW QT) : qle (k_M_there_0 QR QT WW) WW 0 :=
  S.iload_n d_M_there_0 rfl <| S.if_ne d_M_there_1 (by decide) (s_M_there_12 S Q Th) (s_M_there_4 S Q Th)
theorem w_M_there {l : Launch} {ad : Nat → Nat} {D : va_G} {cA : Nat → ClassId} {WW : Nat → qP} {QR : Option qA → qS → Prop} (S : qSnd l rm_M_there ad D cA R_M b_M_there 1 WW) (Q : qRet (none) b_M_there WW QR) {QT : Nat → qS → Prop} (Th : qThr l rm_M_there ad D cA R_M b_M_there WW QT) (a1 : Int) (σ : qS) (ha1 : r32 a1) (hσ : qoS σ) (h : P_M_there a1 σ) (hq : ∀ σ', Q_M_there a1 σ σ' → QR none σ') (ht : ∀ (t : Nat) σ', T_M_there a1 σ t σ' → QT t σ') : WW 0 [] [some (.inl a1)] σ := by
  refine s_M_there_0 S Q Th _ _ _ ?_
  simp only [k_M_there_0, k_M_there_4, k_M_there_12, o_th, o_c, o_il, o_ll, o_al, o_is, o_as, o_ls, o_inc, o_bi, o_bid, o_bl, o_bld, o_sl, o_i2l, o_l2i, o_dup, o_dup2, o_pop, o_pop2, o_if, o_i2, o_l2, swg, o_sw, o_gI, o_gZ, o_gJ, o_gA, o_gR, o_pI, o_pZ, o_pJ, o_pR, o_ia, o_iak, o_zak, o_ja, o_jak, o_is_, o_isk, o_zsk, o_js_, o_jsk, o_len, o_ri, o_rz, o_rl, o_rv, ls1, ls2, lks, lkj, List.getD_cons_zero, List.getD_cons_succ, List.set_cons_zero, List.set_cons_succ, qcat, true_and, and_true, List.map_nil, List.map_cons, List.sum_nil, List.sum_cons, Nat.reduceAdd, Nat.reduceLeDiff, Nat.zero_le, Int.reduceAdd, Int.reduceNeg, Int.reduceEq, or_true, true_or, Decidable.not_not, false_implies, not_false_eq_true, true_implies, not_true_eq_false, Int.reduceLT, Int.reduceLE]
  exact ⟨fun h => hq _ ⟨h, rfl⟩, fun h => ht _ _ ⟨h, rfl, rfl⟩⟩
theorem c_M_there (l : Launch) (ad : Nat → Nat) (D : va_G) (cA : Nat → ClassId) : qT l ad D cA y_M_there (Cond.code y_M_there b_M_there 1 (none) :: lw_g) rm_M_there pre_M_there post_M_there pst_M_there := by
  refine qT_of (own := R_M) (by decide) rfl ?_ ?_
  · intro av σ h; unfold pre_M_there at h; split at h
    · simp [qen]
    · exact h.elim
  · intro WW QR QT S Q Th av σ hav hσ h hq ht; unfold pre_M_there at h; split at h
    next a1 =>
      exact w_M_there S Q Th a1 σ (hav _ (List.mem_of_getElem? (i := 0) rfl)) hσ h (fun σ' h' => hq _ σ' h') (fun t σ' h' => ht t σ' h')
    next => exact h.elim
def P_M_isFile (_f : Int) (_σ : qS) : Prop := True
def Q_M_isFile (f : Int) (σ σ' : qS) : Prop := (0 ≤ f ∧ f ≤ 15) ∧ σ' = σ
def T_M_isFile (f : Int) (σ : qS) (t : Nat) (σ' : qS) : Prop := ¬ (0 ≤ f ∧ f ≤ 15) ∧ t = 2 ∧ σ' = σ
def pre_M_isFile (av : List qA) (σ : qS) : Prop := match av with
  | [.inl a1] => P_M_isFile a1 σ
  | _ => False
def post_M_isFile (av : List qA) (σ : qS) (r : Option qA) (σ' : qS) : Prop := match av, r with
  | [.inl a1], none => Q_M_isFile a1 σ σ'
  | _, _ => False
def oc_M_isFile (K : qP) : qP := fun st ls σ => match st with
  | .inl a1 :: st => (st.map qcat).sum ≤ 8 ∧ P_M_isFile a1 σ ∧ ∀ (σ' : qS), Q_M_isFile a1 σ σ' → K st ls σ'
  | _ => False
def pst_M_isFile (av : List qA) (σ : qS) (t : Nat) (σ' : qS) : Prop := match av with
  | [.inl a1] => T_M_isFile a1 σ t σ'
  | _ => False
def ot_M_isFile (QT : Nat → qS → Prop) (K : qP) : qP := fun st ls σ => match st with
  | .inl a1 :: st => (st.map qcat).sum ≤ 8 ∧ P_M_isFile a1 σ ∧ (∀ (σ' : qS), Q_M_isFile a1 σ σ' → K st ls σ') ∧ ∀ (t : Nat) (σ' : qS), T_M_isFile a1 σ t σ' → QT t σ'
  | _ => False
def rm_M_isFile : Room := { frames := 7, cells := 1, slots := 6, locals := 101 }
theorem sc_M_431 {l : Launch} {R : Room} {ad : Nat → Nat} {D : va_G} {cA : Nat → ClassId} {cc : ByteArray} {nL : Nat} {WW : Nat → qP} (S : qSnd l R ad D cA R_M cc nL WW) (hR : rm_M_in.frames + 1 ≤ R.frames ∧ 8 + (6 + 11) + rm_M_in.locals ≤ R.locals) {K : qP} {pc : Nat} (d : decode cc pc = .ok (.invokestatic 431, 3)) (h : qle K WW (pc + 3)) : qle (oc_M_in K) WW pc := by
  intro st ls σ k
  refine S.callS (n := 3) (pre := pre_M_in) (post := post_M_in) ⟨lw_at 367 (by decide +kernel) rfl, lw_at 365 (by decide +kernel) rfl, lw_at 59 (by decide +kernel) rfl, by decide, by decide, by decide +kernel⟩ (lw_at 366 (by decide +kernel) rfl) ⟨rfl, rfl⟩ hR (c_M_in l ad D cA) d h st ls σ ?_
  unfold oc_M_in at k
  split at k
  next a3 a2 a1 st =>
    obtain ⟨hs, hp, k⟩ := k
    refine ⟨[.inr (.inl a1), .inr (.inl a2), .inr (.inl a3)], st, rfl, rfl, hs, hp, fun r σ' hq => ?_⟩
    unfold post_M_in at hq
    split at hq
    next h1 =>
      cases h1
      exact k _ _ hq
    next => exact hq.elim
  next => exact k.elim
theorem st_M_435 {l : Launch} {R : Room} {ad : Nat → Nat} {D : va_G} {cA : Nat → ClassId} {cc : ByteArray} {WW : Nat → qP} {QT : Nat → qS → Prop} (Th : qThr l R ad D cA R_M cc WW QT) (hR : rm_M_there.frames + 1 ≤ R.frames ∧ 8 + (1 + 11) + rm_M_there.locals ≤ R.locals ∧ 0 + rm_M_there.cells ≤ R.cells ∧ 0 + rm_M_there.slots ≤ R.slots) {K : qP} {pc : Nat} (d : decode cc pc = .ok (.invokestatic 435, 3)) (h : qle K WW (pc + 3)) : qle (ot_M_there QT K) WW pc := by
  intro st ls σ k
  refine Th.2.1 435 1 1 pc _ _ _ rm_M_there pre_M_there post_M_there pst_M_there K ⟨lw_at 370 (by decide +kernel) rfl, lw_at 368 (by decide +kernel) rfl, lw_at 59 (by decide +kernel) rfl, by decide, by decide, by decide +kernel⟩ (lw_at 369 (by decide +kernel) rfl) hR (c_M_there l ad D cA) d h st ls σ ?_
  unfold ot_M_there at k
  split at k
  next a1 st =>
    obtain ⟨hs, hp, k, kt⟩ := k
    refine ⟨[.inl a1], st, rfl, rfl, hs, hp, fun r σ' hq => ?_, fun t σ' hq => kt t σ' hq⟩
    unfold post_M_there at hq
    split at hq
    next h1 =>
      cases h1
      exact k _ hq
    next => exact hq.elim
  next => exact k.elim
def k_M_isFile_0 (QR : Option qA → qS → Prop) (QT : Nat → qS → Prop) (H : Nat → qP) : qP :=
  o_il 0 <| o_i2l <| o_c (.inr (.inl 0)) <| o_c (.inr (.inl 15)) <| oc_M_in <| ot_M_there QT <| o_rv QR
set_option maxRecDepth 8000 in
theorem s_M_isFile_0 {l : Launch} {ad : Nat → Nat} {D : va_G} {cA : Nat → ClassId} {WW : Nat → qP} {QR : Option qA → qS → Prop} (S : qSnd l rm_M_isFile ad D cA R_M b_M_isFile 1 WW) (Q : qRet (none) b_M_isFile WW QR) {QT : Nat → qS → Prop} (Th : qThr l rm_M_isFile ad D cA R_M b_M_isFile WW QT) : qle (k_M_isFile_0 QR QT WW) WW 0 :=
  S.iload_n d_M_isFile_0 rfl <| S.i2l d_M_isFile_1 <| S.lconst d_M_isFile_2 (by decide) <| S.ldc2 d_M_isFile_3 (lw_at 364 (by decide +kernel) rfl) (by decide) <| sc_M_431 S (by decide) d_M_isFile_6 <| st_M_435 Th (by decide) d_M_isFile_9 <| Q.2.2.2 rfl _ d_M_isFile_12
theorem w_M_isFile {l : Launch} {ad : Nat → Nat} {D : va_G} {cA : Nat → ClassId} {WW : Nat → qP} {QR : Option qA → qS → Prop} (S : qSnd l rm_M_isFile ad D cA R_M b_M_isFile 1 WW) (Q : qRet (none) b_M_isFile WW QR) {QT : Nat → qS → Prop} (Th : qThr l rm_M_isFile ad D cA R_M b_M_isFile WW QT) (a1 : Int) (σ : qS) (ha1 : r32 a1) (hσ : qoS σ) (h : P_M_isFile a1 σ) (hq : ∀ σ', Q_M_isFile a1 σ σ' → QR none σ') (ht : ∀ (t : Nat) σ', T_M_isFile a1 σ t σ' → QT t σ') : WW 0 [] [some (.inl a1)] σ := by
  refine s_M_isFile_0 S Q Th _ _ _ ?_
  simp only [k_M_isFile_0, oc_M_in, ot_M_there, o_th, o_c, o_il, o_ll, o_al, o_is, o_as, o_ls, o_inc, o_bi, o_bid, o_bl, o_bld, o_sl, o_i2l, o_l2i, o_dup, o_dup2, o_pop, o_pop2, o_if, o_i2, o_l2, swg, o_sw, o_gI, o_gZ, o_gJ, o_gA, o_gR, o_pI, o_pZ, o_pJ, o_pR, o_ia, o_iak, o_zak, o_ja, o_jak, o_is_, o_isk, o_zsk, o_js_, o_jsk, o_len, o_ri, o_rz, o_rl, o_rv, ls1, ls2, lks, lkj, List.getD_cons_zero, List.getD_cons_succ, List.set_cons_zero, List.set_cons_succ, qcat, true_and, and_true, List.map_nil, List.map_cons, List.sum_nil, List.sum_cons, Nat.reduceAdd, Nat.reduceLeDiff, Nat.zero_le, Int.reduceAdd, Int.reduceNeg, Int.reduceEq, or_true, true_or, Decidable.not_not, false_implies, not_false_eq_true, true_implies, not_true_eq_false, Int.reduceLT, Int.reduceLE]
  refine ⟨trivial, fun r σ1 q1 => ?_⟩
  obtain ⟨e9, rfl⟩ := q1; replace e9 := e9.symm; subst e9
  refine ⟨trivial, fun σ2 q2 => ?_, fun t σ2 q2 => ?_⟩
  · obtain ⟨h1, rfl⟩ := q2
    exact hq _ ⟨by by_cases h : 0 ≤ a1 ∧ a1 ≤ 15; exact h; rw [if_neg h] at h1; exact absurd rfl h1, rfl⟩
  · obtain ⟨h1, rfl, rfl⟩ := q2
    exact ht _ _ ⟨fun h => by rw [if_pos h] at h1; omega, rfl, rfl⟩
theorem c_M_isFile (l : Launch) (ad : Nat → Nat) (D : va_G) (cA : Nat → ClassId) : qT l ad D cA y_M_isFile (Cond.code y_M_isFile b_M_isFile 1 (none) :: lw_g) rm_M_isFile pre_M_isFile post_M_isFile pst_M_isFile := by
  refine qT_of (own := R_M) (by decide) rfl ?_ ?_
  · intro av σ h; unfold pre_M_isFile at h; split at h
    · simp [qen]
    · exact h.elim
  · intro WW QR QT S Q Th av σ hav hσ h hq ht; unfold pre_M_isFile at h; split at h
    next a1 =>
      exact w_M_isFile S Q Th a1 σ (hav _ (List.mem_of_getElem? (i := 0) rfl)) hσ h (fun σ' h' => hq _ σ' h') (fun t σ' h' => ht t σ' h')
    next => exact h.elim
def P_M_notGoing (_σ : qS) : Prop := True
def Q_M_notGoing (σ σ' : qS) : Prop := σ 26 0 = 0 ∧ σ' = σ
def T_M_notGoing (σ : qS) (t : Nat) (σ' : qS) : Prop := σ 26 0 ≠ 0 ∧ t = 1 ∧ σ' = σ
def pre_M_notGoing (av : List qA) (σ : qS) : Prop := match av with
  | [.inr (.inr o)] => o = 900 ∧ P_M_notGoing  σ
  | _ => False
def post_M_notGoing (av : List qA) (σ : qS) (r : Option qA) (σ' : qS) : Prop := match av, r with
  | [_], none => Q_M_notGoing  σ σ'
  | _, _ => False
def oc_M_notGoing (K : qP) : qP := fun st ls σ => match st with
  | .inr (.inr o) :: st => o = 900 ∧ (st.map qcat).sum ≤ 8 ∧ P_M_notGoing  σ ∧ ∀ (σ' : qS), Q_M_notGoing  σ σ' → K st ls σ'
  | _ => False
def pst_M_notGoing (av : List qA) (σ : qS) (t : Nat) (σ' : qS) : Prop := match av with
  | [_] => T_M_notGoing  σ t σ'
  | _ => False
def ot_M_notGoing (QT : Nat → qS → Prop) (K : qP) : qP := fun st ls σ => match st with
  | .inr (.inr o) :: st => o = 900 ∧ (st.map qcat).sum ≤ 8 ∧ P_M_notGoing  σ ∧ (∀ (σ' : qS), Q_M_notGoing  σ σ' → K st ls σ') ∧ ∀ (t : Nat) (σ' : qS), T_M_notGoing  σ t σ' → QT t σ'
  | _ => False
def rm_M_notGoing : Room := { frames := 7, cells := 1, slots := 6, locals := 101 }
theorem fl_M_422 : qF R_M 900 0 82 0 R_M F_M 422 26 := ⟨Or.inl ⟨rfl, rfl, rfl, rfl, rfl, rfl⟩, by decide, lw_at 104 (by decide +kernel) rfl⟩
theorem st_M_425 {l : Launch} {R : Room} {ad : Nat → Nat} {D : va_G} {cA : Nat → ClassId} {cc : ByteArray} {WW : Nat → qP} {QT : Nat → qS → Prop} (Th : qThr l R ad D cA R_M cc WW QT) (hR : rm_M_may.frames + 1 ≤ R.frames ∧ 8 + (1 + 11) + rm_M_may.locals ≤ R.locals ∧ 0 + rm_M_may.cells ≤ R.cells ∧ 0 + rm_M_may.slots ≤ R.slots) {K : qP} {pc : Nat} (d : decode cc pc = .ok (.invokestatic 425, 3)) (h : qle K WW (pc + 3)) : qle (ot_M_may QT K) WW pc := by
  intro st ls σ k
  refine Th.2.1 425 1 1 pc _ _ _ rm_M_may pre_M_may post_M_may pst_M_may K ⟨lw_at 437 (by decide +kernel) rfl, lw_at 435 (by decide +kernel) rfl, lw_at 59 (by decide +kernel) rfl, by decide, by decide, by decide +kernel⟩ (lw_at 436 (by decide +kernel) rfl) hR (c_M_may l ad D cA) d h st ls σ ?_
  unfold ot_M_may at k
  split at k
  next a1 st =>
    obtain ⟨hs, hp, k, kt⟩ := k
    refine ⟨[.inl a1], st, rfl, rfl, hs, hp, fun r σ' hq => ?_, fun t σ' hq => kt t σ' hq⟩
    unfold post_M_may at hq
    split at hq
    next h1 =>
      cases h1
      exact k _ hq
    next => exact hq.elim
  next => exact k.elim
def k_M_notGoing_12 (QR : Option qA → qS → Prop) (QT : Nat → qS → Prop) (H : Nat → qP) : qP :=
  ot_M_may QT <| o_rv QR
def k_M_notGoing_11 (QR : Option qA → qS → Prop) (QT : Nat → qS → Prop) (H : Nat → qP) : qP :=
  o_c (.inl 0) <| k_M_notGoing_12 QR QT H
def k_M_notGoing_7 (QR : Option qA → qS → Prop) (QT : Nat → qS → Prop) (H : Nat → qP) : qP :=
  o_c (.inl 1) <| k_M_notGoing_12 QR QT H
def k_M_notGoing_0 (QR : Option qA → qS → Prop) (QT : Nat → qS → Prop) (H : Nat → qP) : qP :=
  o_al 0 <| o_gZ 900 26 <| o_if (fun a => ¬ a = 0) (k_M_notGoing_11 QR QT H) (k_M_notGoing_7 QR QT H)
set_option maxRecDepth 8000 in
theorem s_M_notGoing_12 {l : Launch} {ad : Nat → Nat} {D : va_G} {cA : Nat → ClassId} {WW : Nat → qP} {QR : Option qA → qS → Prop} (S : qSnd l rm_M_notGoing ad D cA R_M b_M_notGoing 1 WW) (Q : qRet (none) b_M_notGoing WW QR) {QT : Nat → qS → Prop} (Th : qThr l rm_M_notGoing ad D cA R_M b_M_notGoing WW QT) : qle (k_M_notGoing_12 QR QT WW) WW 12 :=
  st_M_425 Th (by decide) d_M_notGoing_12 <| Q.2.2.2 rfl _ d_M_notGoing_15
set_option maxRecDepth 8000 in
theorem s_M_notGoing_11 {l : Launch} {ad : Nat → Nat} {D : va_G} {cA : Nat → ClassId} {WW : Nat → qP} {QR : Option qA → qS → Prop} (S : qSnd l rm_M_notGoing ad D cA R_M b_M_notGoing 1 WW) (Q : qRet (none) b_M_notGoing WW QR) {QT : Nat → qS → Prop} (Th : qThr l rm_M_notGoing ad D cA R_M b_M_notGoing WW QT) : qle (k_M_notGoing_11 QR QT WW) WW 11 :=
  S.iconst d_M_notGoing_11 (by decide) <| (s_M_notGoing_12 S Q Th)
set_option maxRecDepth 8000 in
theorem s_M_notGoing_7 {l : Launch} {ad : Nat → Nat} {D : va_G} {cA : Nat → ClassId} {WW : Nat → qP} {QR : Option qA → qS → Prop} (S : qSnd l rm_M_notGoing ad D cA R_M b_M_notGoing 1 WW) (Q : qRet (none) b_M_notGoing WW QR) {QT : Nat → qS → Prop} (Th : qThr l rm_M_notGoing ad D cA R_M b_M_notGoing WW QT) : qle (k_M_notGoing_7 QR QT WW) WW 7 :=
  S.iconst d_M_notGoing_7 (by decide) <| S.goto d_M_notGoing_8 (by decide) (s_M_notGoing_12 S Q Th)
set_option maxRecDepth 8000 in
theorem s_M_notGoing_0 {l : Launch} {ad : Nat → Nat} {D : va_G} {cA : Nat → ClassId} {WW : Nat → qP} {QR : Option qA → qS → Prop} (S : qSnd l rm_M_notGoing ad D cA R_M b_M_notGoing 1 WW) (Q : qRet (none) b_M_notGoing WW QR) {QT : Nat → qS → Prop} (Th : qThr l rm_M_notGoing ad D cA R_M b_M_notGoing WW QT) : qle (k_M_notGoing_0 QR QT WW) WW 0 :=
  S.aload_n d_M_notGoing_0 rfl <| S.gZ fl_M_422 (by decide) d_M_notGoing_1 <| S.if_ne d_M_notGoing_4 (by decide) (s_M_notGoing_11 S Q Th) (s_M_notGoing_7 S Q Th)
theorem w_M_notGoing {l : Launch} {ad : Nat → Nat} {D : va_G} {cA : Nat → ClassId} {WW : Nat → qP} {QR : Option qA → qS → Prop} (S : qSnd l rm_M_notGoing ad D cA R_M b_M_notGoing 1 WW) (Q : qRet (none) b_M_notGoing WW QR) {QT : Nat → qS → Prop} (Th : qThr l rm_M_notGoing ad D cA R_M b_M_notGoing WW QT)  (σ : qS)  (hσ : qoS σ) (h : P_M_notGoing  σ) (hq : ∀ σ', Q_M_notGoing  σ σ' → QR none σ') (ht : ∀ (t : Nat) σ', T_M_notGoing  σ t σ' → QT t σ') : WW 0 [] [some (.inr (.inr 900))] σ := by
  refine s_M_notGoing_0 S Q Th _ _ _ ?_
  simp only [k_M_notGoing_0, k_M_notGoing_7, k_M_notGoing_11, k_M_notGoing_12, ot_M_may, o_th, o_c, o_il, o_ll, o_al, o_is, o_as, o_ls, o_inc, o_bi, o_bid, o_bl, o_bld, o_sl, o_i2l, o_l2i, o_dup, o_dup2, o_pop, o_pop2, o_if, o_i2, o_l2, swg, o_sw, o_gI, o_gZ, o_gJ, o_gA, o_gR, o_pI, o_pZ, o_pJ, o_pR, o_ia, o_iak, o_zak, o_ja, o_jak, o_is_, o_isk, o_zsk, o_js_, o_jsk, o_len, o_ri, o_rz, o_rl, o_rv, ls1, ls2, lks, lkj, List.getD_cons_zero, List.getD_cons_succ, List.set_cons_zero, List.set_cons_succ, qcat, true_and, and_true, List.map_nil, List.map_cons, List.sum_nil, List.sum_cons, Nat.reduceAdd, Nat.reduceLeDiff, Nat.zero_le, Int.reduceAdd, Int.reduceNeg, Int.reduceEq, or_true, true_or, Decidable.not_not, false_implies, not_false_eq_true, true_implies, not_true_eq_false, Int.reduceLT, Int.reduceLE]
  refine fun _ => ⟨fun h0 => ⟨trivial, fun σ2 q2 => ?_, fun t σ2 q2 => ?_⟩, fun h0 => ⟨trivial, fun σ2 q2 => ?_, fun t σ2 q2 => ?_⟩⟩
  · obtain ⟨h1, rfl⟩ := q2; exact absurd rfl h1
  · obtain ⟨h1, rfl, rfl⟩ := q2; exact ht _ _ ⟨h0, rfl, rfl⟩
  · obtain ⟨h1, rfl⟩ := q2; exact hq _ ⟨h0, rfl⟩
  · obtain ⟨h1, rfl, rfl⟩ := q2; omega
theorem c_M_notGoing (l : Launch) (ad : Nat → Nat) (D : va_G) (cA : Nat → ClassId) : qT l ad D cA y_M_notGoing (Cond.code y_M_notGoing b_M_notGoing 1 (none) :: lw_g) rm_M_notGoing pre_M_notGoing post_M_notGoing pst_M_notGoing := by
  refine qT_of (own := R_M) (by decide) rfl ?_ ?_
  · intro av σ h; unfold pre_M_notGoing at h; split at h
    · simp [qen]
    · exact h.elim
  · intro WW QR QT S Q Th av σ hav hσ h hq ht; unfold pre_M_notGoing at h; split at h
    next o =>
      obtain ⟨rfl, h⟩ := h
      exact w_M_notGoing S Q Th  σ  hσ h (fun σ' h' => hq _ σ' h') (fun t σ' h' => ht t σ' h')
    next => exact h.elim
theorem mayN {σ : qS} {QT : Nat → qS → Prop} {K : qS → Prop} (h : QT 1 σ) : P_M_may 0 σ ∧ (∀ σ', Q_M_may 0 σ σ' → K σ') ∧ ∀ t σ', T_M_may 0 σ t σ' → QT t σ' := ⟨trivial, fun σ' q => absurd rfl q.1, fun t σ' q => by obtain ⟨_, rfl, rfl⟩ := q; exact h⟩
theorem mayY {σ : qS} {QT : Nat → qS → Prop} {K : qS → Prop} (h : K σ) : P_M_may 1 σ ∧ (∀ σ', Q_M_may 1 σ σ' → K σ') ∧ ∀ t σ', T_M_may 1 σ t σ' → QT t σ' := ⟨trivial, fun σ' q => by obtain ⟨_, rfl⟩ := q; exact h, fun t σ' q => by have := q.1; omega⟩
theorem mayB {b : Int} {σ : qS} {QT : Nat → qS → Prop} {K : qS → Prop} (h1 : b ≠ 0 → K σ) (h2 : b = 0 → QT 1 σ) : P_M_may b σ ∧ (∀ σ', Q_M_may b σ σ' → K σ') ∧ ∀ t σ', T_M_may b σ t σ' → QT t σ' := ⟨trivial, fun σ' q => by obtain ⟨h, rfl⟩ := q; exact h1 h, fun t σ' q => by obtain ⟨h, rfl, rfl⟩ := q; exact h2 h⟩
theorem rightB {b : Int} {σ : qS} {QT : Nat → qS → Prop} {K : qS → Prop} (h1 : b ≠ 0 → K σ) (h2 : b = 0 → QT 0 σ) : P_M_right b σ ∧ (∀ σ', Q_M_right b σ σ' → K σ') ∧ ∀ t σ', T_M_right b σ t σ' → QT t σ' := ⟨trivial, fun σ' q => by obtain ⟨h, rfl⟩ := q; exact h1 h, fun t σ' q => by obtain ⟨h, rfl, rfl⟩ := q; exact h2 h⟩
theorem rightN {σ : qS} {QT : Nat → qS → Prop} {K : qS → Prop} (h : QT 0 σ) : P_M_right 0 σ ∧ (∀ σ', Q_M_right 0 σ σ' → K σ') ∧ ∀ t σ', T_M_right 0 σ t σ' → QT t σ' := rightB (fun h => absurd rfl h) (fun _ => h)
theorem rightY {σ : qS} {QT : Nat → qS → Prop} {K : qS → Prop} (h : K σ) : P_M_right 1 σ ∧ (∀ σ', Q_M_right 1 σ σ' → K σ') ∧ ∀ t σ', T_M_right 1 σ t σ' → QT t σ' := rightB (fun _ => h) (fun h => by omega)
theorem inTh {v lo hi : Int} {σ : qS} {QT : Nat → qS → Prop} {K : qS → Prop} (h1 : lo ≤ v ∧ v ≤ hi → K σ) (h2 : ¬ (lo ≤ v ∧ v ≤ hi) → QT 2 σ) : P_M_in v lo hi σ ∧ ∀ r σ1, Q_M_in v lo hi σ r σ1 → P_M_there r σ1 ∧ (∀ σ', Q_M_there r σ1 σ' → K σ') ∧ ∀ t σ', T_M_there r σ1 t σ' → QT t σ' := by
  refine ⟨trivial, fun r σ1 q1 => ?_⟩
  obtain ⟨e9, rfl⟩ := q1; replace e9 := e9.symm; subst e9
  refine ⟨trivial, fun σ2 q2 => ?_, fun t σ2 q2 => ?_⟩
  · obtain ⟨h, rfl⟩ := q2
    by_cases hh : lo ≤ v ∧ v ≤ hi
    · exact h1 hh
    · rw [if_neg hh] at h; exact absurd rfl h
  · obtain ⟨h, rfl, rfl⟩ := q2
    by_cases hh : lo ≤ v ∧ v ≤ hi
    · rw [if_pos hh] at h; omega
    · exact h2 hh
theorem inB {v lo hi : Int} {σ : qS} {K : Int → qS → Prop} (h1 : lo ≤ v ∧ v ≤ hi → K 1 σ) (h2 : ¬ (lo ≤ v ∧ v ≤ hi) → K 0 σ) : P_M_in v lo hi σ ∧ ∀ r σ1, Q_M_in v lo hi σ r σ1 → K r σ1 := by
  refine ⟨trivial, fun r σ1 q1 => ?_⟩
  obtain ⟨e9, rfl⟩ := q1; replace e9 := e9.symm; subst e9
  by_cases hh : lo ≤ v ∧ v ≤ hi
  · rw [if_pos hh]; exact h1 hh
  · rw [if_neg hh]; exact h2 hh
theorem inRt {v lo hi : Int} {σ : qS} {QT : Nat → qS → Prop} {K : qS → Prop} (h1 : lo ≤ v ∧ v ≤ hi → K σ) (h2 : ¬ (lo ≤ v ∧ v ≤ hi) → QT 0 σ) : P_M_in v lo hi σ ∧ ∀ r σ1, Q_M_in v lo hi σ r σ1 → P_M_right r σ1 ∧ (∀ σ', Q_M_right r σ1 σ' → K σ') ∧ ∀ t σ', T_M_right r σ1 t σ' → QT t σ' := by
  refine inB (fun h => rightB (fun _ => h1 h) (fun h => by omega)) (fun h => rightB (fun h' => absurd rfl h') (fun _ => h2 h))
theorem isF {f : Int} {σ : qS} {QT : Nat → qS → Prop} {K : qS → Prop} (h1 : 0 ≤ f ∧ f ≤ 15 → K σ) (h2 : ¬ (0 ≤ f ∧ f ≤ 15) → QT 2 σ) : P_M_isFile f σ ∧ (∀ σ', Q_M_isFile f σ σ' → K σ') ∧ ∀ t σ', T_M_isFile f σ t σ' → QT t σ' := ⟨trivial, fun σ' q => by obtain ⟨h, rfl⟩ := q; exact h1 h, fun t σ' q => by obtain ⟨h, rfl, rfl⟩ := q; exact h2 h⟩
theorem notG {σ : qS} {QT : Nat → qS → Prop} {K : qS → Prop} (h1 : σ 26 0 = 0 → K σ) (h2 : σ 26 0 ≠ 0 → QT 1 σ) : P_M_notGoing σ ∧ (∀ σ', Q_M_notGoing σ σ' → K σ') ∧ ∀ t σ', T_M_notGoing σ t σ' → QT t σ' := ⟨trivial, fun σ' q => by obtain ⟨h, rfl⟩ := q; exact h1 h, fun t σ' q => by obtain ⟨h, rfl, rfl⟩ := q; exact h2 h⟩
def fsok (σ : qS) : Prop := ∀ f, 0 ≤ f → f < 16 → 0 ≤ σ 2 f ∧ σ 2 f ≤ 300
def P_M_size (_f : Int) (_σ : qS) : Prop := True
def Q_M_size (f : Int) (σ : qS) (r : Int) (σ' : qS) : Prop := (0 ≤ f ∧ f ≤ 15) ∧ σ 26 0 = 0 ∧ r = σ 2 f ∧ σ' = σ
def T_M_size (f : Int) (σ : qS) (t : Nat) (σ' : qS) : Prop := σ' = σ ∧ ((¬ (0 ≤ f ∧ f ≤ 15) ∧ t = 2) ∨ ((0 ≤ f ∧ f ≤ 15) ∧ σ 26 0 ≠ 0 ∧ t = 1))
def pre_M_size (av : List qA) (σ : qS) : Prop := match av with
  | [.inr (.inr o), .inl a1] => o = 900 ∧ P_M_size a1 σ
  | _ => False
def post_M_size (av : List qA) (σ : qS) (r : Option qA) (σ' : qS) : Prop := match av, r with
  | [_, .inl a1], some (.inl r) => Q_M_size a1 σ r σ'
  | _, _ => False
def oc_M_size (K : qP) : qP := fun st ls σ => match st with
  | .inl a1 :: .inr (.inr o) :: st => o = 900 ∧ (st.map qcat).sum ≤ 8 ∧ P_M_size a1 σ ∧ ∀ (r : Int) (σ' : qS), Q_M_size a1 σ r σ' → K (.inl r :: st) ls σ'
  | _ => False
def pst_M_size (av : List qA) (σ : qS) (t : Nat) (σ' : qS) : Prop := match av with
  | [_, .inl a1] => T_M_size a1 σ t σ'
  | _ => False
def ot_M_size (QT : Nat → qS → Prop) (K : qP) : qP := fun st ls σ => match st with
  | .inl a1 :: .inr (.inr o) :: st => o = 900 ∧ (st.map qcat).sum ≤ 8 ∧ P_M_size a1 σ ∧ (∀ (r : Int) (σ' : qS), Q_M_size a1 σ r σ' → K (.inl r :: st) ls σ') ∧ ∀ (t : Nat) (σ' : qS), T_M_size a1 σ t σ' → QT t σ'
  | _ => False
def rm_M_size : Room := { frames := 8, cells := 1, slots := 6, locals := 121 }
theorem st_M_438 {l : Launch} {R : Room} {ad : Nat → Nat} {D : va_G} {cA : Nat → ClassId} {cc : ByteArray} {WW : Nat → qP} {QT : Nat → qS → Prop} (Th : qThr l R ad D cA R_M cc WW QT) (hR : rm_M_isFile.frames + 1 ≤ R.frames ∧ 8 + (1 + 11) + rm_M_isFile.locals ≤ R.locals ∧ 0 + rm_M_isFile.cells ≤ R.cells ∧ 0 + rm_M_isFile.slots ≤ R.slots) {K : qP} {pc : Nat} (d : decode cc pc = .ok (.invokestatic 438, 3)) (h : qle K WW (pc + 3)) : qle (ot_M_isFile QT K) WW pc := by
  intro st ls σ k
  refine Th.2.1 438 1 1 pc _ _ _ rm_M_isFile pre_M_isFile post_M_isFile pst_M_isFile K ⟨lw_at 363 (by decide +kernel) rfl, lw_at 361 (by decide +kernel) rfl, lw_at 59 (by decide +kernel) rfl, by decide, by decide, by decide +kernel⟩ (lw_at 362 (by decide +kernel) rfl) hR (c_M_isFile l ad D cA) d h st ls σ ?_
  unfold ot_M_isFile at k
  split at k
  next a1 st =>
    obtain ⟨hs, hp, k, kt⟩ := k
    refine ⟨[.inl a1], st, rfl, rfl, hs, hp, fun r σ' hq => ?_, fun t σ' hq => kt t σ' hq⟩
    unfold post_M_isFile at hq
    split at hq
    next h1 =>
      cases h1
      exact k _ hq
    next => exact hq.elim
  next => exact k.elim
def k_M_size_16 (QR : Option qA → qS → Prop) (QT : Nat → qS → Prop) (H : Nat → qP) : qP :=
  ot_M_may QT <| o_al 0 <| o_gA 900 2 <| o_il 1 <| o_iak 2 16 <| o_ri QR
def k_M_size_15 (QR : Option qA → qS → Prop) (QT : Nat → qS → Prop) (H : Nat → qP) : qP :=
  o_c (.inl 0) <| k_M_size_16 QR QT H
def k_M_size_11 (QR : Option qA → qS → Prop) (QT : Nat → qS → Prop) (H : Nat → qP) : qP :=
  o_c (.inl 1) <| k_M_size_16 QR QT H
def k_M_size_0 (QR : Option qA → qS → Prop) (QT : Nat → qS → Prop) (H : Nat → qP) : qP :=
  o_il 1 <| ot_M_isFile QT <| o_al 0 <| o_gZ 900 26 <| o_if (fun a => ¬ a = 0) (k_M_size_15 QR QT H) (k_M_size_11 QR QT H)
set_option maxRecDepth 8000 in
theorem s_M_size_16 {l : Launch} {ad : Nat → Nat} {D : va_G} {cA : Nat → ClassId} {WW : Nat → qP} {QR : Option qA → qS → Prop} (S : qSnd l rm_M_size ad D cA R_M b_M_size 2 WW) (Q : qRet (some .int) b_M_size WW QR) {QT : Nat → qS → Prop} (Th : qThr l rm_M_size ad D cA R_M b_M_size WW QT) : qle (k_M_size_16 QR QT WW) WW 16 :=
  st_M_425 Th (by decide) d_M_size_16 <| S.aload_n d_M_size_19 rfl <| S.gA fl_M_16 (by decide) d_M_size_20 <| S.iload_n d_M_size_23 rfl <| S.iak (by decide) d_M_size_24 <| Q.1 rfl _ d_M_size_25
set_option maxRecDepth 8000 in
theorem s_M_size_15 {l : Launch} {ad : Nat → Nat} {D : va_G} {cA : Nat → ClassId} {WW : Nat → qP} {QR : Option qA → qS → Prop} (S : qSnd l rm_M_size ad D cA R_M b_M_size 2 WW) (Q : qRet (some .int) b_M_size WW QR) {QT : Nat → qS → Prop} (Th : qThr l rm_M_size ad D cA R_M b_M_size WW QT) : qle (k_M_size_15 QR QT WW) WW 15 :=
  S.iconst d_M_size_15 (by decide) <| (s_M_size_16 S Q Th)
set_option maxRecDepth 8000 in
theorem s_M_size_11 {l : Launch} {ad : Nat → Nat} {D : va_G} {cA : Nat → ClassId} {WW : Nat → qP} {QR : Option qA → qS → Prop} (S : qSnd l rm_M_size ad D cA R_M b_M_size 2 WW) (Q : qRet (some .int) b_M_size WW QR) {QT : Nat → qS → Prop} (Th : qThr l rm_M_size ad D cA R_M b_M_size WW QT) : qle (k_M_size_11 QR QT WW) WW 11 :=
  S.iconst d_M_size_11 (by decide) <| S.goto d_M_size_12 (by decide) (s_M_size_16 S Q Th)
set_option maxRecDepth 8000 in
theorem s_M_size_0 {l : Launch} {ad : Nat → Nat} {D : va_G} {cA : Nat → ClassId} {WW : Nat → qP} {QR : Option qA → qS → Prop} (S : qSnd l rm_M_size ad D cA R_M b_M_size 2 WW) (Q : qRet (some .int) b_M_size WW QR) {QT : Nat → qS → Prop} (Th : qThr l rm_M_size ad D cA R_M b_M_size WW QT) : qle (k_M_size_0 QR QT WW) WW 0 :=
  S.iload_n d_M_size_0 rfl <| st_M_438 Th (by decide) d_M_size_1 <| S.aload_n d_M_size_4 rfl <| S.gZ fl_M_422 (by decide) d_M_size_5 <| S.if_ne d_M_size_8 (by decide) (s_M_size_15 S Q Th) (s_M_size_11 S Q Th)
theorem w_M_size {l : Launch} {ad : Nat → Nat} {D : va_G} {cA : Nat → ClassId} {WW : Nat → qP} {QR : Option qA → qS → Prop} (S : qSnd l rm_M_size ad D cA R_M b_M_size 2 WW) (Q : qRet (some .int) b_M_size WW QR) {QT : Nat → qS → Prop} (Th : qThr l rm_M_size ad D cA R_M b_M_size WW QT) (a1 : Int) (σ : qS) (ha1 : r32 a1) (hσ : qoS σ) (h : P_M_size a1 σ) (hq : ∀ (r : Int) σ', Q_M_size a1 σ r σ' → QR (some (.inl r)) σ') (ht : ∀ (t : Nat) σ', T_M_size a1 σ t σ' → QT t σ') : WW 0 [] [some (.inr (.inr 900)), some (.inl a1)] σ := by
  refine s_M_size_0 S Q Th _ _ _ ?_
  simp only [k_M_size_0, k_M_size_11, k_M_size_15, k_M_size_16, ot_M_isFile, ot_M_may, o_th, o_c, o_il, o_ll, o_al, o_is, o_as, o_ls, o_inc, o_bi, o_bid, o_bl, o_bld, o_sl, o_i2l, o_l2i, o_dup, o_dup2, o_pop, o_pop2, o_if, o_i2, o_l2, swg, o_sw, o_gI, o_gZ, o_gJ, o_gA, o_gR, o_pI, o_pZ, o_pJ, o_pR, o_ia, o_iak, o_zak, o_ja, o_jak, o_is_, o_isk, o_zsk, o_js_, o_jsk, o_len, o_ri, o_rz, o_rl, o_rv, ls1, ls2, lks, lkj, List.getD_cons_zero, List.getD_cons_succ, List.set_cons_zero, List.set_cons_succ, qcat, true_and, and_true, List.map_nil, List.map_cons, List.sum_nil, List.sum_cons, Nat.reduceAdd, Nat.reduceLeDiff, Nat.zero_le, Int.reduceAdd, Int.reduceNeg, Int.reduceEq, or_true, true_or, Decidable.not_not, false_implies, not_false_eq_true, true_implies, not_true_eq_false, Int.reduceLT, Int.reduceLE]
  refine isF (fun hf _ => ⟨fun hb => mayN (ht _ _ ⟨rfl, Or.inr ⟨hf, hb, rfl⟩⟩), fun hb => mayY ⟨by omega, hq _ _ ⟨hf, hb, rfl, rfl⟩⟩⟩) (fun hf => ht _ _ ⟨rfl, Or.inl ⟨hf, rfl⟩⟩)
theorem c_M_size (l : Launch) (ad : Nat → Nat) (D : va_G) (cA : Nat → ClassId) : qT l ad D cA y_M_size (Cond.code y_M_size b_M_size 2 (some .int) :: lw_g) rm_M_size pre_M_size post_M_size pst_M_size := by
  refine qT_of (own := R_M) (by decide) rfl ?_ ?_
  · intro av σ h; unfold pre_M_size at h; split at h
    · simp [qen]
    · exact h.elim
  · intro WW QR QT S Q Th av σ hav hσ h hq ht; unfold pre_M_size at h; split at h
    next o a1 =>
      obtain ⟨rfl, h⟩ := h
      exact w_M_size S Q Th a1 σ (hav _ (List.mem_of_getElem? (i := 1) rfl)) hσ h (fun r σ' h' => hq _ σ' h') (fun t σ' h' => ht t σ' h')
    next => exact h.elim
def P_M_record (_f _k _v : Int) (σ : qS) : Prop := fsok σ
def Q_M_record (f k v : Int) (σ : qS) (r : Int) (σ' : qS) : Prop := (0 ≤ f ∧ f ≤ 15) ∧ σ 26 0 = 0 ∧ σ 2 f < 300 ∧ r = σ 2 f + 1 ∧ σ' = su (su (su σ 0 (f * 300 + σ 2 f) k) 1 (f * 300 + σ 2 f) v) 2 f (σ 2 f + 1)
def T_M_record (f _k _v : Int) (σ : qS) (t : Nat) (σ' : qS) : Prop := σ' = σ ∧ ((¬ (0 ≤ f ∧ f ≤ 15) ∧ t = 2) ∨ ((0 ≤ f ∧ f ≤ 15) ∧ (σ 26 0 ≠ 0 ∨ ¬ σ 2 f < 300) ∧ t = 1))
def pre_M_record (av : List qA) (σ : qS) : Prop := match av with
  | [.inr (.inr o), .inl a1, .inr (.inl a2), .inr (.inl a3)] => o = 900 ∧ P_M_record a1 a2 a3 σ
  | _ => False
def post_M_record (av : List qA) (σ : qS) (r : Option qA) (σ' : qS) : Prop := match av, r with
  | [_, .inl a1, .inr (.inl a2), .inr (.inl a3)], some (.inl r) => Q_M_record a1 a2 a3 σ r σ'
  | _, _ => False
def oc_M_record (K : qP) : qP := fun st ls σ => match st with
  | .inr (.inl a3) :: .inr (.inl a2) :: .inl a1 :: .inr (.inr o) :: st => o = 900 ∧ (st.map qcat).sum ≤ 8 ∧ P_M_record a1 a2 a3 σ ∧ ∀ (r : Int) (σ' : qS), Q_M_record a1 a2 a3 σ r σ' → K (.inl r :: st) ls σ'
  | _ => False
def pst_M_record (av : List qA) (σ : qS) (t : Nat) (σ' : qS) : Prop := match av with
  | [_, .inl a1, .inr (.inl a2), .inr (.inl a3)] => T_M_record a1 a2 a3 σ t σ'
  | _ => False
def ot_M_record (QT : Nat → qS → Prop) (K : qP) : qP := fun st ls σ => match st with
  | .inr (.inl a3) :: .inr (.inl a2) :: .inl a1 :: .inr (.inr o) :: st => o = 900 ∧ (st.map qcat).sum ≤ 8 ∧ P_M_record a1 a2 a3 σ ∧ (∀ (r : Int) (σ' : qS), Q_M_record a1 a2 a3 σ r σ' → K (.inl r :: st) ls σ') ∧ ∀ (t : Nat) (σ' : qS), T_M_record a1 a2 a3 σ t σ' → QT t σ'
  | _ => False
def rm_M_record : Room := { frames := 8, cells := 1, slots := 6, locals := 121 }
def k_M_record_31 (QR : Option qA → qS → Prop) (QT : Nat → qS → Prop) (H : Nat → qP) : qP :=
  o_al 0 <| o_gA 900 0 <| o_il 1 <| o_c (.inl 300) <| o_bi z_mul <| o_al 0 <| o_gA 900 2 <| o_il 1 <| o_iak 2 16 <| o_bi z_add <| o_ll 2 <| o_jsk 0 4800 <| o_al 0 <| o_gA 900 1 <| o_il 1 <| o_c (.inl 300) <| o_bi z_mul <| o_al 0 <| o_gA 900 2 <| o_il 1 <| o_iak 2 16 <| o_bi z_add <| o_ll 4 <| o_jsk 1 4800 <| o_al 0 <| o_gA 900 2 <| o_il 1 <| o_dup2 <| o_iak 2 16 <| o_c (.inl 1) <| o_bi z_add <| o_isk 2 16 <| o_al 0 <| o_gA 900 2 <| o_il 1 <| o_iak 2 16 <| o_ri QR
def k_M_record_28 (QR : Option qA → qS → Prop) (QT : Nat → qS → Prop) (H : Nat → qP) : qP :=
  ot_M_may QT <| H 31
def k_M_record_27 (QR : Option qA → qS → Prop) (QT : Nat → qS → Prop) (H : Nat → qP) : qP :=
  o_c (.inl 0) <| k_M_record_28 QR QT H
def k_M_record_23 (QR : Option qA → qS → Prop) (QT : Nat → qS → Prop) (H : Nat → qP) : qP :=
  o_c (.inl 1) <| k_M_record_28 QR QT H
def k_M_record_16 (QR : Option qA → qS → Prop) (QT : Nat → qS → Prop) (H : Nat → qP) : qP :=
  o_al 0 <| o_gZ 900 26 <| o_if (fun a => ¬ a = 0) (k_M_record_27 QR QT H) (k_M_record_23 QR QT H)
def k_M_record_0 (QR : Option qA → qS → Prop) (QT : Nat → qS → Prop) (H : Nat → qP) : qP :=
  o_il 1 <| ot_M_isFile QT <| o_al 0 <| o_gA 900 2 <| o_il 1 <| o_iak 2 16 <| o_c (.inl 300) <| o_i2 (fun a b => b ≤ a) (k_M_record_27 QR QT H) (k_M_record_16 QR QT H)
set_option maxRecDepth 8000 in
theorem s_M_record_31 {l : Launch} {ad : Nat → Nat} {D : va_G} {cA : Nat → ClassId} {WW : Nat → qP} {QR : Option qA → qS → Prop} (S : qSnd l rm_M_record ad D cA R_M b_M_record 6 WW) (Q : qRet (some .int) b_M_record WW QR) {QT : Nat → qS → Prop} (Th : qThr l rm_M_record ad D cA R_M b_M_record WW QT) : qle (k_M_record_31 QR QT WW) WW 31 :=
  S.aload_n d_M_record_31 rfl <| S.gA fl_M_9 (by decide) d_M_record_32 <| S.iload_n d_M_record_35 rfl <| S.sipush d_M_record_36 (by decide) <| S.imul d_M_record_39 <| S.aload_n d_M_record_40 rfl <| S.gA fl_M_16 (by decide) d_M_record_41 <| S.iload_n d_M_record_44 rfl <| S.iak (by decide) d_M_record_45 <| S.iadd d_M_record_46 <| S.lload_n d_M_record_47 rfl <| S.jsk (by decide) d_M_record_48 <| S.aload_n d_M_record_49 rfl <| S.gA fl_M_13 (by decide) d_M_record_50 <| S.iload_n d_M_record_53 rfl <| S.sipush d_M_record_54 (by decide) <| S.imul d_M_record_57 <| S.aload_n d_M_record_58 rfl <| S.gA fl_M_16 (by decide) d_M_record_59 <| S.iload_n d_M_record_62 rfl <| S.iak (by decide) d_M_record_63 <| S.iadd d_M_record_64 <| S.lload d_M_record_65 <| S.jsk (by decide) d_M_record_67 <| S.aload_n d_M_record_68 rfl <| S.gA fl_M_16 (by decide) d_M_record_69 <| S.iload_n d_M_record_72 rfl <| S.dup2 d_M_record_73 <| S.iak (by decide) d_M_record_74 <| S.iconst d_M_record_75 (by decide) <| S.iadd d_M_record_76 <| S.isk (by decide) d_M_record_77 <| S.aload_n d_M_record_78 rfl <| S.gA fl_M_16 (by decide) d_M_record_79 <| S.iload_n d_M_record_82 rfl <| S.iak (by decide) d_M_record_83 <| Q.1 rfl _ d_M_record_84
set_option maxRecDepth 8000 in
theorem s_M_record_28 {l : Launch} {ad : Nat → Nat} {D : va_G} {cA : Nat → ClassId} {WW : Nat → qP} {QR : Option qA → qS → Prop} (S : qSnd l rm_M_record ad D cA R_M b_M_record 6 WW) (Q : qRet (some .int) b_M_record WW QR) {QT : Nat → qS → Prop} (Th : qThr l rm_M_record ad D cA R_M b_M_record WW QT) : qle (k_M_record_28 QR QT WW) WW 28 :=
  st_M_425 Th (by decide) d_M_record_28 <| (fun _ _ _ h => h)
set_option maxRecDepth 8000 in
theorem s_M_record_27 {l : Launch} {ad : Nat → Nat} {D : va_G} {cA : Nat → ClassId} {WW : Nat → qP} {QR : Option qA → qS → Prop} (S : qSnd l rm_M_record ad D cA R_M b_M_record 6 WW) (Q : qRet (some .int) b_M_record WW QR) {QT : Nat → qS → Prop} (Th : qThr l rm_M_record ad D cA R_M b_M_record WW QT) : qle (k_M_record_27 QR QT WW) WW 27 :=
  S.iconst d_M_record_27 (by decide) <| (s_M_record_28 S Q Th)
set_option maxRecDepth 8000 in
theorem s_M_record_23 {l : Launch} {ad : Nat → Nat} {D : va_G} {cA : Nat → ClassId} {WW : Nat → qP} {QR : Option qA → qS → Prop} (S : qSnd l rm_M_record ad D cA R_M b_M_record 6 WW) (Q : qRet (some .int) b_M_record WW QR) {QT : Nat → qS → Prop} (Th : qThr l rm_M_record ad D cA R_M b_M_record WW QT) : qle (k_M_record_23 QR QT WW) WW 23 :=
  S.iconst d_M_record_23 (by decide) <| S.goto d_M_record_24 (by decide) (s_M_record_28 S Q Th)
set_option maxRecDepth 8000 in
theorem s_M_record_16 {l : Launch} {ad : Nat → Nat} {D : va_G} {cA : Nat → ClassId} {WW : Nat → qP} {QR : Option qA → qS → Prop} (S : qSnd l rm_M_record ad D cA R_M b_M_record 6 WW) (Q : qRet (some .int) b_M_record WW QR) {QT : Nat → qS → Prop} (Th : qThr l rm_M_record ad D cA R_M b_M_record WW QT) : qle (k_M_record_16 QR QT WW) WW 16 :=
  S.aload_n d_M_record_16 rfl <| S.gZ fl_M_422 (by decide) d_M_record_17 <| S.if_ne d_M_record_20 (by decide) (s_M_record_27 S Q Th) (s_M_record_23 S Q Th)
set_option maxRecDepth 8000 in
theorem s_M_record_0 {l : Launch} {ad : Nat → Nat} {D : va_G} {cA : Nat → ClassId} {WW : Nat → qP} {QR : Option qA → qS → Prop} (S : qSnd l rm_M_record ad D cA R_M b_M_record 6 WW) (Q : qRet (some .int) b_M_record WW QR) {QT : Nat → qS → Prop} (Th : qThr l rm_M_record ad D cA R_M b_M_record WW QT) : qle (k_M_record_0 QR QT WW) WW 0 :=
  S.iload_n d_M_record_0 rfl <| st_M_438 Th (by decide) d_M_record_1 <| S.aload_n d_M_record_4 rfl <| S.gA fl_M_16 (by decide) d_M_record_5 <| S.iload_n d_M_record_8 rfl <| S.iak (by decide) d_M_record_9 <| S.sipush d_M_record_10 (by decide) <| S.icmp_ge d_M_record_13 (by decide) (s_M_record_27 S Q Th) (s_M_record_16 S Q Th)
theorem w_M_record {l : Launch} {ad : Nat → Nat} {D : va_G} {cA : Nat → ClassId} {WW : Nat → qP} {QR : Option qA → qS → Prop} (S : qSnd l rm_M_record ad D cA R_M b_M_record 6 WW) (Q : qRet (some .int) b_M_record WW QR) {QT : Nat → qS → Prop} (Th : qThr l rm_M_record ad D cA R_M b_M_record WW QT) (a1 : Int) (a2 : Int) (a3 : Int) (σ : qS) (ha1 : r32 a1) (ha2 : r64 a2) (ha3 : r64 a3) (hσ : qoS σ) (h : P_M_record a1 a2 a3 σ) (hq : ∀ (r : Int) σ', Q_M_record a1 a2 a3 σ r σ' → QR (some (.inl r)) σ') (ht : ∀ (t : Nat) σ', T_M_record a1 a2 a3 σ t σ' → QT t σ') : WW 0 [] [some (.inr (.inr 900)), some (.inl a1), some (.inr (.inl a2)), none, some (.inr (.inl a3)), none] σ := by
  refine s_M_record_0 S Q Th _ _ _ ?_
  simp only [k_M_record_0, k_M_record_16, k_M_record_23, k_M_record_27, k_M_record_28, k_M_record_31, ot_M_isFile, ot_M_may, o_th, o_c, o_il, o_ll, o_al, o_is, o_as, o_ls, o_inc, o_bi, o_bid, o_bl, o_bld, o_sl, o_i2l, o_l2i, o_dup, o_dup2, o_pop, o_pop2, o_if, o_i2, o_l2, swg, o_sw, o_gI, o_gZ, o_gJ, o_gA, o_gR, o_pI, o_pZ, o_pJ, o_pR, o_ia, o_iak, o_zak, o_ja, o_jak, o_is_, o_isk, o_zsk, o_js_, o_jsk, o_len, o_ri, o_rz, o_rl, o_rv, ls1, ls2, lks, lkj, List.getD_cons_zero, List.getD_cons_succ, List.set_cons_zero, List.set_cons_succ, qcat, true_and, and_true, List.map_nil, List.map_cons, List.sum_nil, List.sum_cons, Nat.reduceAdd, Nat.reduceLeDiff, Nat.zero_le, Int.reduceAdd, Int.reduceNeg, Int.reduceEq, or_true, true_or, Decidable.not_not, false_implies, not_false_eq_true, true_implies, not_true_eq_false, Int.reduceLT, Int.reduceLE]
  refine isF (fun hf => ⟨by omega, fun hs => mayN (ht _ _ ⟨rfl, Or.inr ⟨hf, Or.inr (by omega), rfl⟩⟩), fun hs _ => ⟨fun hb => mayN (ht _ _ ⟨rfl, Or.inr ⟨hf, Or.inl hb, rfl⟩⟩), fun hb => mayY ?_⟩⟩) (fun hf => ht _ _ ⟨rfl, Or.inl ⟨hf, rfl⟩⟩)
  have h1 := h a1 hf.1 (by omega)
  refine s_M_record_31 S Q Th _ _ _ ?_
  simp only [k_M_record_0, k_M_record_16, k_M_record_23, k_M_record_27, k_M_record_28, k_M_record_31, ot_M_isFile, ot_M_may, o_th, o_c, o_il, o_ll, o_al, o_is, o_as, o_ls, o_inc, o_bi, o_bid, o_bl, o_bld, o_sl, o_i2l, o_l2i, o_dup, o_dup2, o_pop, o_pop2, o_if, o_i2, o_l2, swg, o_sw, o_gI, o_gZ, o_gJ, o_gA, o_gR, o_pI, o_pZ, o_pJ, o_pR, o_ia, o_iak, o_zak, o_ja, o_jak, o_is_, o_isk, o_zsk, o_js_, o_jsk, o_len, o_ri, o_rz, o_rl, o_rv, ls1, ls2, lks, lkj, List.getD_cons_zero, List.getD_cons_succ, List.set_cons_zero, List.set_cons_succ, qcat, true_and, and_true, List.map_nil, List.map_cons, List.sum_nil, List.sum_cons, Nat.reduceAdd, Nat.reduceLeDiff, Nat.zero_le, Int.reduceAdd, Int.reduceNeg, Int.reduceEq, or_true, true_or, Decidable.not_not, false_implies, not_false_eq_true, true_implies, not_true_eq_false, Int.reduceLT, Int.reduceLE]
  have e1 : z_add (z_mul a1 300) (σ 2 a1) = a1 * 300 + σ 2 a1 := by unfold z_add z_mul; rw [w32_i (a1 * 300) (by omega) (by omega), w32_i _ (by omega) (by omega)]
  have e2 : z_add (σ 2 a1) 1 = σ 2 a1 + 1 := by unfold z_add; exact w32_i _ (by omega) (by omega)
  simp (disch := omega) only [su_k]
  rw [e1, e2]
  simp only [su_s]
  exact ⟨by omega, by omega, by omega, by omega, by omega, by omega, by omega, hq _ _ ⟨hf, hb, by omega, rfl, rfl⟩⟩
theorem c_M_record (l : Launch) (ad : Nat → Nat) (D : va_G) (cA : Nat → ClassId) : qT l ad D cA y_M_record (Cond.code y_M_record b_M_record 6 (some .int) :: lw_g) rm_M_record pre_M_record post_M_record pst_M_record := by
  refine qT_of (own := R_M) (by decide) rfl ?_ ?_
  · intro av σ h; unfold pre_M_record at h; split at h
    · simp [qen]
    · exact h.elim
  · intro WW QR QT S Q Th av σ hav hσ h hq ht; unfold pre_M_record at h; split at h
    next o a1 a2 a3 =>
      obtain ⟨rfl, h⟩ := h
      exact w_M_record S Q Th a1 a2 a3 σ (hav _ (List.mem_of_getElem? (i := 1) rfl)) (hav _ (List.mem_of_getElem? (i := 2) rfl)) (hav _ (List.mem_of_getElem? (i := 3) rfl)) hσ h (fun r σ' h' => hq _ σ' h') (fun t σ' h' => ht t σ' h')
    next => exact h.elim
def P_M_clear (_f : Int) (_σ : qS) : Prop := True
def Q_M_clear (f : Int) (σ : qS) (r : Int) (σ' : qS) : Prop := (0 ≤ f ∧ f ≤ 15) ∧ σ 26 0 = 0 ∧ r = σ 2 f ∧ σ' = su σ 2 f 0
def T_M_clear (f : Int) (σ : qS) (t : Nat) (σ' : qS) : Prop := σ' = σ ∧ ((¬ (0 ≤ f ∧ f ≤ 15) ∧ t = 2) ∨ ((0 ≤ f ∧ f ≤ 15) ∧ σ 26 0 ≠ 0 ∧ t = 1))
def pre_M_clear (av : List qA) (σ : qS) : Prop := match av with
  | [.inr (.inr o), .inl a1] => o = 900 ∧ P_M_clear a1 σ
  | _ => False
def post_M_clear (av : List qA) (σ : qS) (r : Option qA) (σ' : qS) : Prop := match av, r with
  | [_, .inl a1], some (.inl r) => Q_M_clear a1 σ r σ'
  | _, _ => False
def oc_M_clear (K : qP) : qP := fun st ls σ => match st with
  | .inl a1 :: .inr (.inr o) :: st => o = 900 ∧ (st.map qcat).sum ≤ 8 ∧ P_M_clear a1 σ ∧ ∀ (r : Int) (σ' : qS), Q_M_clear a1 σ r σ' → K (.inl r :: st) ls σ'
  | _ => False
def pst_M_clear (av : List qA) (σ : qS) (t : Nat) (σ' : qS) : Prop := match av with
  | [_, .inl a1] => T_M_clear a1 σ t σ'
  | _ => False
def ot_M_clear (QT : Nat → qS → Prop) (K : qP) : qP := fun st ls σ => match st with
  | .inl a1 :: .inr (.inr o) :: st => o = 900 ∧ (st.map qcat).sum ≤ 8 ∧ P_M_clear a1 σ ∧ (∀ (r : Int) (σ' : qS), Q_M_clear a1 σ r σ' → K (.inl r :: st) ls σ') ∧ ∀ (t : Nat) (σ' : qS), T_M_clear a1 σ t σ' → QT t σ'
  | _ => False
def rm_M_clear : Room := { frames := 8, cells := 1, slots := 6, locals := 121 }
theorem st_M_441 {l : Launch} {R : Room} {ad : Nat → Nat} {D : va_G} {cA : Nat → ClassId} {cc : ByteArray} {WW : Nat → qP} {QT : Nat → qS → Prop} (Th : qThr l R ad D cA R_M cc WW QT) (hR : rm_M_notGoing.frames + 1 ≤ R.frames ∧ 8 + (1 + 11) + rm_M_notGoing.locals ≤ R.locals ∧ 0 + rm_M_notGoing.cells ≤ R.cells ∧ 0 + rm_M_notGoing.slots ≤ R.slots) {K : qP} {pc : Nat} (d : decode cc pc = .ok (.invokevirtual 441, 3)) (h : qle K WW (pc + 3)) : qle (ot_M_notGoing QT K) WW pc := by
  intro st ls σ k
  refine Th.2.2 900 0 82 0 441 0 1 pc R_M F_M _ _ _ rm_M_notGoing pre_M_notGoing post_M_notGoing pst_M_notGoing K (Or.inl ⟨rfl, rfl, rfl, rfl, rfl, rfl⟩) ⟨lw_at 463 (by decide +kernel) rfl, lw_at 460 (by decide +kernel) rfl, lw_at 59 (by decide +kernel) rfl, by decide, by decide, by decide +kernel⟩ ⟨lw_at 462 (by decide +kernel) rfl, lw_at 5 (by decide +kernel) rfl⟩ hR (c_M_notGoing l ad D cA) ?_ d h st ls σ ?_
  · intro av σ h; unfold pre_M_notGoing at h; split at h
    · obtain ⟨rfl, h⟩ := h; exact ⟨_, rfl⟩
    · exact h.elim
  · unfold ot_M_notGoing at k
    split at k
    next o st =>
      obtain ⟨rfl, hs, hp, k, kt⟩ := k
      refine ⟨[.inr (.inr 900)], st, rfl, rfl, hs, ⟨rfl, hp⟩, fun r σ' hq => ?_, fun t σ' hq => kt t σ' hq⟩
      unfold post_M_notGoing at hq
      split at hq
      next h1 =>
        cases h1
        exact k _ hq
      next => exact hq.elim
    next => exact k.elim
def k_M_clear_0 (QR : Option qA → qS → Prop) (QT : Nat → qS → Prop) (H : Nat → qP) : qP :=
  o_il 1 <| ot_M_isFile QT <| o_al 0 <| ot_M_notGoing QT <| o_al 0 <| o_gA 900 2 <| o_il 1 <| o_iak 2 16 <| o_is 2 <| o_al 0 <| o_gA 900 2 <| o_il 1 <| o_c (.inl 0) <| o_isk 2 16 <| o_il 2 <| o_ri QR
set_option maxRecDepth 8000 in
theorem s_M_clear_0 {l : Launch} {ad : Nat → Nat} {D : va_G} {cA : Nat → ClassId} {WW : Nat → qP} {QR : Option qA → qS → Prop} (S : qSnd l rm_M_clear ad D cA R_M b_M_clear 3 WW) (Q : qRet (some .int) b_M_clear WW QR) {QT : Nat → qS → Prop} (Th : qThr l rm_M_clear ad D cA R_M b_M_clear WW QT) : qle (k_M_clear_0 QR QT WW) WW 0 :=
  S.iload_n d_M_clear_0 rfl <| st_M_438 Th (by decide) d_M_clear_1 <| S.aload_n d_M_clear_4 rfl <| st_M_441 Th (by decide) d_M_clear_5 <| S.aload_n d_M_clear_8 rfl <| S.gA fl_M_16 (by decide) d_M_clear_9 <| S.iload_n d_M_clear_12 rfl <| S.iak (by decide) d_M_clear_13 <| S.istore_n d_M_clear_14 rfl (by decide) <| S.aload_n d_M_clear_15 rfl <| S.gA fl_M_16 (by decide) d_M_clear_16 <| S.iload_n d_M_clear_19 rfl <| S.iconst d_M_clear_20 (by decide) <| S.isk (by decide) d_M_clear_21 <| S.iload_n d_M_clear_22 rfl <| Q.1 rfl _ d_M_clear_23
theorem w_M_clear {l : Launch} {ad : Nat → Nat} {D : va_G} {cA : Nat → ClassId} {WW : Nat → qP} {QR : Option qA → qS → Prop} (S : qSnd l rm_M_clear ad D cA R_M b_M_clear 3 WW) (Q : qRet (some .int) b_M_clear WW QR) {QT : Nat → qS → Prop} (Th : qThr l rm_M_clear ad D cA R_M b_M_clear WW QT) (a1 : Int) (σ : qS) (ha1 : r32 a1) (hσ : qoS σ) (h : P_M_clear a1 σ) (hq : ∀ (r : Int) σ', Q_M_clear a1 σ r σ' → QR (some (.inl r)) σ') (ht : ∀ (t : Nat) σ', T_M_clear a1 σ t σ' → QT t σ') : WW 0 [] [some (.inr (.inr 900)), some (.inl a1), none] σ := by
  refine s_M_clear_0 S Q Th _ _ _ ?_
  simp only [k_M_clear_0, ot_M_isFile, ot_M_notGoing, o_th, o_c, o_il, o_ll, o_al, o_is, o_as, o_ls, o_inc, o_bi, o_bid, o_bl, o_bld, o_sl, o_i2l, o_l2i, o_dup, o_dup2, o_pop, o_pop2, o_if, o_i2, o_l2, swg, o_sw, o_gI, o_gZ, o_gJ, o_gA, o_gR, o_pI, o_pZ, o_pJ, o_pR, o_ia, o_iak, o_zak, o_ja, o_jak, o_is_, o_isk, o_zsk, o_js_, o_jsk, o_len, o_ri, o_rz, o_rl, o_rv, ls1, ls2, lks, lkj, List.getD_cons_zero, List.getD_cons_succ, List.set_cons_zero, List.set_cons_succ, qcat, true_and, and_true, List.map_nil, List.map_cons, List.sum_nil, List.sum_cons, Nat.reduceAdd, Nat.reduceLeDiff, Nat.zero_le, Int.reduceAdd, Int.reduceNeg, Int.reduceEq, or_true, true_or, Decidable.not_not, false_implies, not_false_eq_true, true_implies, not_true_eq_false, Int.reduceLT, Int.reduceLE]
  refine isF (fun hf => notG (fun hb => ⟨by omega, by omega, hq _ _ ⟨hf, hb, rfl, rfl⟩⟩) (fun hb => ht _ _ ⟨rfl, Or.inr ⟨hf, hb, rfl⟩⟩)) (fun hf => ht _ _ ⟨rfl, Or.inl ⟨hf, rfl⟩⟩)
theorem c_M_clear (l : Launch) (ad : Nat → Nat) (D : va_G) (cA : Nat → ClassId) : qT l ad D cA y_M_clear (Cond.code y_M_clear b_M_clear 3 (some .int) :: lw_g) rm_M_clear pre_M_clear post_M_clear pst_M_clear := by
  refine qT_of (own := R_M) (by decide) rfl ?_ ?_
  · intro av σ h; unfold pre_M_clear at h; split at h
    · simp [qen]
    · exact h.elim
  · intro WW QR QT S Q Th av σ hav hσ h hq ht; unfold pre_M_clear at h; split at h
    next o a1 =>
      obtain ⟨rfl, h⟩ := h
      exact w_M_clear S Q Th a1 σ (hav _ (List.mem_of_getElem? (i := 1) rfl)) hσ h (fun r σ' h' => hq _ σ' h') (fun t σ' h' => ht t σ' h')
    next => exact h.elim
def P_M_drop (_j : Int) (_σ : qS) : Prop := True
def Q_M_drop (j : Int) (σ : qS) (r : Int) (σ' : qS) : Prop := (0 ≤ j ∧ j ≤ 7) ∧ σ 26 0 = 0 ∧ r = σ 9 j ∧ σ' = su σ 9 j 0
def T_M_drop (j : Int) (σ : qS) (t : Nat) (σ' : qS) : Prop := σ' = σ ∧ ((¬ (0 ≤ j ∧ j ≤ 7) ∧ t = 2) ∨ ((0 ≤ j ∧ j ≤ 7) ∧ σ 26 0 ≠ 0 ∧ t = 1))
def pre_M_drop (av : List qA) (σ : qS) : Prop := match av with
  | [.inr (.inr o), .inl a1] => o = 900 ∧ P_M_drop a1 σ
  | _ => False
def post_M_drop (av : List qA) (σ : qS) (r : Option qA) (σ' : qS) : Prop := match av, r with
  | [_, .inl a1], some (.inl r) => Q_M_drop a1 σ r σ'
  | _, _ => False
def oc_M_drop (K : qP) : qP := fun st ls σ => match st with
  | .inl a1 :: .inr (.inr o) :: st => o = 900 ∧ (st.map qcat).sum ≤ 8 ∧ P_M_drop a1 σ ∧ ∀ (r : Int) (σ' : qS), Q_M_drop a1 σ r σ' → K (.inl r :: st) ls σ'
  | _ => False
def pst_M_drop (av : List qA) (σ : qS) (t : Nat) (σ' : qS) : Prop := match av with
  | [_, .inl a1] => T_M_drop a1 σ t σ'
  | _ => False
def ot_M_drop (QT : Nat → qS → Prop) (K : qP) : qP := fun st ls σ => match st with
  | .inl a1 :: .inr (.inr o) :: st => o = 900 ∧ (st.map qcat).sum ≤ 8 ∧ P_M_drop a1 σ ∧ (∀ (r : Int) (σ' : qS), Q_M_drop a1 σ r σ' → K (.inl r :: st) ls σ') ∧ ∀ (t : Nat) (σ' : qS), T_M_drop a1 σ t σ' → QT t σ'
  | _ => False
def rm_M_drop : Room := { frames := 8, cells := 1, slots := 6, locals := 121 }
def k_M_drop_0 (QR : Option qA → qS → Prop) (QT : Nat → qS → Prop) (H : Nat → qP) : qP :=
  o_il 1 <| o_i2l <| o_c (.inr (.inl 0)) <| o_c (.inr (.inl 7)) <| oc_M_in <| ot_M_there QT <| o_al 0 <| ot_M_notGoing QT <| o_al 0 <| o_gA 900 9 <| o_il 1 <| o_zak 9 8 <| o_is 2 <| o_al 0 <| o_gA 900 9 <| o_il 1 <| o_c (.inl 0) <| o_zsk 9 8 <| o_il 2 <| o_rz QR
set_option maxRecDepth 8000 in
theorem s_M_drop_0 {l : Launch} {ad : Nat → Nat} {D : va_G} {cA : Nat → ClassId} {WW : Nat → qP} {QR : Option qA → qS → Prop} (S : qSnd l rm_M_drop ad D cA R_M b_M_drop 3 WW) (Q : qRet (some .boolean) b_M_drop WW QR) {QT : Nat → qS → Prop} (Th : qThr l rm_M_drop ad D cA R_M b_M_drop WW QT) : qle (k_M_drop_0 QR QT WW) WW 0 :=
  S.iload_n d_M_drop_0 rfl <| S.i2l d_M_drop_1 <| S.lconst d_M_drop_2 (by decide) <| S.ldc2 d_M_drop_3 (lw_at 500 (by decide +kernel) rfl) (by decide) <| sc_M_431 S (by decide) d_M_drop_6 <| st_M_435 Th (by decide) d_M_drop_9 <| S.aload_n d_M_drop_12 rfl <| st_M_441 Th (by decide) d_M_drop_13 <| S.aload_n d_M_drop_16 rfl <| S.gA fl_M_35 (by decide) d_M_drop_17 <| S.iload_n d_M_drop_20 rfl <| S.zak (by decide) d_M_drop_21 <| S.istore_n d_M_drop_22 rfl (by decide) <| S.aload_n d_M_drop_23 rfl <| S.gA fl_M_35 (by decide) d_M_drop_24 <| S.iload_n d_M_drop_27 rfl <| S.iconst d_M_drop_28 (by decide) <| S.zast (by decide) d_M_drop_29 <| S.iload_n d_M_drop_30 rfl <| Q.2.1 rfl _ d_M_drop_31
theorem w_M_drop {l : Launch} {ad : Nat → Nat} {D : va_G} {cA : Nat → ClassId} {WW : Nat → qP} {QR : Option qA → qS → Prop} (S : qSnd l rm_M_drop ad D cA R_M b_M_drop 3 WW) (Q : qRet (some .boolean) b_M_drop WW QR) {QT : Nat → qS → Prop} (Th : qThr l rm_M_drop ad D cA R_M b_M_drop WW QT) (a1 : Int) (σ : qS) (ha1 : r32 a1) (hσ : qoS σ) (h : P_M_drop a1 σ) (hq : ∀ (r : Int) σ', Q_M_drop a1 σ r σ' → QR (some (.inl r)) σ') (ht : ∀ (t : Nat) σ', T_M_drop a1 σ t σ' → QT t σ') : WW 0 [] [some (.inr (.inr 900)), some (.inl a1), none] σ := by
  refine s_M_drop_0 S Q Th _ _ _ ?_
  simp only [k_M_drop_0, oc_M_in, ot_M_notGoing, ot_M_there, o_th, o_c, o_il, o_ll, o_al, o_is, o_as, o_ls, o_inc, o_bi, o_bid, o_bl, o_bld, o_sl, o_i2l, o_l2i, o_dup, o_dup2, o_pop, o_pop2, o_if, o_i2, o_l2, swg, o_sw, o_gI, o_gZ, o_gJ, o_gA, o_gR, o_pI, o_pZ, o_pJ, o_pR, o_ia, o_iak, o_zak, o_ja, o_jak, o_is_, o_isk, o_zsk, o_js_, o_jsk, o_len, o_ri, o_rz, o_rl, o_rv, ls1, ls2, lks, lkj, List.getD_cons_zero, List.getD_cons_succ, List.set_cons_zero, List.set_cons_succ, qcat, true_and, and_true, List.map_nil, List.map_cons, List.sum_nil, List.sum_cons, Nat.reduceAdd, Nat.reduceLeDiff, Nat.zero_le, Int.reduceAdd, Int.reduceNeg, Int.reduceEq, or_true, true_or, Decidable.not_not, false_implies, not_false_eq_true, true_implies, not_true_eq_false, Int.reduceLT, Int.reduceLE]
  exact inTh (fun hj => notG (fun hb => ⟨by omega, fun hm => ⟨by omega, hm, hq _ _ ⟨hj, hb, rfl, rfl⟩⟩⟩) (fun hb => ht _ _ ⟨rfl, Or.inr ⟨hj, hb, rfl⟩⟩)) (fun hj => ht _ _ ⟨rfl, Or.inl ⟨hj, rfl⟩⟩)
theorem c_M_drop (l : Launch) (ad : Nat → Nat) (D : va_G) (cA : Nat → ClassId) : qT l ad D cA y_M_drop (Cond.code y_M_drop b_M_drop 3 (some .boolean) :: lw_g) rm_M_drop pre_M_drop post_M_drop pst_M_drop := by
  refine qT_of (own := R_M) (by decide) rfl ?_ ?_
  · intro av σ h; unfold pre_M_drop at h; split at h
    · simp [qen]
    · exact h.elim
  · intro WW QR QT S Q Th av σ hav hσ h hq ht; unfold pre_M_drop at h; split at h
    next o a1 =>
      obtain ⟨rfl, h⟩ := h
      exact w_M_drop S Q Th a1 σ (hav _ (List.mem_of_getElem? (i := 1) rfl)) hσ h (fun r σ' h' => hq _ σ' h') (fun t σ' h' => ht t σ' h')
    next => exact h.elim
def P_M_crash (_w : Int) (_σ : qS) : Prop := True
def Q_M_crash (w : Int) (σ σ' : qS) : Prop := (0 ≤ w ∧ w ≤ 6) ∧ σ 26 0 ≠ 0 ∧ σ' = if w = 6 then su σ 36 0 0 else su σ 61 w 0
def T_M_crash (w : Int) (σ : qS) (t : Nat) (σ' : qS) : Prop := σ' = σ ∧ ((¬ (0 ≤ w ∧ w ≤ 6) ∧ t = 2) ∨ ((0 ≤ w ∧ w ≤ 6) ∧ σ 26 0 = 0 ∧ t = 1))
def pre_M_crash (av : List qA) (σ : qS) : Prop := match av with
  | [.inr (.inr o), .inl a1] => o = 900 ∧ P_M_crash a1 σ
  | _ => False
def post_M_crash (av : List qA) (σ : qS) (r : Option qA) (σ' : qS) : Prop := match av, r with
  | [_, .inl a1], none => Q_M_crash a1 σ σ'
  | _, _ => False
def oc_M_crash (K : qP) : qP := fun st ls σ => match st with
  | .inl a1 :: .inr (.inr o) :: st => o = 900 ∧ (st.map qcat).sum ≤ 8 ∧ P_M_crash a1 σ ∧ ∀ (σ' : qS), Q_M_crash a1 σ σ' → K st ls σ'
  | _ => False
def pst_M_crash (av : List qA) (σ : qS) (t : Nat) (σ' : qS) : Prop := match av with
  | [_, .inl a1] => T_M_crash a1 σ t σ'
  | _ => False
def ot_M_crash (QT : Nat → qS → Prop) (K : qP) : qP := fun st ls σ => match st with
  | .inl a1 :: .inr (.inr o) :: st => o = 900 ∧ (st.map qcat).sum ≤ 8 ∧ P_M_crash a1 σ ∧ (∀ (σ' : qS), Q_M_crash a1 σ σ' → K st ls σ') ∧ ∀ (t : Nat) (σ' : qS), T_M_crash a1 σ t σ' → QT t σ'
  | _ => False
def rm_M_crash : Room := { frames := 7, cells := 1, slots := 6, locals := 101 }
def k_M_crash_40 (QR : Option qA → qS → Prop) (QT : Nat → qS → Prop) (H : Nat → qP) : qP :=
  o_rv QR
def k_M_crash_33 (QR : Option qA → qS → Prop) (QT : Nat → qS → Prop) (H : Nat → qP) : qP :=
  o_al 0 <| o_gA 900 61 <| o_il 1 <| o_c (.inl 0) <| o_zsk 61 6 <| k_M_crash_40 QR QT H
def k_M_crash_25 (QR : Option qA → qS → Prop) (QT : Nat → qS → Prop) (H : Nat → qP) : qP :=
  o_al 0 <| o_c (.inl 0) <| o_pZ 900 36 <| k_M_crash_40 QR QT H
def k_M_crash_0 (QR : Option qA → qS → Prop) (QT : Nat → qS → Prop) (H : Nat → qP) : qP :=
  o_il 1 <| o_i2l <| o_c (.inr (.inl 0)) <| o_c (.inr (.inl 6)) <| oc_M_in <| ot_M_there QT <| o_al 0 <| o_gZ 900 26 <| ot_M_may QT <| o_il 1 <| o_c (.inl 6) <| o_i2 (fun a b => ¬ a = b) (k_M_crash_33 QR QT H) (k_M_crash_25 QR QT H)
set_option maxRecDepth 8000 in
theorem s_M_crash_40 {l : Launch} {ad : Nat → Nat} {D : va_G} {cA : Nat → ClassId} {WW : Nat → qP} {QR : Option qA → qS → Prop} (S : qSnd l rm_M_crash ad D cA R_M b_M_crash 2 WW) (Q : qRet (none) b_M_crash WW QR) {QT : Nat → qS → Prop} (Th : qThr l rm_M_crash ad D cA R_M b_M_crash WW QT) : qle (k_M_crash_40 QR QT WW) WW 40 :=
  Q.2.2.2 rfl _ d_M_crash_40
set_option maxRecDepth 8000 in
theorem s_M_crash_33 {l : Launch} {ad : Nat → Nat} {D : va_G} {cA : Nat → ClassId} {WW : Nat → qP} {QR : Option qA → qS → Prop} (S : qSnd l rm_M_crash ad D cA R_M b_M_crash 2 WW) (Q : qRet (none) b_M_crash WW QR) {QT : Nat → qS → Prop} (Th : qThr l rm_M_crash ad D cA R_M b_M_crash WW QT) : qle (k_M_crash_33 QR QT WW) WW 33 :=
  S.aload_n d_M_crash_33 rfl <| S.gA fl_M_135 (by decide) d_M_crash_34 <| S.iload_n d_M_crash_37 rfl <| S.iconst d_M_crash_38 (by decide) <| S.zast (by decide) d_M_crash_39 <| (s_M_crash_40 S Q Th)
set_option maxRecDepth 8000 in
theorem s_M_crash_25 {l : Launch} {ad : Nat → Nat} {D : va_G} {cA : Nat → ClassId} {WW : Nat → qP} {QR : Option qA → qS → Prop} (S : qSnd l rm_M_crash ad D cA R_M b_M_crash 2 WW) (Q : qRet (none) b_M_crash WW QR) {QT : Nat → qS → Prop} (Th : qThr l rm_M_crash ad D cA R_M b_M_crash WW QT) : qle (k_M_crash_25 QR QT WW) WW 25 :=
  S.aload_n d_M_crash_25 rfl <| S.iconst d_M_crash_26 (by decide) <| S.pZ fl_M_273 (by decide) (by decide +kernel) d_M_crash_27 <| S.goto d_M_crash_30 (by decide) (s_M_crash_40 S Q Th)
set_option maxRecDepth 8000 in
theorem s_M_crash_0 {l : Launch} {ad : Nat → Nat} {D : va_G} {cA : Nat → ClassId} {WW : Nat → qP} {QR : Option qA → qS → Prop} (S : qSnd l rm_M_crash ad D cA R_M b_M_crash 2 WW) (Q : qRet (none) b_M_crash WW QR) {QT : Nat → qS → Prop} (Th : qThr l rm_M_crash ad D cA R_M b_M_crash WW QT) : qle (k_M_crash_0 QR QT WW) WW 0 :=
  S.iload_n d_M_crash_0 rfl <| S.i2l d_M_crash_1 <| S.lconst d_M_crash_2 (by decide) <| S.ldc2 d_M_crash_3 (lw_at 510 (by decide +kernel) rfl) (by decide) <| sc_M_431 S (by decide) d_M_crash_6 <| st_M_435 Th (by decide) d_M_crash_9 <| S.aload_n d_M_crash_12 rfl <| S.gZ fl_M_422 (by decide) d_M_crash_13 <| st_M_425 Th (by decide) d_M_crash_16 <| S.iload_n d_M_crash_19 rfl <| S.bipush d_M_crash_20 (by decide) <| S.icmp_ne d_M_crash_22 (by decide) (s_M_crash_33 S Q Th) (s_M_crash_25 S Q Th)
theorem w_M_crash {l : Launch} {ad : Nat → Nat} {D : va_G} {cA : Nat → ClassId} {WW : Nat → qP} {QR : Option qA → qS → Prop} (S : qSnd l rm_M_crash ad D cA R_M b_M_crash 2 WW) (Q : qRet (none) b_M_crash WW QR) {QT : Nat → qS → Prop} (Th : qThr l rm_M_crash ad D cA R_M b_M_crash WW QT) (a1 : Int) (σ : qS) (ha1 : r32 a1) (hσ : qoS σ) (h : P_M_crash a1 σ) (hq : ∀ σ', Q_M_crash a1 σ σ' → QR none σ') (ht : ∀ (t : Nat) σ', T_M_crash a1 σ t σ' → QT t σ') : WW 0 [] [some (.inr (.inr 900)), some (.inl a1)] σ := by
  refine s_M_crash_0 S Q Th _ _ _ ?_
  simp only [k_M_crash_0, k_M_crash_25, k_M_crash_33, k_M_crash_40, oc_M_in, ot_M_may, ot_M_there, o_th, o_c, o_il, o_ll, o_al, o_is, o_as, o_ls, o_inc, o_bi, o_bid, o_bl, o_bld, o_sl, o_i2l, o_l2i, o_dup, o_dup2, o_pop, o_pop2, o_if, o_i2, o_l2, swg, o_sw, o_gI, o_gZ, o_gJ, o_gA, o_gR, o_pI, o_pZ, o_pJ, o_pR, o_ia, o_iak, o_zak, o_ja, o_jak, o_is_, o_isk, o_zsk, o_js_, o_jsk, o_len, o_ri, o_rz, o_rl, o_rv, ls1, ls2, lks, lkj, List.getD_cons_zero, List.getD_cons_succ, List.set_cons_zero, List.set_cons_succ, qcat, true_and, and_true, List.map_nil, List.map_cons, List.sum_nil, List.sum_cons, Nat.reduceAdd, Nat.reduceLeDiff, Nat.zero_le, Int.reduceAdd, Int.reduceNeg, Int.reduceEq, or_true, true_or, Decidable.not_not, false_implies, not_false_eq_true, true_implies, not_true_eq_false, Int.reduceLT, Int.reduceLE]
  exact inTh (fun hj _ => mayB (fun hb => ⟨fun h6 => ⟨by omega, hq _ ⟨hj, hb, by rw [if_neg h6]⟩⟩, fun h6 => hq _ ⟨hj, hb, by rw [if_pos h6]⟩⟩) (fun hb => ht _ _ ⟨rfl, Or.inr ⟨hj, hb, rfl⟩⟩)) (fun hj => ht _ _ ⟨rfl, Or.inl ⟨hj, rfl⟩⟩)
theorem c_M_crash (l : Launch) (ad : Nat → Nat) (D : va_G) (cA : Nat → ClassId) : qT l ad D cA y_M_crash (Cond.code y_M_crash b_M_crash 2 (none) :: lw_g) rm_M_crash pre_M_crash post_M_crash pst_M_crash := by
  refine qT_of (own := R_M) (by decide) rfl ?_ ?_
  · intro av σ h; unfold pre_M_crash at h; split at h
    · simp [qen]
    · exact h.elim
  · intro WW QR QT S Q Th av σ hav hσ h hq ht; unfold pre_M_crash at h; split at h
    next o a1 =>
      obtain ⟨rfl, h⟩ := h
      exact w_M_crash S Q Th a1 σ (hav _ (List.mem_of_getElem? (i := 1) rfl)) hσ h (fun σ' h' => hq _ σ' h') (fun t σ' h' => ht t σ' h')
    next => exact h.elim
def P_M_line (_a _b : Int) (_σ : qS) : Prop := True
def Q_M_line (a b : Int) (σ σ' : qS) : Prop := σ 26 0 ≠ 0 ∧ σ' = su (su σ 49 0 (z_and a 65535)) 50 0 (z_and b 65535)
def T_M_line (_a _b : Int) (σ : qS) (t : Nat) (σ' : qS) : Prop := σ' = σ ∧ σ 26 0 = 0 ∧ t = 1
def pre_M_line (av : List qA) (σ : qS) : Prop := match av with
  | [.inr (.inr o), .inl a1, .inl a2] => o = 900 ∧ P_M_line a1 a2 σ
  | _ => False
def post_M_line (av : List qA) (σ : qS) (r : Option qA) (σ' : qS) : Prop := match av, r with
  | [_, .inl a1, .inl a2], none => Q_M_line a1 a2 σ σ'
  | _, _ => False
def oc_M_line (K : qP) : qP := fun st ls σ => match st with
  | .inl a2 :: .inl a1 :: .inr (.inr o) :: st => o = 900 ∧ (st.map qcat).sum ≤ 8 ∧ P_M_line a1 a2 σ ∧ ∀ (σ' : qS), Q_M_line a1 a2 σ σ' → K st ls σ'
  | _ => False
def pst_M_line (av : List qA) (σ : qS) (t : Nat) (σ' : qS) : Prop := match av with
  | [_, .inl a1, .inl a2] => T_M_line a1 a2 σ t σ'
  | _ => False
def ot_M_line (QT : Nat → qS → Prop) (K : qP) : qP := fun st ls σ => match st with
  | .inl a2 :: .inl a1 :: .inr (.inr o) :: st => o = 900 ∧ (st.map qcat).sum ≤ 8 ∧ P_M_line a1 a2 σ ∧ (∀ (σ' : qS), Q_M_line a1 a2 σ σ' → K st ls σ') ∧ ∀ (t : Nat) (σ' : qS), T_M_line a1 a2 σ t σ' → QT t σ'
  | _ => False
def rm_M_line : Room := { frames := 7, cells := 1, slots := 6, locals := 101 }
def k_M_line_0 (QR : Option qA → qS → Prop) (QT : Nat → qS → Prop) (H : Nat → qP) : qP :=
  o_al 0 <| o_gZ 900 26 <| ot_M_may QT <| o_al 0 <| o_il 1 <| o_c (.inl 65535) <| o_bi z_and <| o_pI 900 49 <| o_al 0 <| o_il 2 <| o_c (.inl 65535) <| o_bi z_and <| o_pI 900 50 <| o_rv QR
set_option maxRecDepth 8000 in
theorem s_M_line_0 {l : Launch} {ad : Nat → Nat} {D : va_G} {cA : Nat → ClassId} {WW : Nat → qP} {QR : Option qA → qS → Prop} (S : qSnd l rm_M_line ad D cA R_M b_M_line 3 WW) (Q : qRet (none) b_M_line WW QR) {QT : Nat → qS → Prop} (Th : qThr l rm_M_line ad D cA R_M b_M_line WW QT) : qle (k_M_line_0 QR QT WW) WW 0 :=
  S.aload_n d_M_line_0 rfl <| S.gZ fl_M_422 (by decide) d_M_line_1 <| st_M_425 Th (by decide) d_M_line_4 <| S.aload_n d_M_line_7 rfl <| S.iload_n d_M_line_8 rfl <| S.ldcw d_M_line_9 (lw_at 747 (by decide +kernel) rfl) (by decide) <| S.iand d_M_line_12 <| S.pI fl_M_285 (by decide) (by decide +kernel) d_M_line_13 <| S.aload_n d_M_line_16 rfl <| S.iload_n d_M_line_17 rfl <| S.ldcw d_M_line_18 (lw_at 747 (by decide +kernel) rfl) (by decide) <| S.iand d_M_line_21 <| S.pI fl_M_288 (by decide) (by decide +kernel) d_M_line_22 <| Q.2.2.2 rfl _ d_M_line_25
theorem w_M_line {l : Launch} {ad : Nat → Nat} {D : va_G} {cA : Nat → ClassId} {WW : Nat → qP} {QR : Option qA → qS → Prop} (S : qSnd l rm_M_line ad D cA R_M b_M_line 3 WW) (Q : qRet (none) b_M_line WW QR) {QT : Nat → qS → Prop} (Th : qThr l rm_M_line ad D cA R_M b_M_line WW QT) (a1 : Int) (a2 : Int) (σ : qS) (ha1 : r32 a1) (ha2 : r32 a2) (hσ : qoS σ) (h : P_M_line a1 a2 σ) (hq : ∀ σ', Q_M_line a1 a2 σ σ' → QR none σ') (ht : ∀ (t : Nat) σ', T_M_line a1 a2 σ t σ' → QT t σ') : WW 0 [] [some (.inr (.inr 900)), some (.inl a1), some (.inl a2)] σ := by
  refine s_M_line_0 S Q Th _ _ _ ?_
  simp only [k_M_line_0, ot_M_may, o_th, o_c, o_il, o_ll, o_al, o_is, o_as, o_ls, o_inc, o_bi, o_bid, o_bl, o_bld, o_sl, o_i2l, o_l2i, o_dup, o_dup2, o_pop, o_pop2, o_if, o_i2, o_l2, swg, o_sw, o_gI, o_gZ, o_gJ, o_gA, o_gR, o_pI, o_pZ, o_pJ, o_pR, o_ia, o_iak, o_zak, o_ja, o_jak, o_is_, o_isk, o_zsk, o_js_, o_jsk, o_len, o_ri, o_rz, o_rl, o_rv, ls1, ls2, lks, lkj, List.getD_cons_zero, List.getD_cons_succ, List.set_cons_zero, List.set_cons_succ, qcat, true_and, and_true, List.map_nil, List.map_cons, List.sum_nil, List.sum_cons, Nat.reduceAdd, Nat.reduceLeDiff, Nat.zero_le, Int.reduceAdd, Int.reduceNeg, Int.reduceEq, or_true, true_or, Decidable.not_not, false_implies, not_false_eq_true, true_implies, not_true_eq_false, Int.reduceLT, Int.reduceLE]
  exact fun _ => mayB (fun hb => hq _ ⟨hb, rfl⟩) (fun hb => ht _ _ ⟨rfl, hb, rfl⟩)
theorem c_M_line (l : Launch) (ad : Nat → Nat) (D : va_G) (cA : Nat → ClassId) : qT l ad D cA y_M_line (Cond.code y_M_line b_M_line 3 (none) :: lw_g) rm_M_line pre_M_line post_M_line pst_M_line := by
  refine qT_of (own := R_M) (by decide) rfl ?_ ?_
  · intro av σ h; unfold pre_M_line at h; split at h
    · simp [qen]
    · exact h.elim
  · intro WW QR QT S Q Th av σ hav hσ h hq ht; unfold pre_M_line at h; split at h
    next o a1 a2 =>
      obtain ⟨rfl, h⟩ := h
      exact w_M_line S Q Th a1 a2 σ (hav _ (List.mem_of_getElem? (i := 1) rfl)) (hav _ (List.mem_of_getElem? (i := 2) rfl)) hσ h (fun σ' h' => hq _ σ' h') (fun t σ' h' => ht t σ' h')
    next => exact h.elim
def P_M_told (_f _i _v : Int) (σ : qS) : Prop := fsok σ
def Q_M_told (f i v : Int) (σ : qS) (r : Int) (σ' : qS) : Prop := (0 ≤ f ∧ f ≤ 15) ∧ σ 26 0 = 0 ∧ (0 ≤ i ∧ i ≤ σ 2 f - 1) ∧ σ' = σ ∧ r = if v ≠ 0 then σ 1 (f * 300 + i) else σ 0 (f * 300 + i)
def T_M_told (f i _v : Int) (σ : qS) (t : Nat) (σ' : qS) : Prop := σ' = σ ∧ ((¬ (0 ≤ f ∧ f ≤ 15) ∧ t = 2) ∨ ((0 ≤ f ∧ f ≤ 15) ∧ σ 26 0 ≠ 0 ∧ t = 1) ∨ ((0 ≤ f ∧ f ≤ 15) ∧ σ 26 0 = 0 ∧ ¬ (0 ≤ i ∧ i ≤ σ 2 f - 1) ∧ t = 2))
def pre_M_told (av : List qA) (σ : qS) : Prop := match av with
  | [.inr (.inr o), .inl a1, .inl a2, .inl a3] => o = 900 ∧ P_M_told a1 a2 a3 σ
  | _ => False
def post_M_told (av : List qA) (σ : qS) (r : Option qA) (σ' : qS) : Prop := match av, r with
  | [_, .inl a1, .inl a2, .inl a3], some (.inr (.inl r)) => Q_M_told a1 a2 a3 σ r σ'
  | _, _ => False
def oc_M_told (K : qP) : qP := fun st ls σ => match st with
  | .inl a3 :: .inl a2 :: .inl a1 :: .inr (.inr o) :: st => o = 900 ∧ (st.map qcat).sum ≤ 8 ∧ P_M_told a1 a2 a3 σ ∧ ∀ (r : Int) (σ' : qS), Q_M_told a1 a2 a3 σ r σ' → K (.inr (.inl r) :: st) ls σ'
  | _ => False
def pst_M_told (av : List qA) (σ : qS) (t : Nat) (σ' : qS) : Prop := match av with
  | [_, .inl a1, .inl a2, .inl a3] => T_M_told a1 a2 a3 σ t σ'
  | _ => False
def ot_M_told (QT : Nat → qS → Prop) (K : qP) : qP := fun st ls σ => match st with
  | .inl a3 :: .inl a2 :: .inl a1 :: .inr (.inr o) :: st => o = 900 ∧ (st.map qcat).sum ≤ 8 ∧ P_M_told a1 a2 a3 σ ∧ (∀ (r : Int) (σ' : qS), Q_M_told a1 a2 a3 σ r σ' → K (.inr (.inl r) :: st) ls σ') ∧ ∀ (t : Nat) (σ' : qS), T_M_told a1 a2 a3 σ t σ' → QT t σ'
  | _ => False
def rm_M_told : Room := { frames := 8, cells := 1, slots := 6, locals := 121 }
def k_M_told_68 (QR : Option qA → qS → Prop) (QT : Nat → qS → Prop) (H : Nat → qP) : qP :=
  o_rl QR
def k_M_told_56 (QR : Option qA → qS → Prop) (QT : Nat → qS → Prop) (H : Nat → qP) : qP :=
  o_al 0 <| o_gA 900 0 <| o_il 1 <| o_c (.inl 300) <| o_bi z_mul <| o_il 2 <| o_bi z_add <| o_jak 0 4800 <| k_M_told_68 QR QT H
def k_M_told_41 (QR : Option qA → qS → Prop) (QT : Nat → qS → Prop) (H : Nat → qP) : qP :=
  o_al 0 <| o_gA 900 1 <| o_il 1 <| o_c (.inl 300) <| o_bi z_mul <| o_il 2 <| o_bi z_add <| o_jak 1 4800 <| k_M_told_68 QR QT H
def k_M_told_16 (QR : Option qA → qS → Prop) (QT : Nat → qS → Prop) (H : Nat → qP) : qP :=
  ot_M_may QT <| o_il 2 <| o_i2l <| o_c (.inr (.inl 0)) <| o_al 0 <| o_gA 900 2 <| o_il 1 <| o_iak 2 16 <| o_c (.inl 1) <| o_bi z_sub <| o_i2l <| oc_M_in <| ot_M_there QT <| o_il 3 <| o_if (fun a => a = 0) (k_M_told_56 QR QT H) (k_M_told_41 QR QT H)
def k_M_told_15 (QR : Option qA → qS → Prop) (QT : Nat → qS → Prop) (H : Nat → qP) : qP :=
  o_c (.inl 0) <| k_M_told_16 QR QT H
def k_M_told_11 (QR : Option qA → qS → Prop) (QT : Nat → qS → Prop) (H : Nat → qP) : qP :=
  o_c (.inl 1) <| k_M_told_16 QR QT H
def k_M_told_0 (QR : Option qA → qS → Prop) (QT : Nat → qS → Prop) (H : Nat → qP) : qP :=
  o_il 1 <| ot_M_isFile QT <| o_al 0 <| o_gZ 900 26 <| o_if (fun a => ¬ a = 0) (k_M_told_15 QR QT H) (k_M_told_11 QR QT H)
set_option maxRecDepth 8000 in
theorem s_M_told_68 {l : Launch} {ad : Nat → Nat} {D : va_G} {cA : Nat → ClassId} {WW : Nat → qP} {QR : Option qA → qS → Prop} (S : qSnd l rm_M_told ad D cA R_M b_M_told 4 WW) (Q : qRet (some .long) b_M_told WW QR) {QT : Nat → qS → Prop} (Th : qThr l rm_M_told ad D cA R_M b_M_told WW QT) : qle (k_M_told_68 QR QT WW) WW 68 :=
  Q.2.2.1 rfl _ d_M_told_68
set_option maxRecDepth 8000 in
theorem s_M_told_56 {l : Launch} {ad : Nat → Nat} {D : va_G} {cA : Nat → ClassId} {WW : Nat → qP} {QR : Option qA → qS → Prop} (S : qSnd l rm_M_told ad D cA R_M b_M_told 4 WW) (Q : qRet (some .long) b_M_told WW QR) {QT : Nat → qS → Prop} (Th : qThr l rm_M_told ad D cA R_M b_M_told WW QT) : qle (k_M_told_56 QR QT WW) WW 56 :=
  S.aload_n d_M_told_56 rfl <| S.gA fl_M_9 (by decide) d_M_told_57 <| S.iload_n d_M_told_60 rfl <| S.sipush d_M_told_61 (by decide) <| S.imul d_M_told_64 <| S.iload_n d_M_told_65 rfl <| S.iadd d_M_told_66 <| S.jak (by decide) d_M_told_67 <| (s_M_told_68 S Q Th)
set_option maxRecDepth 8000 in
theorem s_M_told_41 {l : Launch} {ad : Nat → Nat} {D : va_G} {cA : Nat → ClassId} {WW : Nat → qP} {QR : Option qA → qS → Prop} (S : qSnd l rm_M_told ad D cA R_M b_M_told 4 WW) (Q : qRet (some .long) b_M_told WW QR) {QT : Nat → qS → Prop} (Th : qThr l rm_M_told ad D cA R_M b_M_told WW QT) : qle (k_M_told_41 QR QT WW) WW 41 :=
  S.aload_n d_M_told_41 rfl <| S.gA fl_M_13 (by decide) d_M_told_42 <| S.iload_n d_M_told_45 rfl <| S.sipush d_M_told_46 (by decide) <| S.imul d_M_told_49 <| S.iload_n d_M_told_50 rfl <| S.iadd d_M_told_51 <| S.jak (by decide) d_M_told_52 <| S.goto d_M_told_53 (by decide) (s_M_told_68 S Q Th)
set_option maxRecDepth 8000 in
theorem s_M_told_16 {l : Launch} {ad : Nat → Nat} {D : va_G} {cA : Nat → ClassId} {WW : Nat → qP} {QR : Option qA → qS → Prop} (S : qSnd l rm_M_told ad D cA R_M b_M_told 4 WW) (Q : qRet (some .long) b_M_told WW QR) {QT : Nat → qS → Prop} (Th : qThr l rm_M_told ad D cA R_M b_M_told WW QT) : qle (k_M_told_16 QR QT WW) WW 16 :=
  st_M_425 Th (by decide) d_M_told_16 <| S.iload_n d_M_told_19 rfl <| S.i2l d_M_told_20 <| S.lconst d_M_told_21 (by decide) <| S.aload_n d_M_told_22 rfl <| S.gA fl_M_16 (by decide) d_M_told_23 <| S.iload_n d_M_told_26 rfl <| S.iak (by decide) d_M_told_27 <| S.iconst d_M_told_28 (by decide) <| S.isub d_M_told_29 <| S.i2l d_M_told_30 <| sc_M_431 S (by decide) d_M_told_31 <| st_M_435 Th (by decide) d_M_told_34 <| S.iload_n d_M_told_37 rfl <| S.if_eq d_M_told_38 (by decide) (s_M_told_56 S Q Th) (s_M_told_41 S Q Th)
set_option maxRecDepth 8000 in
theorem s_M_told_15 {l : Launch} {ad : Nat → Nat} {D : va_G} {cA : Nat → ClassId} {WW : Nat → qP} {QR : Option qA → qS → Prop} (S : qSnd l rm_M_told ad D cA R_M b_M_told 4 WW) (Q : qRet (some .long) b_M_told WW QR) {QT : Nat → qS → Prop} (Th : qThr l rm_M_told ad D cA R_M b_M_told WW QT) : qle (k_M_told_15 QR QT WW) WW 15 :=
  S.iconst d_M_told_15 (by decide) <| (s_M_told_16 S Q Th)
set_option maxRecDepth 8000 in
theorem s_M_told_11 {l : Launch} {ad : Nat → Nat} {D : va_G} {cA : Nat → ClassId} {WW : Nat → qP} {QR : Option qA → qS → Prop} (S : qSnd l rm_M_told ad D cA R_M b_M_told 4 WW) (Q : qRet (some .long) b_M_told WW QR) {QT : Nat → qS → Prop} (Th : qThr l rm_M_told ad D cA R_M b_M_told WW QT) : qle (k_M_told_11 QR QT WW) WW 11 :=
  S.iconst d_M_told_11 (by decide) <| S.goto d_M_told_12 (by decide) (s_M_told_16 S Q Th)
set_option maxRecDepth 8000 in
theorem s_M_told_0 {l : Launch} {ad : Nat → Nat} {D : va_G} {cA : Nat → ClassId} {WW : Nat → qP} {QR : Option qA → qS → Prop} (S : qSnd l rm_M_told ad D cA R_M b_M_told 4 WW) (Q : qRet (some .long) b_M_told WW QR) {QT : Nat → qS → Prop} (Th : qThr l rm_M_told ad D cA R_M b_M_told WW QT) : qle (k_M_told_0 QR QT WW) WW 0 :=
  S.iload_n d_M_told_0 rfl <| st_M_438 Th (by decide) d_M_told_1 <| S.aload_n d_M_told_4 rfl <| S.gZ fl_M_422 (by decide) d_M_told_5 <| S.if_ne d_M_told_8 (by decide) (s_M_told_15 S Q Th) (s_M_told_11 S Q Th)
theorem w_M_told {l : Launch} {ad : Nat → Nat} {D : va_G} {cA : Nat → ClassId} {WW : Nat → qP} {QR : Option qA → qS → Prop} (S : qSnd l rm_M_told ad D cA R_M b_M_told 4 WW) (Q : qRet (some .long) b_M_told WW QR) {QT : Nat → qS → Prop} (Th : qThr l rm_M_told ad D cA R_M b_M_told WW QT) (a1 : Int) (a2 : Int) (a3 : Int) (σ : qS) (ha1 : r32 a1) (ha2 : r32 a2) (ha3 : r32 a3) (hσ : qoS σ) (h : P_M_told a1 a2 a3 σ) (hq : ∀ (r : Int) σ', Q_M_told a1 a2 a3 σ r σ' → QR (some (.inr (.inl r))) σ') (ht : ∀ (t : Nat) σ', T_M_told a1 a2 a3 σ t σ' → QT t σ') : WW 0 [] [some (.inr (.inr 900)), some (.inl a1), some (.inl a2), some (.inl a3)] σ := by
  refine s_M_told_0 S Q Th _ _ _ ?_
  simp only [k_M_told_0, k_M_told_11, k_M_told_15, k_M_told_16, k_M_told_41, k_M_told_56, k_M_told_68, oc_M_in, ot_M_isFile, ot_M_may, ot_M_there, o_th, o_c, o_il, o_ll, o_al, o_is, o_as, o_ls, o_inc, o_bi, o_bid, o_bl, o_bld, o_sl, o_i2l, o_l2i, o_dup, o_dup2, o_pop, o_pop2, o_if, o_i2, o_l2, swg, o_sw, o_gI, o_gZ, o_gJ, o_gA, o_gR, o_pI, o_pZ, o_pJ, o_pR, o_ia, o_iak, o_zak, o_ja, o_jak, o_is_, o_isk, o_zsk, o_js_, o_jsk, o_len, o_ri, o_rz, o_rl, o_rv, ls1, ls2, lks, lkj, List.getD_cons_zero, List.getD_cons_succ, List.set_cons_zero, List.set_cons_succ, qcat, true_and, and_true, List.map_nil, List.map_cons, List.sum_nil, List.sum_cons, Nat.reduceAdd, Nat.reduceLeDiff, Nat.zero_le, Int.reduceAdd, Int.reduceNeg, Int.reduceEq, or_true, true_or, Decidable.not_not, false_implies, not_false_eq_true, true_implies, not_true_eq_false, Int.reduceLT, Int.reduceLE]
  refine isF (fun hf _ => ⟨fun hb => mayN (ht _ _ ⟨rfl, Or.inr (Or.inl ⟨hf, hb, rfl⟩)⟩), fun hb => mayY ⟨by omega, ?_⟩⟩) (fun hf => ht _ _ ⟨rfl, Or.inl ⟨hf, rfl⟩⟩)
  have h1 := h a1 hf.1 (by omega)
  have e1 : z_sub (σ 2 a1) 1 = σ 2 a1 - 1 := by unfold z_sub; exact w32_i _ (by omega) (by omega)
  rw [e1]
  refine inTh (fun hi => ?_) (fun hi => ht _ _ ⟨rfl, Or.inr (Or.inr ⟨hf, hb, hi, rfl⟩)⟩)
  have e2 : z_add (z_mul a1 300) a2 = a1 * 300 + a2 := by unfold z_add z_mul; rw [w32_i (a1 * 300) (by omega) (by omega), w32_i _ (by omega) (by omega)]
  rw [e2]
  exact ⟨fun h0 => ⟨by omega, hq _ _ ⟨hf, hb, hi, rfl, by rw [if_neg (fun x => x h0)]⟩⟩, fun h0 => ⟨by omega, hq _ _ ⟨hf, hb, hi, rfl, by rw [if_pos h0]⟩⟩⟩
theorem c_M_told (l : Launch) (ad : Nat → Nat) (D : va_G) (cA : Nat → ClassId) : qT l ad D cA y_M_told (Cond.code y_M_told b_M_told 4 (some .long) :: lw_g) rm_M_told pre_M_told post_M_told pst_M_told := by
  refine qT_of (own := R_M) (by decide) rfl ?_ ?_
  · intro av σ h; unfold pre_M_told at h; split at h
    · simp [qen]
    · exact h.elim
  · intro WW QR QT S Q Th av σ hav hσ h hq ht; unfold pre_M_told at h; split at h
    next o a1 a2 a3 =>
      obtain ⟨rfl, h⟩ := h
      exact w_M_told S Q Th a1 a2 a3 σ (hav _ (List.mem_of_getElem? (i := 1) rfl)) (hav _ (List.mem_of_getElem? (i := 2) rfl)) (hav _ (List.mem_of_getElem? (i := 3) rfl)) hσ h (fun r σ' h' => hq _ σ' h') (fun t σ' h' => ht t σ' h')
    next => exact h.elim
def Ticks (w : Int) : Nat → qS → Prop
  | 0, _ => True
  | n + 1, σ => P_M_one w σ ∧ ∀ σ', Q_M_one w σ σ' → Ticks w n σ'
def TickQ (w : Int) : Nat → qS → qS → Prop
  | 0, σ, σ' => σ' = σ
  | n + 1, σ, σ' => ∃ σ1, Q_M_one w σ σ1 ∧ TickQ w n σ1 σ'
def P_M_tick (w n : Int) (σ : qS) : Prop := 0 ≤ w ∧ w ≤ 6 → 1 ≤ n ∧ n ≤ 200 → σ 26 0 ≠ 0 → Ticks w n.toNat σ
def Q_M_tick (w n : Int) (σ σ' : qS) : Prop := (0 ≤ w ∧ w ≤ 6) ∧ (1 ≤ n ∧ n ≤ 200) ∧ σ 26 0 ≠ 0 ∧ TickQ w n.toNat σ σ'
def T_M_tick (w n : Int) (σ : qS) (t : Nat) (σ' : qS) : Prop := σ' = σ ∧ ((¬ (0 ≤ w ∧ w ≤ 6) ∧ t = 2) ∨ ((0 ≤ w ∧ w ≤ 6) ∧ ¬ (1 ≤ n ∧ n ≤ 200) ∧ t = 0) ∨ ((0 ≤ w ∧ w ≤ 6) ∧ (1 ≤ n ∧ n ≤ 200) ∧ σ 26 0 = 0 ∧ t = 1))
def pre_M_tick (av : List qA) (σ : qS) : Prop := match av with
  | [.inr (.inr o), .inl a1, .inl a2] => o = 900 ∧ P_M_tick a1 a2 σ
  | _ => False
def post_M_tick (av : List qA) (σ : qS) (r : Option qA) (σ' : qS) : Prop := match av, r with
  | [_, .inl a1, .inl a2], none => Q_M_tick a1 a2 σ σ'
  | _, _ => False
def oc_M_tick (K : qP) : qP := fun st ls σ => match st with
  | .inl a2 :: .inl a1 :: .inr (.inr o) :: st => o = 900 ∧ (st.map qcat).sum ≤ 8 ∧ P_M_tick a1 a2 σ ∧ ∀ (σ' : qS), Q_M_tick a1 a2 σ σ' → K st ls σ'
  | _ => False
def pst_M_tick (av : List qA) (σ : qS) (t : Nat) (σ' : qS) : Prop := match av with
  | [_, .inl a1, .inl a2] => T_M_tick a1 a2 σ t σ'
  | _ => False
def ot_M_tick (QT : Nat → qS → Prop) (K : qP) : qP := fun st ls σ => match st with
  | .inl a2 :: .inl a1 :: .inr (.inr o) :: st => o = 900 ∧ (st.map qcat).sum ≤ 8 ∧ P_M_tick a1 a2 σ ∧ (∀ (σ' : qS), Q_M_tick a1 a2 σ σ' → K st ls σ') ∧ ∀ (t : Nat) (σ' : qS), T_M_tick a1 a2 σ t σ' → QT t σ'
  | _ => False
def rm_M_tick : Room := { frames := 9, cells := 1, slots := 6, locals := 220 }
theorem sc_M_484 {l : Launch} {R : Room} {ad : Nat → Nat} {D : va_G} {cA : Nat → ClassId} {cc : ByteArray} {nL : Nat} {WW : Nat → qP} (S : qSnd l R ad D cA R_M cc nL WW) (hR : rm_M_one.frames + 1 ≤ R.frames ∧ 8 + (2 + 11) + rm_M_one.locals ≤ R.locals) {K : qP} {pc : Nat} (d : decode cc pc = .ok (.invokevirtual 484, 3)) (h : qle K WW (pc + 3)) : qle (oc_M_one K) WW pc := by
  intro st ls σ k
  refine S.callV (o := 900) (ci := 0) (N := 82) (base := 0) (C := R_M) (T := F_M) (n := 1) (pre := pre_M_one) (post := post_M_one) (Or.inl ⟨rfl, rfl, rfl, rfl, rfl, rfl⟩) ⟨lw_at 564 (by decide +kernel) rfl, lw_at 561 (by decide +kernel) rfl, lw_at 59 (by decide +kernel) rfl, by decide, by decide, by decide +kernel⟩ ⟨lw_at 563 (by decide +kernel) rfl, lw_at 9 (by decide +kernel) rfl⟩ ⟨rfl, rfl⟩ hR (c_M_one l ad D cA) ?_ d h st ls σ ?_
  · intro av σ h; unfold pre_M_one at h; split at h
    · obtain ⟨rfl, h⟩ := h; exact ⟨_, rfl⟩
    · exact h.elim
  · unfold oc_M_one at k
    split at k
    next a1 o st =>
      obtain ⟨rfl, hs, hp, k⟩ := k
      refine ⟨[.inr (.inr 900), .inl a1], st, rfl, rfl, hs, ⟨rfl, hp⟩, fun r σ' hq => ?_⟩
      unfold post_M_one at hq
      split at hq
      next h1 =>
        cases h1
        exact k _ hq
      next => exact hq.elim
    next => exact k.elim
theorem st_M_450 {l : Launch} {R : Room} {ad : Nat → Nat} {D : va_G} {cA : Nat → ClassId} {cc : ByteArray} {WW : Nat → qP} {QT : Nat → qS → Prop} (Th : qThr l R ad D cA R_M cc WW QT) (hR : rm_M_right.frames + 1 ≤ R.frames ∧ 8 + (1 + 11) + rm_M_right.locals ≤ R.locals ∧ 0 + rm_M_right.cells ≤ R.cells ∧ 0 + rm_M_right.slots ≤ R.slots) {K : qP} {pc : Nat} (d : decode cc pc = .ok (.invokestatic 450, 3)) (h : qle K WW (pc + 3)) : qle (ot_M_right QT K) WW pc := by
  intro st ls σ k
  refine Th.2.1 450 1 1 pc _ _ _ rm_M_right pre_M_right post_M_right pst_M_right K ⟨lw_at 477 (by decide +kernel) rfl, lw_at 475 (by decide +kernel) rfl, lw_at 59 (by decide +kernel) rfl, by decide, by decide, by decide +kernel⟩ (lw_at 476 (by decide +kernel) rfl) hR (c_M_right l ad D cA) d h st ls σ ?_
  unfold ot_M_right at k
  split at k
  next a1 st =>
    obtain ⟨hs, hp, k, kt⟩ := k
    refine ⟨[.inl a1], st, rfl, rfl, hs, hp, fun r σ' hq => ?_, fun t σ' hq => kt t σ' hq⟩
    unfold post_M_right at hq
    split at hq
    next h1 =>
      cases h1
      exact k _ hq
    next => exact hq.elim
  next => exact k.elim
def k_M_tick_49 (QR : Option qA → qS → Prop) (QT : Nat → qS → Prop) (H : Nat → qP) : qP :=
  o_rv QR
def k_M_tick_38 (QR : Option qA → qS → Prop) (QT : Nat → qS → Prop) (H : Nat → qP) : qP :=
  o_al 0 <| o_il 1 <| oc_M_one <| o_inc 3 1 <| H 33
def k_M_tick_33 (QR : Option qA → qS → Prop) (QT : Nat → qS → Prop) (H : Nat → qP) : qP :=
  o_il 3 <| o_il 2 <| o_i2 (fun a b => b ≤ a) (k_M_tick_49 QR QT H) (k_M_tick_38 QR QT H)
def k_M_tick_0 (QR : Option qA → qS → Prop) (QT : Nat → qS → Prop) (H : Nat → qP) : qP :=
  o_il 1 <| o_i2l <| o_c (.inr (.inl 0)) <| o_c (.inr (.inl 6)) <| oc_M_in <| ot_M_there QT <| o_il 2 <| o_i2l <| o_c (.inr (.inl 1)) <| o_c (.inr (.inl 200)) <| oc_M_in <| ot_M_right QT <| o_al 0 <| o_gZ 900 26 <| ot_M_may QT <| o_c (.inl 0) <| o_is 3 <| H 33
set_option maxRecDepth 8000 in
theorem s_M_tick_49 {l : Launch} {ad : Nat → Nat} {D : va_G} {cA : Nat → ClassId} {WW : Nat → qP} {QR : Option qA → qS → Prop} (S : qSnd l rm_M_tick ad D cA R_M b_M_tick 4 WW) (Q : qRet (none) b_M_tick WW QR) {QT : Nat → qS → Prop} (Th : qThr l rm_M_tick ad D cA R_M b_M_tick WW QT) : qle (k_M_tick_49 QR QT WW) WW 49 :=
  Q.2.2.2 rfl _ d_M_tick_49
set_option maxRecDepth 8000 in
theorem s_M_tick_38 {l : Launch} {ad : Nat → Nat} {D : va_G} {cA : Nat → ClassId} {WW : Nat → qP} {QR : Option qA → qS → Prop} (S : qSnd l rm_M_tick ad D cA R_M b_M_tick 4 WW) (Q : qRet (none) b_M_tick WW QR) {QT : Nat → qS → Prop} (Th : qThr l rm_M_tick ad D cA R_M b_M_tick WW QT) : qle (k_M_tick_38 QR QT WW) WW 38 :=
  S.aload_n d_M_tick_38 rfl <| S.iload_n d_M_tick_39 rfl <| sc_M_484 S (by decide) d_M_tick_40 <| S.iinc d_M_tick_43 (by decide) <| S.goto d_M_tick_46 (by decide) (fun _ _ _ h => h)
set_option maxRecDepth 8000 in
theorem s_M_tick_33 {l : Launch} {ad : Nat → Nat} {D : va_G} {cA : Nat → ClassId} {WW : Nat → qP} {QR : Option qA → qS → Prop} (S : qSnd l rm_M_tick ad D cA R_M b_M_tick 4 WW) (Q : qRet (none) b_M_tick WW QR) {QT : Nat → qS → Prop} (Th : qThr l rm_M_tick ad D cA R_M b_M_tick WW QT) : qle (k_M_tick_33 QR QT WW) WW 33 :=
  S.iload_n d_M_tick_33 rfl <| S.iload_n d_M_tick_34 rfl <| S.icmp_ge d_M_tick_35 (by decide) (s_M_tick_49 S Q Th) (s_M_tick_38 S Q Th)
set_option maxRecDepth 8000 in
theorem s_M_tick_0 {l : Launch} {ad : Nat → Nat} {D : va_G} {cA : Nat → ClassId} {WW : Nat → qP} {QR : Option qA → qS → Prop} (S : qSnd l rm_M_tick ad D cA R_M b_M_tick 4 WW) (Q : qRet (none) b_M_tick WW QR) {QT : Nat → qS → Prop} (Th : qThr l rm_M_tick ad D cA R_M b_M_tick WW QT) : qle (k_M_tick_0 QR QT WW) WW 0 :=
  S.iload_n d_M_tick_0 rfl <| S.i2l d_M_tick_1 <| S.lconst d_M_tick_2 (by decide) <| S.ldc2 d_M_tick_3 (lw_at 510 (by decide +kernel) rfl) (by decide) <| sc_M_431 S (by decide) d_M_tick_6 <| st_M_435 Th (by decide) d_M_tick_9 <| S.iload_n d_M_tick_12 rfl <| S.i2l d_M_tick_13 <| S.lconst d_M_tick_14 (by decide) <| S.ldc2 d_M_tick_15 (lw_at 560 (by decide +kernel) rfl) (by decide) <| sc_M_431 S (by decide) d_M_tick_18 <| st_M_450 Th (by decide) d_M_tick_21 <| S.aload_n d_M_tick_24 rfl <| S.gZ fl_M_422 (by decide) d_M_tick_25 <| st_M_425 Th (by decide) d_M_tick_28 <| S.iconst d_M_tick_31 (by decide) <| S.istore_n d_M_tick_32 rfl (by decide) <| (fun _ _ _ h => h)
theorem v_M_tick_K {l : Launch} {ad : Nat → Nat} {D : va_G} {cA : Nat → ClassId} {WW : Nat → qP} {QR : Option qA → qS → Prop} (S : qSnd l rm_M_tick ad D cA R_M b_M_tick 4 WW) (Q : qRet (none) b_M_tick WW QR) {QT : Nat → qS → Prop} (Th : qThr l rm_M_tick ad D cA R_M b_M_tick WW QT) (w n : Int) (hn : n ≤ 200) (σ0 : qS) (hq : ∀ σ', TickQ w n.toNat σ0 σ' → QR none σ') : ∀ (m k : Nat) (σ : qS), ((k + m : Nat) : Int) = n → Ticks w m σ → (∀ σ', TickQ w m σ σ' → TickQ w n.toNat σ0 σ') → WW 33 [] [some (.inr (.inr 900)), some (.inl w), some (.inl n), some (.inl (k : Int))] σ := by
  intro m
  induction m with
  | zero =>
    intro k σ hk hT hQ
    refine s_M_tick_33 S Q Th _ _ _ ?_
    simp only [k_M_tick_0, k_M_tick_33, k_M_tick_38, k_M_tick_49, oc_M_in, ot_M_may, oc_M_one, ot_M_right, ot_M_there, o_th, o_c, o_il, o_ll, o_al, o_is, o_as, o_ls, o_inc, o_bi, o_bid, o_bl, o_bld, o_sl, o_i2l, o_l2i, o_dup, o_dup2, o_pop, o_pop2, o_if, o_i2, o_l2, swg, o_sw, o_gI, o_gZ, o_gJ, o_gA, o_gR, o_pI, o_pZ, o_pJ, o_pR, o_ia, o_iak, o_zak, o_ja, o_jak, o_is_, o_isk, o_zsk, o_js_, o_jsk, o_len, o_ri, o_rz, o_rl, o_rv, ls1, ls2, lks, lkj, List.getD_cons_zero, List.getD_cons_succ, List.set_cons_zero, List.set_cons_succ, qcat, true_and, and_true, List.map_nil, List.map_cons, List.sum_nil, List.sum_cons, Nat.reduceAdd, Nat.reduceLeDiff, Nat.zero_le, Int.reduceAdd, Int.reduceNeg, Int.reduceEq, or_true, true_or, Decidable.not_not, false_implies, not_false_eq_true, true_implies, not_true_eq_false, Int.reduceLT, Int.reduceLE]
    exact ⟨fun _ => hq _ (hQ _ rfl), fun h => by omega⟩
  | succ m ih =>
    intro k σ hk hT hQ
    refine s_M_tick_33 S Q Th _ _ _ ?_
    simp only [k_M_tick_0, k_M_tick_33, k_M_tick_38, k_M_tick_49, oc_M_in, ot_M_may, oc_M_one, ot_M_right, ot_M_there, o_th, o_c, o_il, o_ll, o_al, o_is, o_as, o_ls, o_inc, o_bi, o_bid, o_bl, o_bld, o_sl, o_i2l, o_l2i, o_dup, o_dup2, o_pop, o_pop2, o_if, o_i2, o_l2, swg, o_sw, o_gI, o_gZ, o_gJ, o_gA, o_gR, o_pI, o_pZ, o_pJ, o_pR, o_ia, o_iak, o_zak, o_ja, o_jak, o_is_, o_isk, o_zsk, o_js_, o_jsk, o_len, o_ri, o_rz, o_rl, o_rv, ls1, ls2, lks, lkj, List.getD_cons_zero, List.getD_cons_succ, List.set_cons_zero, List.set_cons_succ, qcat, true_and, and_true, List.map_nil, List.map_cons, List.sum_nil, List.sum_cons, Nat.reduceAdd, Nat.reduceLeDiff, Nat.zero_le, Int.reduceAdd, Int.reduceNeg, Int.reduceEq, or_true, true_or, Decidable.not_not, false_implies, not_false_eq_true, true_implies, not_true_eq_false, Int.reduceLT, Int.reduceLE]
    rw [w32_i _ (by omega) (by omega)]
    exact ⟨fun h => by omega, fun _ => ⟨hT.1, fun σ1 q1 => ih (k + 1) σ1 (by omega) (hT.2 σ1 q1) (fun σ' q => hQ _ ⟨σ1, q1, q⟩)⟩⟩
theorem w_M_tick {l : Launch} {ad : Nat → Nat} {D : va_G} {cA : Nat → ClassId} {WW : Nat → qP} {QR : Option qA → qS → Prop} (S : qSnd l rm_M_tick ad D cA R_M b_M_tick 4 WW) (Q : qRet (none) b_M_tick WW QR) {QT : Nat → qS → Prop} (Th : qThr l rm_M_tick ad D cA R_M b_M_tick WW QT) (a1 : Int) (a2 : Int) (σ : qS) (ha1 : r32 a1) (ha2 : r32 a2) (hσ : qoS σ) (h : P_M_tick a1 a2 σ) (hq : ∀ σ', Q_M_tick a1 a2 σ σ' → QR none σ') (ht : ∀ (t : Nat) σ', T_M_tick a1 a2 σ t σ' → QT t σ') : WW 0 [] [some (.inr (.inr 900)), some (.inl a1), some (.inl a2), none] σ := by
  refine s_M_tick_0 S Q Th _ _ _ ?_
  simp only [k_M_tick_0, k_M_tick_33, k_M_tick_38, k_M_tick_49, oc_M_in, ot_M_may, oc_M_one, ot_M_right, ot_M_there, o_th, o_c, o_il, o_ll, o_al, o_is, o_as, o_ls, o_inc, o_bi, o_bid, o_bl, o_bld, o_sl, o_i2l, o_l2i, o_dup, o_dup2, o_pop, o_pop2, o_if, o_i2, o_l2, swg, o_sw, o_gI, o_gZ, o_gJ, o_gA, o_gR, o_pI, o_pZ, o_pJ, o_pR, o_ia, o_iak, o_zak, o_ja, o_jak, o_is_, o_isk, o_zsk, o_js_, o_jsk, o_len, o_ri, o_rz, o_rl, o_rv, ls1, ls2, lks, lkj, List.getD_cons_zero, List.getD_cons_succ, List.set_cons_zero, List.set_cons_succ, qcat, true_and, and_true, List.map_nil, List.map_cons, List.sum_nil, List.sum_cons, Nat.reduceAdd, Nat.reduceLeDiff, Nat.zero_le, Int.reduceAdd, Int.reduceNeg, Int.reduceEq, or_true, true_or, Decidable.not_not, false_implies, not_false_eq_true, true_implies, not_true_eq_false, Int.reduceLT, Int.reduceLE]
  refine inTh (fun hw => inRt (fun hn _ => mayB (fun hb => ?_) (fun hb => ht _ _ ⟨rfl, Or.inr (Or.inr ⟨hw, hn, hb, rfl⟩)⟩)) (fun hn => ht _ _ ⟨rfl, Or.inr (Or.inl ⟨hw, hn, rfl⟩)⟩)) (fun hw => ht _ _ ⟨rfl, Or.inl ⟨hw, rfl⟩⟩)
  exact v_M_tick_K S Q Th a1 a2 hn.2 σ (fun σ' q => hq _ ⟨hw, hn, hb, q⟩) a2.toNat 0 σ (by omega) (h hw hn hb) (fun σ' q => q)
theorem c_M_tick (l : Launch) (ad : Nat → Nat) (D : va_G) (cA : Nat → ClassId) : qT l ad D cA y_M_tick (Cond.code y_M_tick b_M_tick 4 (none) :: lw_g) rm_M_tick pre_M_tick post_M_tick pst_M_tick := by
  refine qT_of (own := R_M) (by decide) rfl ?_ ?_
  · intro av σ h; unfold pre_M_tick at h; split at h
    · simp [qen]
    · exact h.elim
  · intro WW QR QT S Q Th av σ hav hσ h hq ht; unfold pre_M_tick at h; split at h
    next o a1 a2 =>
      obtain ⟨rfl, h⟩ := h
      exact w_M_tick S Q Th a1 a2 σ (hav _ (List.mem_of_getElem? (i := 1) rfl)) (hav _ (List.mem_of_getElem? (i := 2) rfl)) hσ h (fun σ' h' => hq _ σ' h') (fun t σ' h' => ht t σ' h')
    next => exact h.elim

