def P_D_in (_v _lo _hi : Int) (_σ : qS) : Prop := True
def Q_D_in (v lo hi : Int) (σ : qS) (r : Int) (σ' : qS) : Prop := σ' = σ ∧ r = if lo ≤ v ∧ v ≤ hi then 1 else 0
def pre_D_in (av : List qA) (σ : qS) : Prop := match av with
  | [.inl a1, .inl a2, .inl a3] => P_D_in a1 a2 a3 σ
  | _ => False
def post_D_in (av : List qA) (σ : qS) (r : Option qA) (σ' : qS) : Prop := match av, r with
  | [.inl a1, .inl a2, .inl a3], some (.inl r) => Q_D_in a1 a2 a3 σ r σ'
  | _, _ => False
def oc_D_in (K : qP) : qP := fun st ls σ => match st with
  | .inl a3 :: .inl a2 :: .inl a1 :: st => (st.map qcat).sum ≤ 8 ∧ P_D_in a1 a2 a3 σ ∧ ∀ (r : Int) (σ' : qS), Q_D_in a1 a2 a3 σ r σ' → K (.inl r :: st) ls σ'
  | _ => False
def rm_D_in : Room := { frames := 0, cells := 0, slots := 0, locals := 0 }
def k_D_in_15 (QR : Option qA → qS → Prop) (H : Nat → qP) : qP :=
  o_rz QR
def k_D_in_14 (QR : Option qA → qS → Prop) (H : Nat → qP) : qP :=
  o_c (.inl 0) <| k_D_in_15 QR H
def k_D_in_10 (QR : Option qA → qS → Prop) (H : Nat → qP) : qP :=
  o_c (.inl 1) <| k_D_in_15 QR H
def k_D_in_5 (QR : Option qA → qS → Prop) (H : Nat → qP) : qP :=
  o_il 0 <| o_il 2 <| o_i2 (fun a b => b < a) (k_D_in_14 QR H) (k_D_in_10 QR H)
def k_D_in_0 (QR : Option qA → qS → Prop) (H : Nat → qP) : qP :=
  o_il 0 <| o_il 1 <| o_i2 (fun a b => a < b) (k_D_in_14 QR H) (k_D_in_5 QR H)
set_option maxRecDepth 8000 in
theorem s_D_in_15 {l : Launch} {ad : Nat → Nat} {D : va_G} {cA : Nat → ClassId} {WW : Nat → qP} {QR : Option qA → qS → Prop} (S : qSnd l rm_D_in ad D cA R_D b_D_in 3 WW) (Q : qRet (some .boolean) b_D_in WW QR) : qle (k_D_in_15 QR WW) WW 15 :=
  Q.2.1 rfl _ d_D_in_15
set_option maxRecDepth 8000 in
theorem s_D_in_14 {l : Launch} {ad : Nat → Nat} {D : va_G} {cA : Nat → ClassId} {WW : Nat → qP} {QR : Option qA → qS → Prop} (S : qSnd l rm_D_in ad D cA R_D b_D_in 3 WW) (Q : qRet (some .boolean) b_D_in WW QR) : qle (k_D_in_14 QR WW) WW 14 :=
  S.iconst d_D_in_14 (by decide) <| (s_D_in_15 S Q)
set_option maxRecDepth 8000 in
theorem s_D_in_10 {l : Launch} {ad : Nat → Nat} {D : va_G} {cA : Nat → ClassId} {WW : Nat → qP} {QR : Option qA → qS → Prop} (S : qSnd l rm_D_in ad D cA R_D b_D_in 3 WW) (Q : qRet (some .boolean) b_D_in WW QR) : qle (k_D_in_10 QR WW) WW 10 :=
  S.iconst d_D_in_10 (by decide) <| S.goto d_D_in_11 (by decide) (s_D_in_15 S Q)
set_option maxRecDepth 8000 in
theorem s_D_in_5 {l : Launch} {ad : Nat → Nat} {D : va_G} {cA : Nat → ClassId} {WW : Nat → qP} {QR : Option qA → qS → Prop} (S : qSnd l rm_D_in ad D cA R_D b_D_in 3 WW) (Q : qRet (some .boolean) b_D_in WW QR) : qle (k_D_in_5 QR WW) WW 5 :=
  S.iload_n d_D_in_5 rfl <| S.iload_n d_D_in_6 rfl <| S.icmp_gt d_D_in_7 (by decide) (s_D_in_14 S Q) (s_D_in_10 S Q)
set_option maxRecDepth 8000 in
theorem s_D_in_0 {l : Launch} {ad : Nat → Nat} {D : va_G} {cA : Nat → ClassId} {WW : Nat → qP} {QR : Option qA → qS → Prop} (S : qSnd l rm_D_in ad D cA R_D b_D_in 3 WW) (Q : qRet (some .boolean) b_D_in WW QR) : qle (k_D_in_0 QR WW) WW 0 :=
  S.iload_n d_D_in_0 rfl <| S.iload_n d_D_in_1 rfl <| S.icmp_lt d_D_in_2 (by decide) (s_D_in_14 S Q) (s_D_in_5 S Q)
theorem w_D_in {l : Launch} {ad : Nat → Nat} {D : va_G} {cA : Nat → ClassId} {WW : Nat → qP} {QR : Option qA → qS → Prop} (S : qSnd l rm_D_in ad D cA R_D b_D_in 3 WW) (Q : qRet (some .boolean) b_D_in WW QR) (a1 : Int) (a2 : Int) (a3 : Int) (σ : qS) (ha1 : r32 a1) (ha2 : r32 a2) (ha3 : r32 a3) (hσ : qoS σ) (h : P_D_in a1 a2 a3 σ) (hq : ∀ (r : Int) σ', Q_D_in a1 a2 a3 σ r σ' → QR (some (.inl r)) σ') : WW 0 [] [some (.inl a1), some (.inl a2), some (.inl a3)] σ := by
  refine s_D_in_0 S Q _ _ _ ?_
  simp only [k_D_in_0, k_D_in_5, k_D_in_10, k_D_in_14, k_D_in_15, o_c, o_il, o_ll, o_al, o_is, o_as, o_ls, o_inc, o_bi, o_bid, o_bl, o_bld, o_sl, o_i2l, o_l2i, o_dup, o_dup2, o_pop, o_pop2, o_if, o_i2, o_l2, swg, o_sw, o_gI, o_gZ, o_gJ, o_gA, o_gR, o_pI, o_pZ, o_pJ, o_pR, o_ia, o_iak, o_zak, o_ja, o_jak, o_is_, o_isk, o_zsk, o_js_, o_jsk, o_len, o_ri, o_rz, o_rl, o_rv, ls1, ls2, lks, lkj, List.getD_cons_zero, List.getD_cons_succ, List.set_cons_zero, List.set_cons_succ, qcat, true_and, and_true, List.map_nil, List.map_cons, List.sum_nil, List.sum_cons, Nat.reduceAdd, Nat.reduceLeDiff, Nat.zero_le, Int.reduceAdd, Int.reduceNeg, Int.reduceEq, or_true, true_or, Decidable.not_not, false_implies, not_false_eq_true, true_implies, not_true_eq_false, Int.reduceLT, Int.reduceLE]
  refine ⟨fun h1 => hq _ _ ⟨rfl, by rw [if_neg (by omega)]⟩, fun h1 => ⟨fun h2 => ?_, fun h2 => ?_⟩⟩
  · first | exact hq _ _ ⟨rfl, by rw [if_neg (by omega)]⟩ | exact hq _ _ ⟨rfl, by rw [if_pos (by omega)]⟩
  · first | exact hq _ _ ⟨rfl, by rw [if_pos (by omega)]⟩ | exact hq _ _ ⟨rfl, by rw [if_neg (by omega)]⟩
theorem c_D_in (l : Launch) (ad : Nat → Nat) (D : va_G) (cA : Nat → ClassId) : qC l ad D cA y_D_in (Cond.code y_D_in b_D_in 3 (some .boolean) :: lw_g) rm_D_in pre_D_in post_D_in := by
  refine qC_of (own := R_D) (by decide) rfl ⟨rfl, rfl⟩ ?_ ?_
  · intro av σ h; unfold pre_D_in at h; split at h
    · simp [qen]
    · exact h.elim
  · intro WW QR S Q av σ hav hσ h hq; unfold pre_D_in at h; split at h
    next a1 a2 a3 =>
      exact w_D_in S Q a1 a2 a3 σ (hav _ (List.mem_of_getElem? (i := 0) rfl)) (hav _ (List.mem_of_getElem? (i := 1) rfl)) (hav _ (List.mem_of_getElem? (i := 2) rfl)) hσ h (fun r σ' h' => hq _ σ' h')
    next => exact h.elim
theorem dinC {v lo hi : Int} {σ : qS} {A B : qS → Prop} (h1 : lo ≤ v ∧ v ≤ hi → B σ) (h2 : ¬ (lo ≤ v ∧ v ≤ hi) → A σ) : P_D_in v lo hi σ ∧ ∀ r σ1, Q_D_in v lo hi σ r σ1 → (r = 0 → A σ1) ∧ (¬ r = 0 → B σ1) := by
  refine ⟨trivial, fun r σ1 q1 => ?_⟩
  obtain ⟨e9, rfl⟩ := q1; replace e9 := e9.symm; subst e9
  by_cases hh : lo ≤ v ∧ v ≤ hi
  · rw [if_pos hh]; exact ⟨fun e => by omega, fun _ => h1 hh⟩
  · rw [if_neg hh]; exact ⟨fun _ => h2 hh, fun e => absurd rfl e⟩
theorem dinF {v lo hi : Int} {σ : qS} {A B : qS → Prop} (h1 : lo ≤ v ∧ v ≤ hi → B σ) (h2 : ¬ (lo ≤ v ∧ v ≤ hi) → A σ) : P_D_in v lo hi σ ∧ ∀ r σ1, Q_D_in v lo hi σ r σ1 → (¬ r = 0 → B σ1) ∧ (r = 0 → A σ1) := ⟨(dinC h1 h2).1, fun r σ1 q => ⟨((dinC h1 h2).2 r σ1 q).2, ((dinC h1 h2).2 r σ1 q).1⟩⟩
def P_D_thrown (_σ : qS) : Prop := True
def Q_D_thrown (σ : qS) (r : Int) (σ' : qS) : Prop := σ' = σ ∧ r = σ 118 0
def pre_D_thrown (av : List qA) (σ : qS) : Prop := match av with
  | [.inr (.inr o)] => o = 901 ∧ P_D_thrown  σ
  | _ => False
def post_D_thrown (av : List qA) (σ : qS) (r : Option qA) (σ' : qS) : Prop := match av, r with
  | [_], some (.inl r) => Q_D_thrown  σ r σ'
  | _, _ => False
def oc_D_thrown (K : qP) : qP := fun st ls σ => match st with
  | .inr (.inr o) :: st => o = 901 ∧ (st.map qcat).sum ≤ 8 ∧ P_D_thrown  σ ∧ ∀ (r : Int) (σ' : qS), Q_D_thrown  σ r σ' → K (.inl r :: st) ls σ'
  | _ => False
def rm_D_thrown : Room := { frames := 0, cells := 0, slots := 0, locals := 0 }
theorem fl_D_87 : qF R_D 901 1 32 100 R_D F_D 87 18 := ⟨Or.inr ⟨rfl, rfl, rfl, rfl, rfl, rfl⟩, by decide, lw_at 807 (by decide +kernel) rfl⟩
def k_D_thrown_0 (QR : Option qA → qS → Prop) (H : Nat → qP) : qP :=
  o_al 0 <| o_gI 901 118 <| o_ri QR
set_option maxRecDepth 8000 in
theorem s_D_thrown_0 {l : Launch} {ad : Nat → Nat} {D : va_G} {cA : Nat → ClassId} {WW : Nat → qP} {QR : Option qA → qS → Prop} (S : qSnd l rm_D_thrown ad D cA R_D b_D_thrown 1 WW) (Q : qRet (some .int) b_D_thrown WW QR) : qle (k_D_thrown_0 QR WW) WW 0 :=
  S.aload_n d_D_thrown_0 rfl <| S.gI fl_D_87 (by decide) d_D_thrown_1 <| Q.1 rfl _ d_D_thrown_4
theorem w_D_thrown {l : Launch} {ad : Nat → Nat} {D : va_G} {cA : Nat → ClassId} {WW : Nat → qP} {QR : Option qA → qS → Prop} (S : qSnd l rm_D_thrown ad D cA R_D b_D_thrown 1 WW) (Q : qRet (some .int) b_D_thrown WW QR)  (σ : qS)  (hσ : qoS σ) (h : P_D_thrown  σ) (hq : ∀ (r : Int) σ', Q_D_thrown  σ r σ' → QR (some (.inl r)) σ') : WW 0 [] [some (.inr (.inr 901))] σ := by
  refine s_D_thrown_0 S Q _ _ _ ?_
  simp only [k_D_thrown_0, o_c, o_il, o_ll, o_al, o_is, o_as, o_ls, o_inc, o_bi, o_bid, o_bl, o_bld, o_sl, o_i2l, o_l2i, o_dup, o_dup2, o_pop, o_pop2, o_if, o_i2, o_l2, swg, o_sw, o_gI, o_gZ, o_gJ, o_gA, o_gR, o_pI, o_pZ, o_pJ, o_pR, o_ia, o_iak, o_zak, o_ja, o_jak, o_is_, o_isk, o_zsk, o_js_, o_jsk, o_len, o_ri, o_rz, o_rl, o_rv, ls1, ls2, lks, lkj, List.getD_cons_zero, List.getD_cons_succ, List.set_cons_zero, List.set_cons_succ, qcat, true_and, and_true, List.map_nil, List.map_cons, List.sum_nil, List.sum_cons, Nat.reduceAdd, Nat.reduceLeDiff, Nat.zero_le, Int.reduceAdd, Int.reduceNeg, Int.reduceEq, or_true, true_or, Decidable.not_not, false_implies, not_false_eq_true, true_implies, not_true_eq_false, Int.reduceLT, Int.reduceLE]
  exact hq _ _ ⟨rfl, rfl⟩
theorem c_D_thrown (l : Launch) (ad : Nat → Nat) (D : va_G) (cA : Nat → ClassId) : qC l ad D cA y_D_thrown (Cond.code y_D_thrown b_D_thrown 1 (some .int) :: lw_g) rm_D_thrown pre_D_thrown post_D_thrown := by
  refine qC_of (own := R_D) (by decide) rfl ⟨rfl, rfl⟩ ?_ ?_
  · intro av σ h; unfold pre_D_thrown at h; split at h
    · simp [qen]
    · exact h.elim
  · intro WW QR S Q av σ hav hσ h hq; unfold pre_D_thrown at h; split at h
    next o =>
      obtain ⟨rfl, h⟩ := h
      exact w_D_thrown S Q  σ  hσ h (fun r σ' h' => hq _ σ' h')
    next => exact h.elim
def P_D_isInput (j _f : Int) (_σ : qS) : Prop := 0 ≤ j ∧ j < 8
def Q_D_isInput (j f : Int) (σ : qS) (r : Int) (σ' : qS) : Prop := σ' = σ ∧ r = if σ 108 j = f ∨ σ 109 j = f then 1 else 0
def pre_D_isInput (av : List qA) (σ : qS) : Prop := match av with
  | [.inr (.inr o), .inl a1, .inl a2] => o = 901 ∧ P_D_isInput a1 a2 σ
  | _ => False
def post_D_isInput (av : List qA) (σ : qS) (r : Option qA) (σ' : qS) : Prop := match av, r with
  | [_, .inl a1, .inl a2], some (.inl r) => Q_D_isInput a1 a2 σ r σ'
  | _, _ => False
def oc_D_isInput (K : qP) : qP := fun st ls σ => match st with
  | .inl a2 :: .inl a1 :: .inr (.inr o) :: st => o = 901 ∧ (st.map qcat).sum ≤ 8 ∧ P_D_isInput a1 a2 σ ∧ ∀ (r : Int) (σ' : qS), Q_D_isInput a1 a2 σ r σ' → K (.inl r :: st) ls σ'
  | _ => False
def rm_D_isInput : Room := { frames := 0, cells := 0, slots := 0, locals := 0 }
theorem fl_D_35 : qF R_D 901 1 32 100 R_D F_D 35 8 := ⟨Or.inr ⟨rfl, rfl, rfl, rfl, rfl, rfl⟩, by decide, lw_at 797 (by decide +kernel) rfl⟩
theorem fl_D_38 : qF R_D 901 1 32 100 R_D F_D 38 9 := ⟨Or.inr ⟨rfl, rfl, rfl, rfl, rfl, rfl⟩, by decide, lw_at 798 (by decide +kernel) rfl⟩
def k_D_isInput_25 (QR : Option qA → qS → Prop) (H : Nat → qP) : qP :=
  o_rz QR
def k_D_isInput_24 (QR : Option qA → qS → Prop) (H : Nat → qP) : qP :=
  o_c (.inl 0) <| k_D_isInput_25 QR H
def k_D_isInput_20 (QR : Option qA → qS → Prop) (H : Nat → qP) : qP :=
  o_c (.inl 1) <| k_D_isInput_25 QR H
def k_D_isInput_10 (QR : Option qA → qS → Prop) (H : Nat → qP) : qP :=
  o_al 0 <| o_gA 901 109 <| o_il 1 <| o_iak 109 8 <| o_il 2 <| o_i2 (fun a b => ¬ a = b) (k_D_isInput_24 QR H) (k_D_isInput_20 QR H)
def k_D_isInput_0 (QR : Option qA → qS → Prop) (H : Nat → qP) : qP :=
  o_al 0 <| o_gA 901 108 <| o_il 1 <| o_iak 108 8 <| o_il 2 <| o_i2 (fun a b => a = b) (k_D_isInput_20 QR H) (k_D_isInput_10 QR H)
set_option maxRecDepth 8000 in
theorem s_D_isInput_25 {l : Launch} {ad : Nat → Nat} {D : va_G} {cA : Nat → ClassId} {WW : Nat → qP} {QR : Option qA → qS → Prop} (S : qSnd l rm_D_isInput ad D cA R_D b_D_isInput 3 WW) (Q : qRet (some .boolean) b_D_isInput WW QR) : qle (k_D_isInput_25 QR WW) WW 25 :=
  Q.2.1 rfl _ d_D_isInput_25
set_option maxRecDepth 8000 in
theorem s_D_isInput_24 {l : Launch} {ad : Nat → Nat} {D : va_G} {cA : Nat → ClassId} {WW : Nat → qP} {QR : Option qA → qS → Prop} (S : qSnd l rm_D_isInput ad D cA R_D b_D_isInput 3 WW) (Q : qRet (some .boolean) b_D_isInput WW QR) : qle (k_D_isInput_24 QR WW) WW 24 :=
  S.iconst d_D_isInput_24 (by decide) <| (s_D_isInput_25 S Q)
set_option maxRecDepth 8000 in
theorem s_D_isInput_20 {l : Launch} {ad : Nat → Nat} {D : va_G} {cA : Nat → ClassId} {WW : Nat → qP} {QR : Option qA → qS → Prop} (S : qSnd l rm_D_isInput ad D cA R_D b_D_isInput 3 WW) (Q : qRet (some .boolean) b_D_isInput WW QR) : qle (k_D_isInput_20 QR WW) WW 20 :=
  S.iconst d_D_isInput_20 (by decide) <| S.goto d_D_isInput_21 (by decide) (s_D_isInput_25 S Q)
set_option maxRecDepth 8000 in
theorem s_D_isInput_10 {l : Launch} {ad : Nat → Nat} {D : va_G} {cA : Nat → ClassId} {WW : Nat → qP} {QR : Option qA → qS → Prop} (S : qSnd l rm_D_isInput ad D cA R_D b_D_isInput 3 WW) (Q : qRet (some .boolean) b_D_isInput WW QR) : qle (k_D_isInput_10 QR WW) WW 10 :=
  S.aload_n d_D_isInput_10 rfl <| S.gA fl_D_38 (by decide) d_D_isInput_11 <| S.iload_n d_D_isInput_14 rfl <| S.iak (by decide) d_D_isInput_15 <| S.iload_n d_D_isInput_16 rfl <| S.icmp_ne d_D_isInput_17 (by decide) (s_D_isInput_24 S Q) (s_D_isInput_20 S Q)
set_option maxRecDepth 8000 in
theorem s_D_isInput_0 {l : Launch} {ad : Nat → Nat} {D : va_G} {cA : Nat → ClassId} {WW : Nat → qP} {QR : Option qA → qS → Prop} (S : qSnd l rm_D_isInput ad D cA R_D b_D_isInput 3 WW) (Q : qRet (some .boolean) b_D_isInput WW QR) : qle (k_D_isInput_0 QR WW) WW 0 :=
  S.aload_n d_D_isInput_0 rfl <| S.gA fl_D_35 (by decide) d_D_isInput_1 <| S.iload_n d_D_isInput_4 rfl <| S.iak (by decide) d_D_isInput_5 <| S.iload_n d_D_isInput_6 rfl <| S.icmp_eq d_D_isInput_7 (by decide) (s_D_isInput_20 S Q) (s_D_isInput_10 S Q)
theorem w_D_isInput {l : Launch} {ad : Nat → Nat} {D : va_G} {cA : Nat → ClassId} {WW : Nat → qP} {QR : Option qA → qS → Prop} (S : qSnd l rm_D_isInput ad D cA R_D b_D_isInput 3 WW) (Q : qRet (some .boolean) b_D_isInput WW QR) (a1 : Int) (a2 : Int) (σ : qS) (ha1 : r32 a1) (ha2 : r32 a2) (hσ : qoS σ) (h : P_D_isInput a1 a2 σ) (hq : ∀ (r : Int) σ', Q_D_isInput a1 a2 σ r σ' → QR (some (.inl r)) σ') : WW 0 [] [some (.inr (.inr 901)), some (.inl a1), some (.inl a2)] σ := by
  refine s_D_isInput_0 S Q _ _ _ ?_
  simp only [k_D_isInput_0, k_D_isInput_10, k_D_isInput_20, k_D_isInput_24, k_D_isInput_25, o_c, o_il, o_ll, o_al, o_is, o_as, o_ls, o_inc, o_bi, o_bid, o_bl, o_bld, o_sl, o_i2l, o_l2i, o_dup, o_dup2, o_pop, o_pop2, o_if, o_i2, o_l2, swg, o_sw, o_gI, o_gZ, o_gJ, o_gA, o_gR, o_pI, o_pZ, o_pJ, o_pR, o_ia, o_iak, o_zak, o_ja, o_jak, o_is_, o_isk, o_zsk, o_js_, o_jsk, o_len, o_ri, o_rz, o_rl, o_rv, ls1, ls2, lks, lkj, List.getD_cons_zero, List.getD_cons_succ, List.set_cons_zero, List.set_cons_succ, qcat, true_and, and_true, List.map_nil, List.map_cons, List.sum_nil, List.sum_cons, Nat.reduceAdd, Nat.reduceLeDiff, Nat.zero_le, Int.reduceAdd, Int.reduceNeg, Int.reduceEq, or_true, true_or, Decidable.not_not, false_implies, not_false_eq_true, true_implies, not_true_eq_false, Int.reduceLT, Int.reduceLE]
  have h' : 0 ≤ a1 ∧ a1 < 8 := h
  exact ⟨h', fun e => hq _ _ ⟨rfl, by rw [if_pos (Or.inl e)]⟩, fun n => ⟨h', fun n2 => hq _ _ ⟨rfl, by rw [if_neg (fun x => x.elim n n2)]⟩, fun e => hq _ _ ⟨rfl, by rw [if_pos (Or.inr e)]⟩⟩⟩
theorem c_D_isInput (l : Launch) (ad : Nat → Nat) (D : va_G) (cA : Nat → ClassId) : qC l ad D cA y_D_isInput (Cond.code y_D_isInput b_D_isInput 3 (some .boolean) :: lw_g) rm_D_isInput pre_D_isInput post_D_isInput := by
  refine qC_of (own := R_D) (by decide) rfl ⟨rfl, rfl⟩ ?_ ?_
  · intro av σ h; unfold pre_D_isInput at h; split at h
    · simp [qen]
    · exact h.elim
  · intro WW QR S Q av σ hav hσ h hq; unfold pre_D_isInput at h; split at h
    next o a1 a2 =>
      obtain ⟨rfl, h⟩ := h
      exact w_D_isInput S Q a1 a2 σ (hav _ (List.mem_of_getElem? (i := 1) rfl)) (hav _ (List.mem_of_getElem? (i := 2) rfl)) hσ h (fun r σ' h' => hq _ σ' h')
    next => exact h.elim
def P_D_check (_σ : qS) : Prop := True
def Q_D_check (σ : qS) (r : Int) (σ' : qS) : Prop := σ' = su σ 118 0 0 ∧ r = 0
def pre_D_check (av : List qA) (σ : qS) : Prop := match av with
  | [.inr (.inr o)] => o = 901 ∧ P_D_check  σ
  | _ => False
def post_D_check (av : List qA) (σ : qS) (r : Option qA) (σ' : qS) : Prop := match av, r with
  | [_], some (.inl r) => Q_D_check  σ r σ'
  | _, _ => False
def oc_D_check (K : qP) : qP := fun st ls σ => match st with
  | .inr (.inr o) :: st => o = 901 ∧ (st.map qcat).sum ≤ 8 ∧ P_D_check  σ ∧ ∀ (r : Int) (σ' : qS), Q_D_check  σ r σ' → K (.inl r :: st) ls σ'
  | _ => False
def rm_D_check : Room := { frames := 0, cells := 0, slots := 0, locals := 0 }
def k_D_check_0 (QR : Option qA → qS → Prop) (H : Nat → qP) : qP :=
  o_al 0 <| o_c (.inl 0) <| o_pI 901 118 <| o_c (.inl 0) <| o_ri QR
set_option maxRecDepth 8000 in
theorem s_D_check_0 {l : Launch} {ad : Nat → Nat} {D : va_G} {cA : Nat → ClassId} {WW : Nat → qP} {QR : Option qA → qS → Prop} (S : qSnd l rm_D_check ad D cA R_D b_D_check 1 WW) (Q : qRet (some .int) b_D_check WW QR) : qle (k_D_check_0 QR WW) WW 0 :=
  S.aload_n d_D_check_0 rfl <| S.iconst d_D_check_1 (by decide) <| S.pI fl_D_87 (by decide) (by decide +kernel) d_D_check_2 <| S.iconst d_D_check_5 (by decide) <| Q.1 rfl _ d_D_check_6
theorem w_D_check {l : Launch} {ad : Nat → Nat} {D : va_G} {cA : Nat → ClassId} {WW : Nat → qP} {QR : Option qA → qS → Prop} (S : qSnd l rm_D_check ad D cA R_D b_D_check 1 WW) (Q : qRet (some .int) b_D_check WW QR)  (σ : qS)  (hσ : qoS σ) (h : P_D_check  σ) (hq : ∀ (r : Int) σ', Q_D_check  σ r σ' → QR (some (.inl r)) σ') : WW 0 [] [some (.inr (.inr 901))] σ := by
  refine s_D_check_0 S Q _ _ _ ?_
  simp only [k_D_check_0, o_c, o_il, o_ll, o_al, o_is, o_as, o_ls, o_inc, o_bi, o_bid, o_bl, o_bld, o_sl, o_i2l, o_l2i, o_dup, o_dup2, o_pop, o_pop2, o_if, o_i2, o_l2, swg, o_sw, o_gI, o_gZ, o_gJ, o_gA, o_gR, o_pI, o_pZ, o_pJ, o_pR, o_ia, o_iak, o_zak, o_ja, o_jak, o_is_, o_isk, o_zsk, o_js_, o_jsk, o_len, o_ri, o_rz, o_rl, o_rv, ls1, ls2, lks, lkj, List.getD_cons_zero, List.getD_cons_succ, List.set_cons_zero, List.set_cons_succ, qcat, true_and, and_true, List.map_nil, List.map_cons, List.sum_nil, List.sum_cons, Nat.reduceAdd, Nat.reduceLeDiff, Nat.zero_le, Int.reduceAdd, Int.reduceNeg, Int.reduceEq, or_true, true_or, Decidable.not_not, false_implies, not_false_eq_true, true_implies, not_true_eq_false, Int.reduceLT, Int.reduceLE]
  exact hq _ _ ⟨rfl, rfl⟩
theorem c_D_check (l : Launch) (ad : Nat → Nat) (D : va_G) (cA : Nat → ClassId) : qC l ad D cA y_D_check (Cond.code y_D_check b_D_check 1 (some .int) :: lw_g) rm_D_check pre_D_check post_D_check := by
  refine qC_of (own := R_D) (by decide) rfl ⟨rfl, rfl⟩ ?_ ?_
  · intro av σ h; unfold pre_D_check at h; split at h
    · simp [qen]
    · exact h.elim
  · intro WW QR S Q av σ hav hσ h hq; unfold pre_D_check at h; split at h
    next o =>
      obtain ⟨rfl, h⟩ := h
      exact w_D_check S Q  σ  hσ h (fun r σ' h' => hq _ σ' h')
    next => exact h.elim
def P_D_line (_a _b : Int) (_σ : qS) : Prop := True
def Q_D_line (_a _b : Int) (σ σ' : qS) : Prop := σ' = su σ 118 0 (if σ 119 0 = 0 then 1 else 0)
def pre_D_line (av : List qA) (σ : qS) : Prop := match av with
  | [.inr (.inr o), .inl a1, .inl a2] => o = 901 ∧ P_D_line a1 a2 σ
  | _ => False
def post_D_line (av : List qA) (σ : qS) (r : Option qA) (σ' : qS) : Prop := match av, r with
  | [_, .inl a1, .inl a2], none => Q_D_line a1 a2 σ σ'
  | _, _ => False
def oc_D_line (K : qP) : qP := fun st ls σ => match st with
  | .inl a2 :: .inl a1 :: .inr (.inr o) :: st => o = 901 ∧ (st.map qcat).sum ≤ 8 ∧ P_D_line a1 a2 σ ∧ ∀ (σ' : qS), Q_D_line a1 a2 σ σ' → K st ls σ'
  | _ => False
def rm_D_line : Room := { frames := 0, cells := 0, slots := 0, locals := 0 }
theorem fl_D_139 : qF R_D 901 1 32 100 R_D F_D 139 19 := ⟨Or.inr ⟨rfl, rfl, rfl, rfl, rfl, rfl⟩, by decide, lw_at 808 (by decide +kernel) rfl⟩
def k_D_line_13 (QR : Option qA → qS → Prop) (H : Nat → qP) : qP :=
  o_pI 901 118 <| o_rv QR
def k_D_line_12 (QR : Option qA → qS → Prop) (H : Nat → qP) : qP :=
  o_c (.inl 1) <| k_D_line_13 QR H
def k_D_line_8 (QR : Option qA → qS → Prop) (H : Nat → qP) : qP :=
  o_c (.inl 0) <| k_D_line_13 QR H
def k_D_line_0 (QR : Option qA → qS → Prop) (H : Nat → qP) : qP :=
  o_al 0 <| o_al 0 <| o_gZ 901 119 <| o_if (fun a => a = 0) (k_D_line_12 QR H) (k_D_line_8 QR H)
set_option maxRecDepth 8000 in
theorem s_D_line_13 {l : Launch} {ad : Nat → Nat} {D : va_G} {cA : Nat → ClassId} {WW : Nat → qP} {QR : Option qA → qS → Prop} (S : qSnd l rm_D_line ad D cA R_D b_D_line 3 WW) (Q : qRet (none) b_D_line WW QR) : qle (k_D_line_13 QR WW) WW 13 :=
  S.pI fl_D_87 (by decide) (by decide +kernel) d_D_line_13 <| Q.2.2.2 rfl _ d_D_line_16
set_option maxRecDepth 8000 in
theorem s_D_line_12 {l : Launch} {ad : Nat → Nat} {D : va_G} {cA : Nat → ClassId} {WW : Nat → qP} {QR : Option qA → qS → Prop} (S : qSnd l rm_D_line ad D cA R_D b_D_line 3 WW) (Q : qRet (none) b_D_line WW QR) : qle (k_D_line_12 QR WW) WW 12 :=
  S.iconst d_D_line_12 (by decide) <| (s_D_line_13 S Q)
set_option maxRecDepth 8000 in
theorem s_D_line_8 {l : Launch} {ad : Nat → Nat} {D : va_G} {cA : Nat → ClassId} {WW : Nat → qP} {QR : Option qA → qS → Prop} (S : qSnd l rm_D_line ad D cA R_D b_D_line 3 WW) (Q : qRet (none) b_D_line WW QR) : qle (k_D_line_8 QR WW) WW 8 :=
  S.iconst d_D_line_8 (by decide) <| S.goto d_D_line_9 (by decide) (s_D_line_13 S Q)
set_option maxRecDepth 8000 in
theorem s_D_line_0 {l : Launch} {ad : Nat → Nat} {D : va_G} {cA : Nat → ClassId} {WW : Nat → qP} {QR : Option qA → qS → Prop} (S : qSnd l rm_D_line ad D cA R_D b_D_line 3 WW) (Q : qRet (none) b_D_line WW QR) : qle (k_D_line_0 QR WW) WW 0 :=
  S.aload_n d_D_line_0 rfl <| S.aload_n d_D_line_1 rfl <| S.gZ fl_D_139 (by decide) d_D_line_2 <| S.if_eq d_D_line_5 (by decide) (s_D_line_12 S Q) (s_D_line_8 S Q)
theorem w_D_line {l : Launch} {ad : Nat → Nat} {D : va_G} {cA : Nat → ClassId} {WW : Nat → qP} {QR : Option qA → qS → Prop} (S : qSnd l rm_D_line ad D cA R_D b_D_line 3 WW) (Q : qRet (none) b_D_line WW QR) (a1 : Int) (a2 : Int) (σ : qS) (ha1 : r32 a1) (ha2 : r32 a2) (hσ : qoS σ) (h : P_D_line a1 a2 σ) (hq : ∀ σ', Q_D_line a1 a2 σ σ' → QR none σ') : WW 0 [] [some (.inr (.inr 901)), some (.inl a1), some (.inl a2)] σ := by
  refine s_D_line_0 S Q _ _ _ ?_
  simp only [k_D_line_0, k_D_line_8, k_D_line_12, k_D_line_13, o_c, o_il, o_ll, o_al, o_is, o_as, o_ls, o_inc, o_bi, o_bid, o_bl, o_bld, o_sl, o_i2l, o_l2i, o_dup, o_dup2, o_pop, o_pop2, o_if, o_i2, o_l2, swg, o_sw, o_gI, o_gZ, o_gJ, o_gA, o_gR, o_pI, o_pZ, o_pJ, o_pR, o_ia, o_iak, o_zak, o_ja, o_jak, o_is_, o_isk, o_zsk, o_js_, o_jsk, o_len, o_ri, o_rz, o_rl, o_rv, ls1, ls2, lks, lkj, List.getD_cons_zero, List.getD_cons_succ, List.set_cons_zero, List.set_cons_succ, qcat, true_and, and_true, List.map_nil, List.map_cons, List.sum_nil, List.sum_cons, Nat.reduceAdd, Nat.reduceLeDiff, Nat.zero_le, Int.reduceAdd, Int.reduceNeg, Int.reduceEq, or_true, true_or, Decidable.not_not, false_implies, not_false_eq_true, true_implies, not_true_eq_false, Int.reduceLT, Int.reduceLE]
  unfold Q_D_line at hq
  exact fun _ => ⟨fun e => hq _ (by rw [if_pos e]), fun e => hq _ (by rw [if_neg e])⟩
theorem c_D_line (l : Launch) (ad : Nat → Nat) (D : va_G) (cA : Nat → ClassId) : qC l ad D cA y_D_line (Cond.code y_D_line b_D_line 3 (none) :: lw_g) rm_D_line pre_D_line post_D_line := by
  refine qC_of (own := R_D) (by decide) rfl ⟨rfl, rfl⟩ ?_ ?_
  · intro av σ h; unfold pre_D_line at h; split at h
    · simp [qen]
    · exact h.elim
  · intro WW QR S Q av σ hav hσ h hq; unfold pre_D_line at h; split at h
    next o a1 a2 =>
      obtain ⟨rfl, h⟩ := h
      exact w_D_line S Q a1 a2 σ (hav _ (List.mem_of_getElem? (i := 1) rfl)) (hav _ (List.mem_of_getElem? (i := 2) rfl)) hσ h (fun σ' h' => hq _ σ' h')
    next => exact h.elim
def tcr (σ : qS) (w : Int) : Int := if ¬ (0 ≤ w ∧ w ≤ 6) then 1 else if σ 119 0 = 0 then 2 else 0
def P_D_crash (_w : Int) (_σ : qS) : Prop := True
def Q_D_crash (w : Int) (σ σ' : qS) : Prop := σ' = su σ 118 0 (tcr σ w)
def pre_D_crash (av : List qA) (σ : qS) : Prop := match av with
  | [.inr (.inr o), .inl a1] => o = 901 ∧ P_D_crash a1 σ
  | _ => False
def post_D_crash (av : List qA) (σ : qS) (r : Option qA) (σ' : qS) : Prop := match av, r with
  | [_, .inl a1], none => Q_D_crash a1 σ σ'
  | _, _ => False
def oc_D_crash (K : qP) : qP := fun st ls σ => match st with
  | .inl a1 :: .inr (.inr o) :: st => o = 901 ∧ (st.map qcat).sum ≤ 8 ∧ P_D_crash a1 σ ∧ ∀ (σ' : qS), Q_D_crash a1 σ σ' → K st ls σ'
  | _ => False
def rm_D_crash : Room := { frames := 1, cells := 0, slots := 0, locals := 22 }
theorem sc_D_136 {l : Launch} {R : Room} {ad : Nat → Nat} {D : va_G} {cA : Nat → ClassId} {cc : ByteArray} {nL : Nat} {WW : Nat → qP} (S : qSnd l R ad D cA R_D cc nL WW) (hR : rm_D_in.frames + 1 ≤ R.frames ∧ 8 + (3 + 11) + rm_D_in.locals ≤ R.locals) {K : qP} {pc : Nat} (d : decode cc pc = .ok (.invokestatic 136, 3)) (h : qle K WW (pc + 3)) : qle (oc_D_in K) WW pc := by
  intro st ls σ k
  refine S.callS (n := 3) (pre := pre_D_in) (post := post_D_in) ⟨lw_at 896 (by decide +kernel) rfl, lw_at 894 (by decide +kernel) rfl, lw_at 60 (by decide +kernel) rfl, by decide, by decide, by decide +kernel⟩ (lw_at 895 (by decide +kernel) rfl) ⟨rfl, rfl⟩ hR (c_D_in l ad D cA) d h st ls σ ?_
  unfold oc_D_in at k
  split at k
  next a3 a2 a1 st =>
    obtain ⟨hs, hp, k⟩ := k
    refine ⟨[.inl a1, .inl a2, .inl a3], st, rfl, rfl, hs, hp, fun r σ' hq => ?_⟩
    unfold post_D_in at hq
    split at hq
    next h1 =>
      cases h1
      exact k _ _ hq
    next => exact hq.elim
  next => exact k.elim
def k_D_crash_27 (QR : Option qA → qS → Prop) (H : Nat → qP) : qP :=
  o_pI 901 118 <| o_rv QR
def k_D_crash_26 (QR : Option qA → qS → Prop) (H : Nat → qP) : qP :=
  o_c (.inl 0) <| k_D_crash_27 QR H
def k_D_crash_22 (QR : Option qA → qS → Prop) (H : Nat → qP) : qP :=
  o_c (.inl 2) <| k_D_crash_27 QR H
def k_D_crash_15 (QR : Option qA → qS → Prop) (H : Nat → qP) : qP :=
  o_al 0 <| o_gZ 901 119 <| o_if (fun a => ¬ a = 0) (k_D_crash_26 QR H) (k_D_crash_22 QR H)
def k_D_crash_11 (QR : Option qA → qS → Prop) (H : Nat → qP) : qP :=
  o_c (.inl 1) <| k_D_crash_27 QR H
def k_D_crash_0 (QR : Option qA → qS → Prop) (H : Nat → qP) : qP :=
  o_al 0 <| o_il 1 <| o_c (.inl 0) <| o_c (.inl 6) <| oc_D_in <| o_if (fun a => ¬ a = 0) (k_D_crash_15 QR H) (k_D_crash_11 QR H)
set_option maxRecDepth 8000 in
theorem s_D_crash_27 {l : Launch} {ad : Nat → Nat} {D : va_G} {cA : Nat → ClassId} {WW : Nat → qP} {QR : Option qA → qS → Prop} (S : qSnd l rm_D_crash ad D cA R_D b_D_crash 2 WW) (Q : qRet (none) b_D_crash WW QR) : qle (k_D_crash_27 QR WW) WW 27 :=
  S.pI fl_D_87 (by decide) (by decide +kernel) d_D_crash_27 <| Q.2.2.2 rfl _ d_D_crash_30
set_option maxRecDepth 8000 in
theorem s_D_crash_26 {l : Launch} {ad : Nat → Nat} {D : va_G} {cA : Nat → ClassId} {WW : Nat → qP} {QR : Option qA → qS → Prop} (S : qSnd l rm_D_crash ad D cA R_D b_D_crash 2 WW) (Q : qRet (none) b_D_crash WW QR) : qle (k_D_crash_26 QR WW) WW 26 :=
  S.iconst d_D_crash_26 (by decide) <| (s_D_crash_27 S Q)
set_option maxRecDepth 8000 in
theorem s_D_crash_22 {l : Launch} {ad : Nat → Nat} {D : va_G} {cA : Nat → ClassId} {WW : Nat → qP} {QR : Option qA → qS → Prop} (S : qSnd l rm_D_crash ad D cA R_D b_D_crash 2 WW) (Q : qRet (none) b_D_crash WW QR) : qle (k_D_crash_22 QR WW) WW 22 :=
  S.iconst d_D_crash_22 (by decide) <| S.goto d_D_crash_23 (by decide) (s_D_crash_27 S Q)
set_option maxRecDepth 8000 in
theorem s_D_crash_15 {l : Launch} {ad : Nat → Nat} {D : va_G} {cA : Nat → ClassId} {WW : Nat → qP} {QR : Option qA → qS → Prop} (S : qSnd l rm_D_crash ad D cA R_D b_D_crash 2 WW) (Q : qRet (none) b_D_crash WW QR) : qle (k_D_crash_15 QR WW) WW 15 :=
  S.aload_n d_D_crash_15 rfl <| S.gZ fl_D_139 (by decide) d_D_crash_16 <| S.if_ne d_D_crash_19 (by decide) (s_D_crash_26 S Q) (s_D_crash_22 S Q)
set_option maxRecDepth 8000 in
theorem s_D_crash_11 {l : Launch} {ad : Nat → Nat} {D : va_G} {cA : Nat → ClassId} {WW : Nat → qP} {QR : Option qA → qS → Prop} (S : qSnd l rm_D_crash ad D cA R_D b_D_crash 2 WW) (Q : qRet (none) b_D_crash WW QR) : qle (k_D_crash_11 QR WW) WW 11 :=
  S.iconst d_D_crash_11 (by decide) <| S.goto d_D_crash_12 (by decide) (s_D_crash_27 S Q)
set_option maxRecDepth 8000 in
theorem s_D_crash_0 {l : Launch} {ad : Nat → Nat} {D : va_G} {cA : Nat → ClassId} {WW : Nat → qP} {QR : Option qA → qS → Prop} (S : qSnd l rm_D_crash ad D cA R_D b_D_crash 2 WW) (Q : qRet (none) b_D_crash WW QR) : qle (k_D_crash_0 QR WW) WW 0 :=
  S.aload_n d_D_crash_0 rfl <| S.iload_n d_D_crash_1 rfl <| S.iconst d_D_crash_2 (by decide) <| S.bipush d_D_crash_3 (by decide) <| sc_D_136 S (by decide) d_D_crash_5 <| S.if_ne d_D_crash_8 (by decide) (s_D_crash_15 S Q) (s_D_crash_11 S Q)
theorem w_D_crash {l : Launch} {ad : Nat → Nat} {D : va_G} {cA : Nat → ClassId} {WW : Nat → qP} {QR : Option qA → qS → Prop} (S : qSnd l rm_D_crash ad D cA R_D b_D_crash 2 WW) (Q : qRet (none) b_D_crash WW QR) (a1 : Int) (σ : qS) (ha1 : r32 a1) (hσ : qoS σ) (h : P_D_crash a1 σ) (hq : ∀ σ', Q_D_crash a1 σ σ' → QR none σ') : WW 0 [] [some (.inr (.inr 901)), some (.inl a1)] σ := by
  refine s_D_crash_0 S Q _ _ _ ?_
  simp only [k_D_crash_0, k_D_crash_11, k_D_crash_15, k_D_crash_22, k_D_crash_26, k_D_crash_27, oc_D_in, o_c, o_il, o_ll, o_al, o_is, o_as, o_ls, o_inc, o_bi, o_bid, o_bl, o_bld, o_sl, o_i2l, o_l2i, o_dup, o_dup2, o_pop, o_pop2, o_if, o_i2, o_l2, swg, o_sw, o_gI, o_gZ, o_gJ, o_gA, o_gR, o_pI, o_pZ, o_pJ, o_pR, o_ia, o_iak, o_zak, o_ja, o_jak, o_is_, o_isk, o_zsk, o_js_, o_jsk, o_len, o_ri, o_rz, o_rl, o_rv, ls1, ls2, lks, lkj, List.getD_cons_zero, List.getD_cons_succ, List.set_cons_zero, List.set_cons_succ, qcat, true_and, and_true, List.map_nil, List.map_cons, List.sum_nil, List.sum_cons, Nat.reduceAdd, Nat.reduceLeDiff, Nat.zero_le, Int.reduceAdd, Int.reduceNeg, Int.reduceEq, or_true, true_or, Decidable.not_not, false_implies, not_false_eq_true, true_implies, not_true_eq_false, Int.reduceLT, Int.reduceLE]
  unfold Q_D_crash tcr at hq
  exact dinF (fun h1 _ => ⟨fun e => hq _ (by rw [if_neg (fun x => x h1), if_neg e]), fun e => hq _ (by rw [if_neg (fun x => x h1), if_pos e])⟩) (fun h1 => hq _ (by rw [if_pos h1]))
theorem c_D_crash (l : Launch) (ad : Nat → Nat) (D : va_G) (cA : Nat → ClassId) : qC l ad D cA y_D_crash (Cond.code y_D_crash b_D_crash 2 (none) :: lw_g) rm_D_crash pre_D_crash post_D_crash := by
  refine qC_of (own := R_D) (by decide) rfl ⟨rfl, rfl⟩ ?_ ?_
  · intro av σ h; unfold pre_D_crash at h; split at h
    · simp [qen]
    · exact h.elim
  · intro WW QR S Q av σ hav hσ h hq; unfold pre_D_crash at h; split at h
    next o a1 =>
      obtain ⟨rfl, h⟩ := h
      exact w_D_crash S Q a1 σ (hav _ (List.mem_of_getElem? (i := 1) rfl)) hσ h (fun σ' h' => hq _ σ' h')
    next => exact h.elim
def ttk (σ : qS) (w n : Int) : Int := if ¬ (0 ≤ w ∧ w ≤ 6) then 1 else if ¬ (1 ≤ n ∧ n ≤ 200) then 2 else if σ 119 0 = 0 then 3 else 0
def P_D_tick (_w _n : Int) (_σ : qS) : Prop := True
def Q_D_tick (w n : Int) (σ σ' : qS) : Prop := σ' = su σ 118 0 (ttk σ w n)
def pre_D_tick (av : List qA) (σ : qS) : Prop := match av with
  | [.inr (.inr o), .inl a1, .inl a2] => o = 901 ∧ P_D_tick a1 a2 σ
  | _ => False
def post_D_tick (av : List qA) (σ : qS) (r : Option qA) (σ' : qS) : Prop := match av, r with
  | [_, .inl a1, .inl a2], none => Q_D_tick a1 a2 σ σ'
  | _, _ => False
def oc_D_tick (K : qP) : qP := fun st ls σ => match st with
  | .inl a2 :: .inl a1 :: .inr (.inr o) :: st => o = 901 ∧ (st.map qcat).sum ≤ 8 ∧ P_D_tick a1 a2 σ ∧ ∀ (σ' : qS), Q_D_tick a1 a2 σ σ' → K st ls σ'
  | _ => False
def rm_D_tick : Room := { frames := 1, cells := 0, slots := 0, locals := 22 }
def k_D_tick_42 (QR : Option qA → qS → Prop) (H : Nat → qP) : qP :=
  o_pI 901 118 <| o_rv QR
def k_D_tick_41 (QR : Option qA → qS → Prop) (H : Nat → qP) : qP :=
  o_c (.inl 0) <| k_D_tick_42 QR H
def k_D_tick_37 (QR : Option qA → qS → Prop) (H : Nat → qP) : qP :=
  o_c (.inl 3) <| k_D_tick_42 QR H
def k_D_tick_30 (QR : Option qA → qS → Prop) (H : Nat → qP) : qP :=
  o_al 0 <| o_gZ 901 119 <| o_if (fun a => ¬ a = 0) (k_D_tick_41 QR H) (k_D_tick_37 QR H)
def k_D_tick_26 (QR : Option qA → qS → Prop) (H : Nat → qP) : qP :=
  o_c (.inl 2) <| k_D_tick_42 QR H
def k_D_tick_15 (QR : Option qA → qS → Prop) (H : Nat → qP) : qP :=
  o_il 2 <| o_c (.inl 1) <| o_c (.inl 200) <| oc_D_in <| o_if (fun a => ¬ a = 0) (k_D_tick_30 QR H) (k_D_tick_26 QR H)
def k_D_tick_11 (QR : Option qA → qS → Prop) (H : Nat → qP) : qP :=
  o_c (.inl 1) <| k_D_tick_42 QR H
def k_D_tick_0 (QR : Option qA → qS → Prop) (H : Nat → qP) : qP :=
  o_al 0 <| o_il 1 <| o_c (.inl 0) <| o_c (.inl 6) <| oc_D_in <| o_if (fun a => ¬ a = 0) (k_D_tick_15 QR H) (k_D_tick_11 QR H)
set_option maxRecDepth 8000 in
theorem s_D_tick_42 {l : Launch} {ad : Nat → Nat} {D : va_G} {cA : Nat → ClassId} {WW : Nat → qP} {QR : Option qA → qS → Prop} (S : qSnd l rm_D_tick ad D cA R_D b_D_tick 3 WW) (Q : qRet (none) b_D_tick WW QR) : qle (k_D_tick_42 QR WW) WW 42 :=
  S.pI fl_D_87 (by decide) (by decide +kernel) d_D_tick_42 <| Q.2.2.2 rfl _ d_D_tick_45
set_option maxRecDepth 8000 in
theorem s_D_tick_41 {l : Launch} {ad : Nat → Nat} {D : va_G} {cA : Nat → ClassId} {WW : Nat → qP} {QR : Option qA → qS → Prop} (S : qSnd l rm_D_tick ad D cA R_D b_D_tick 3 WW) (Q : qRet (none) b_D_tick WW QR) : qle (k_D_tick_41 QR WW) WW 41 :=
  S.iconst d_D_tick_41 (by decide) <| (s_D_tick_42 S Q)
set_option maxRecDepth 8000 in
theorem s_D_tick_37 {l : Launch} {ad : Nat → Nat} {D : va_G} {cA : Nat → ClassId} {WW : Nat → qP} {QR : Option qA → qS → Prop} (S : qSnd l rm_D_tick ad D cA R_D b_D_tick 3 WW) (Q : qRet (none) b_D_tick WW QR) : qle (k_D_tick_37 QR WW) WW 37 :=
  S.iconst d_D_tick_37 (by decide) <| S.goto d_D_tick_38 (by decide) (s_D_tick_42 S Q)
set_option maxRecDepth 8000 in
theorem s_D_tick_30 {l : Launch} {ad : Nat → Nat} {D : va_G} {cA : Nat → ClassId} {WW : Nat → qP} {QR : Option qA → qS → Prop} (S : qSnd l rm_D_tick ad D cA R_D b_D_tick 3 WW) (Q : qRet (none) b_D_tick WW QR) : qle (k_D_tick_30 QR WW) WW 30 :=
  S.aload_n d_D_tick_30 rfl <| S.gZ fl_D_139 (by decide) d_D_tick_31 <| S.if_ne d_D_tick_34 (by decide) (s_D_tick_41 S Q) (s_D_tick_37 S Q)
set_option maxRecDepth 8000 in
theorem s_D_tick_26 {l : Launch} {ad : Nat → Nat} {D : va_G} {cA : Nat → ClassId} {WW : Nat → qP} {QR : Option qA → qS → Prop} (S : qSnd l rm_D_tick ad D cA R_D b_D_tick 3 WW) (Q : qRet (none) b_D_tick WW QR) : qle (k_D_tick_26 QR WW) WW 26 :=
  S.iconst d_D_tick_26 (by decide) <| S.goto d_D_tick_27 (by decide) (s_D_tick_42 S Q)
set_option maxRecDepth 8000 in
theorem s_D_tick_15 {l : Launch} {ad : Nat → Nat} {D : va_G} {cA : Nat → ClassId} {WW : Nat → qP} {QR : Option qA → qS → Prop} (S : qSnd l rm_D_tick ad D cA R_D b_D_tick 3 WW) (Q : qRet (none) b_D_tick WW QR) : qle (k_D_tick_15 QR WW) WW 15 :=
  S.iload_n d_D_tick_15 rfl <| S.iconst d_D_tick_16 (by decide) <| S.sipush d_D_tick_17 (by decide) <| sc_D_136 S (by decide) d_D_tick_20 <| S.if_ne d_D_tick_23 (by decide) (s_D_tick_30 S Q) (s_D_tick_26 S Q)
set_option maxRecDepth 8000 in
theorem s_D_tick_11 {l : Launch} {ad : Nat → Nat} {D : va_G} {cA : Nat → ClassId} {WW : Nat → qP} {QR : Option qA → qS → Prop} (S : qSnd l rm_D_tick ad D cA R_D b_D_tick 3 WW) (Q : qRet (none) b_D_tick WW QR) : qle (k_D_tick_11 QR WW) WW 11 :=
  S.iconst d_D_tick_11 (by decide) <| S.goto d_D_tick_12 (by decide) (s_D_tick_42 S Q)
set_option maxRecDepth 8000 in
theorem s_D_tick_0 {l : Launch} {ad : Nat → Nat} {D : va_G} {cA : Nat → ClassId} {WW : Nat → qP} {QR : Option qA → qS → Prop} (S : qSnd l rm_D_tick ad D cA R_D b_D_tick 3 WW) (Q : qRet (none) b_D_tick WW QR) : qle (k_D_tick_0 QR WW) WW 0 :=
  S.aload_n d_D_tick_0 rfl <| S.iload_n d_D_tick_1 rfl <| S.iconst d_D_tick_2 (by decide) <| S.bipush d_D_tick_3 (by decide) <| sc_D_136 S (by decide) d_D_tick_5 <| S.if_ne d_D_tick_8 (by decide) (s_D_tick_15 S Q) (s_D_tick_11 S Q)
theorem w_D_tick {l : Launch} {ad : Nat → Nat} {D : va_G} {cA : Nat → ClassId} {WW : Nat → qP} {QR : Option qA → qS → Prop} (S : qSnd l rm_D_tick ad D cA R_D b_D_tick 3 WW) (Q : qRet (none) b_D_tick WW QR) (a1 : Int) (a2 : Int) (σ : qS) (ha1 : r32 a1) (ha2 : r32 a2) (hσ : qoS σ) (h : P_D_tick a1 a2 σ) (hq : ∀ σ', Q_D_tick a1 a2 σ σ' → QR none σ') : WW 0 [] [some (.inr (.inr 901)), some (.inl a1), some (.inl a2)] σ := by
  refine s_D_tick_0 S Q _ _ _ ?_
  simp only [k_D_tick_0, k_D_tick_11, k_D_tick_15, k_D_tick_26, k_D_tick_30, k_D_tick_37, k_D_tick_41, k_D_tick_42, oc_D_in, o_c, o_il, o_ll, o_al, o_is, o_as, o_ls, o_inc, o_bi, o_bid, o_bl, o_bld, o_sl, o_i2l, o_l2i, o_dup, o_dup2, o_pop, o_pop2, o_if, o_i2, o_l2, swg, o_sw, o_gI, o_gZ, o_gJ, o_gA, o_gR, o_pI, o_pZ, o_pJ, o_pR, o_ia, o_iak, o_zak, o_ja, o_jak, o_is_, o_isk, o_zsk, o_js_, o_jsk, o_len, o_ri, o_rz, o_rl, o_rv, ls1, ls2, lks, lkj, List.getD_cons_zero, List.getD_cons_succ, List.set_cons_zero, List.set_cons_succ, qcat, true_and, and_true, List.map_nil, List.map_cons, List.sum_nil, List.sum_cons, Nat.reduceAdd, Nat.reduceLeDiff, Nat.zero_le, Int.reduceAdd, Int.reduceNeg, Int.reduceEq, or_true, true_or, Decidable.not_not, false_implies, not_false_eq_true, true_implies, not_true_eq_false, Int.reduceLT, Int.reduceLE]
  unfold Q_D_tick ttk at hq
  exact dinF (fun h1 => dinF (fun h2 _ => ⟨fun e => hq _ (by rw [if_neg (fun x => x h1), if_neg (fun x => x h2), if_neg e]), fun e => hq _ (by rw [if_neg (fun x => x h1), if_neg (fun x => x h2), if_pos e])⟩) (fun h2 => hq _ (by rw [if_neg (fun x => x h1), if_pos h2]))) (fun h1 => hq _ (by rw [if_pos h1]))
theorem c_D_tick (l : Launch) (ad : Nat → Nat) (D : va_G) (cA : Nat → ClassId) : qC l ad D cA y_D_tick (Cond.code y_D_tick b_D_tick 3 (none) :: lw_g) rm_D_tick pre_D_tick post_D_tick := by
  refine qC_of (own := R_D) (by decide) rfl ⟨rfl, rfl⟩ ?_ ?_
  · intro av σ h; unfold pre_D_tick at h; split at h
    · simp [qen]
    · exact h.elim
  · intro WW QR S Q av σ hav hσ h hq; unfold pre_D_tick at h; split at h
    next o a1 a2 =>
      obtain ⟨rfl, h⟩ := h
      exact w_D_tick S Q a1 a2 σ (hav _ (List.mem_of_getElem? (i := 1) rfl)) (hav _ (List.mem_of_getElem? (i := 2) rfl)) hσ h (fun σ' h' => hq _ σ' h')
    next => exact h.elim
def tsz (σ : qS) (f : Int) : Int := if ¬ (0 ≤ f ∧ f ≤ 15) then 1 else if σ 119 0 ≠ 0 then 2 else 0
def P_D_size (_f : Int) (_σ : qS) : Prop := True
def Q_D_size (f : Int) (σ : qS) (r : Int) (σ' : qS) : Prop := σ' = su σ 118 0 (tsz σ f) ∧ r = if 0 < tsz σ f then 0 else σ 102 f
def pre_D_size (av : List qA) (σ : qS) : Prop := match av with
  | [.inr (.inr o), .inl a1] => o = 901 ∧ P_D_size a1 σ
  | _ => False
def post_D_size (av : List qA) (σ : qS) (r : Option qA) (σ' : qS) : Prop := match av, r with
  | [_, .inl a1], some (.inl r) => Q_D_size a1 σ r σ'
  | _, _ => False
def oc_D_size (K : qP) : qP := fun st ls σ => match st with
  | .inl a1 :: .inr (.inr o) :: st => o = 901 ∧ (st.map qcat).sum ≤ 8 ∧ P_D_size a1 σ ∧ ∀ (r : Int) (σ' : qS), Q_D_size a1 σ r σ' → K (.inl r :: st) ls σ'
  | _ => False
def rm_D_size : Room := { frames := 1, cells := 0, slots := 0, locals := 22 }
theorem fl_D_16 : qF R_D 901 1 32 100 R_D F_D 16 2 := ⟨Or.inr ⟨rfl, rfl, rfl, rfl, rfl, rfl⟩, by decide, lw_at 791 (by decide +kernel) rfl⟩
def k_D_size_47 (QR : Option qA → qS → Prop) (H : Nat → qP) : qP :=
  o_ri QR
def k_D_size_41 (QR : Option qA → qS → Prop) (H : Nat → qP) : qP :=
  o_al 0 <| o_gA 901 102 <| o_il 1 <| o_iak 102 16 <| k_D_size_47 QR H
def k_D_size_37 (QR : Option qA → qS → Prop) (H : Nat → qP) : qP :=
  o_c (.inl 0) <| k_D_size_47 QR H
def k_D_size_27 (QR : Option qA → qS → Prop) (H : Nat → qP) : qP :=
  o_pI 901 118 <| o_al 0 <| o_gI 901 118 <| o_if (fun a => a ≤ 0) (k_D_size_41 QR H) (k_D_size_37 QR H)
def k_D_size_26 (QR : Option qA → qS → Prop) (H : Nat → qP) : qP :=
  o_c (.inl 0) <| k_D_size_27 QR H
def k_D_size_22 (QR : Option qA → qS → Prop) (H : Nat → qP) : qP :=
  o_c (.inl 2) <| k_D_size_27 QR H
def k_D_size_15 (QR : Option qA → qS → Prop) (H : Nat → qP) : qP :=
  o_al 0 <| o_gZ 901 119 <| o_if (fun a => a = 0) (k_D_size_26 QR H) (k_D_size_22 QR H)
def k_D_size_11 (QR : Option qA → qS → Prop) (H : Nat → qP) : qP :=
  o_c (.inl 1) <| k_D_size_27 QR H
def k_D_size_0 (QR : Option qA → qS → Prop) (H : Nat → qP) : qP :=
  o_al 0 <| o_il 1 <| o_c (.inl 0) <| o_c (.inl 15) <| oc_D_in <| o_if (fun a => ¬ a = 0) (k_D_size_15 QR H) (k_D_size_11 QR H)
set_option maxRecDepth 8000 in
theorem s_D_size_47 {l : Launch} {ad : Nat → Nat} {D : va_G} {cA : Nat → ClassId} {WW : Nat → qP} {QR : Option qA → qS → Prop} (S : qSnd l rm_D_size ad D cA R_D b_D_size 2 WW) (Q : qRet (some .int) b_D_size WW QR) : qle (k_D_size_47 QR WW) WW 47 :=
  Q.1 rfl _ d_D_size_47
set_option maxRecDepth 8000 in
theorem s_D_size_41 {l : Launch} {ad : Nat → Nat} {D : va_G} {cA : Nat → ClassId} {WW : Nat → qP} {QR : Option qA → qS → Prop} (S : qSnd l rm_D_size ad D cA R_D b_D_size 2 WW) (Q : qRet (some .int) b_D_size WW QR) : qle (k_D_size_41 QR WW) WW 41 :=
  S.aload_n d_D_size_41 rfl <| S.gA fl_D_16 (by decide) d_D_size_42 <| S.iload_n d_D_size_45 rfl <| S.iak (by decide) d_D_size_46 <| (s_D_size_47 S Q)
set_option maxRecDepth 8000 in
theorem s_D_size_37 {l : Launch} {ad : Nat → Nat} {D : va_G} {cA : Nat → ClassId} {WW : Nat → qP} {QR : Option qA → qS → Prop} (S : qSnd l rm_D_size ad D cA R_D b_D_size 2 WW) (Q : qRet (some .int) b_D_size WW QR) : qle (k_D_size_37 QR WW) WW 37 :=
  S.iconst d_D_size_37 (by decide) <| S.goto d_D_size_38 (by decide) (s_D_size_47 S Q)
set_option maxRecDepth 8000 in
theorem s_D_size_27 {l : Launch} {ad : Nat → Nat} {D : va_G} {cA : Nat → ClassId} {WW : Nat → qP} {QR : Option qA → qS → Prop} (S : qSnd l rm_D_size ad D cA R_D b_D_size 2 WW) (Q : qRet (some .int) b_D_size WW QR) : qle (k_D_size_27 QR WW) WW 27 :=
  S.pI fl_D_87 (by decide) (by decide +kernel) d_D_size_27 <| S.aload_n d_D_size_30 rfl <| S.gI fl_D_87 (by decide) d_D_size_31 <| S.if_le d_D_size_34 (by decide) (s_D_size_41 S Q) (s_D_size_37 S Q)
set_option maxRecDepth 8000 in
theorem s_D_size_26 {l : Launch} {ad : Nat → Nat} {D : va_G} {cA : Nat → ClassId} {WW : Nat → qP} {QR : Option qA → qS → Prop} (S : qSnd l rm_D_size ad D cA R_D b_D_size 2 WW) (Q : qRet (some .int) b_D_size WW QR) : qle (k_D_size_26 QR WW) WW 26 :=
  S.iconst d_D_size_26 (by decide) <| (s_D_size_27 S Q)
set_option maxRecDepth 8000 in
theorem s_D_size_22 {l : Launch} {ad : Nat → Nat} {D : va_G} {cA : Nat → ClassId} {WW : Nat → qP} {QR : Option qA → qS → Prop} (S : qSnd l rm_D_size ad D cA R_D b_D_size 2 WW) (Q : qRet (some .int) b_D_size WW QR) : qle (k_D_size_22 QR WW) WW 22 :=
  S.iconst d_D_size_22 (by decide) <| S.goto d_D_size_23 (by decide) (s_D_size_27 S Q)
set_option maxRecDepth 8000 in
theorem s_D_size_15 {l : Launch} {ad : Nat → Nat} {D : va_G} {cA : Nat → ClassId} {WW : Nat → qP} {QR : Option qA → qS → Prop} (S : qSnd l rm_D_size ad D cA R_D b_D_size 2 WW) (Q : qRet (some .int) b_D_size WW QR) : qle (k_D_size_15 QR WW) WW 15 :=
  S.aload_n d_D_size_15 rfl <| S.gZ fl_D_139 (by decide) d_D_size_16 <| S.if_eq d_D_size_19 (by decide) (s_D_size_26 S Q) (s_D_size_22 S Q)
set_option maxRecDepth 8000 in
theorem s_D_size_11 {l : Launch} {ad : Nat → Nat} {D : va_G} {cA : Nat → ClassId} {WW : Nat → qP} {QR : Option qA → qS → Prop} (S : qSnd l rm_D_size ad D cA R_D b_D_size 2 WW) (Q : qRet (some .int) b_D_size WW QR) : qle (k_D_size_11 QR WW) WW 11 :=
  S.iconst d_D_size_11 (by decide) <| S.goto d_D_size_12 (by decide) (s_D_size_27 S Q)
set_option maxRecDepth 8000 in
theorem s_D_size_0 {l : Launch} {ad : Nat → Nat} {D : va_G} {cA : Nat → ClassId} {WW : Nat → qP} {QR : Option qA → qS → Prop} (S : qSnd l rm_D_size ad D cA R_D b_D_size 2 WW) (Q : qRet (some .int) b_D_size WW QR) : qle (k_D_size_0 QR WW) WW 0 :=
  S.aload_n d_D_size_0 rfl <| S.iload_n d_D_size_1 rfl <| S.iconst d_D_size_2 (by decide) <| S.bipush d_D_size_3 (by decide) <| sc_D_136 S (by decide) d_D_size_5 <| S.if_ne d_D_size_8 (by decide) (s_D_size_15 S Q) (s_D_size_11 S Q)
theorem w_D_size {l : Launch} {ad : Nat → Nat} {D : va_G} {cA : Nat → ClassId} {WW : Nat → qP} {QR : Option qA → qS → Prop} (S : qSnd l rm_D_size ad D cA R_D b_D_size 2 WW) (Q : qRet (some .int) b_D_size WW QR) (a1 : Int) (σ : qS) (ha1 : r32 a1) (hσ : qoS σ) (h : P_D_size a1 σ) (hq : ∀ (r : Int) σ', Q_D_size a1 σ r σ' → QR (some (.inl r)) σ') : WW 0 [] [some (.inr (.inr 901)), some (.inl a1)] σ := by
  refine s_D_size_0 S Q _ _ _ ?_
  simp only [k_D_size_0, k_D_size_11, k_D_size_15, k_D_size_22, k_D_size_26, k_D_size_27, k_D_size_37, k_D_size_41, k_D_size_47, oc_D_in, o_c, o_il, o_ll, o_al, o_is, o_as, o_ls, o_inc, o_bi, o_bid, o_bl, o_bld, o_sl, o_i2l, o_l2i, o_dup, o_dup2, o_pop, o_pop2, o_if, o_i2, o_l2, swg, o_sw, o_gI, o_gZ, o_gJ, o_gA, o_gR, o_pI, o_pZ, o_pJ, o_pR, o_ia, o_iak, o_zak, o_ja, o_jak, o_is_, o_isk, o_zsk, o_js_, o_jsk, o_len, o_ri, o_rz, o_rl, o_rv, ls1, ls2, lks, lkj, List.getD_cons_zero, List.getD_cons_succ, List.set_cons_zero, List.set_cons_succ, qcat, true_and, and_true, List.map_nil, List.map_cons, List.sum_nil, List.sum_cons, Nat.reduceAdd, Nat.reduceLeDiff, Nat.zero_le, Int.reduceAdd, Int.reduceNeg, Int.reduceEq, or_true, true_or, Decidable.not_not, false_implies, not_false_eq_true, true_implies, not_true_eq_false, Int.reduceLT, Int.reduceLE, su_s]
  unfold Q_D_size tsz at hq
  exact dinF (fun h1 _ => ⟨fun e => ⟨by omega, by rw [su_k (by decide)]; exact hq _ _ (by rw [if_neg (fun x => x h1), if_neg (fun x => x e)]; exact ⟨rfl, rfl⟩)⟩, fun e => hq _ _ (by rw [if_neg (fun x => x h1), if_pos e]; exact ⟨rfl, rfl⟩)⟩) (fun h1 => hq _ _ (by rw [if_pos h1]; exact ⟨rfl, rfl⟩))
theorem c_D_size (l : Launch) (ad : Nat → Nat) (D : va_G) (cA : Nat → ClassId) : qC l ad D cA y_D_size (Cond.code y_D_size b_D_size 2 (some .int) :: lw_g) rm_D_size pre_D_size post_D_size := by
  refine qC_of (own := R_D) (by decide) rfl ⟨rfl, rfl⟩ ?_ ?_
  · intro av σ h; unfold pre_D_size at h; split at h
    · simp [qen]
    · exact h.elim
  · intro WW QR S Q av σ hav hσ h hq; unfold pre_D_size at h; split at h
    next o a1 =>
      obtain ⟨rfl, h⟩ := h
      exact w_D_size S Q a1 σ (hav _ (List.mem_of_getElem? (i := 1) rfl)) hσ h (fun r σ' h' => hq _ σ' h')
    next => exact h.elim
def P_D_clear (_f : Int) (_σ : qS) : Prop := True
def Q_D_clear (f : Int) (σ : qS) (r : Int) (σ' : qS) : Prop := (0 < tsz σ f ∧ σ' = su σ 118 0 (tsz σ f) ∧ r = 0) ∨ (tsz σ f = 0 ∧ σ' = su (su σ 118 0 0) 102 f 0 ∧ r = σ 102 f)
def pre_D_clear (av : List qA) (σ : qS) : Prop := match av with
  | [.inr (.inr o), .inl a1] => o = 901 ∧ P_D_clear a1 σ
  | _ => False
def post_D_clear (av : List qA) (σ : qS) (r : Option qA) (σ' : qS) : Prop := match av, r with
  | [_, .inl a1], some (.inl r) => Q_D_clear a1 σ r σ'
  | _, _ => False
def oc_D_clear (K : qP) : qP := fun st ls σ => match st with
  | .inl a1 :: .inr (.inr o) :: st => o = 901 ∧ (st.map qcat).sum ≤ 8 ∧ P_D_clear a1 σ ∧ ∀ (r : Int) (σ' : qS), Q_D_clear a1 σ r σ' → K (.inl r :: st) ls σ'
  | _ => False
def rm_D_clear : Room := { frames := 1, cells := 0, slots := 0, locals := 22 }
def k_D_clear_39 (QR : Option qA → qS → Prop) (H : Nat → qP) : qP :=
  o_al 0 <| o_gA 901 102 <| o_il 1 <| o_iak 102 16 <| o_is 2 <| o_al 0 <| o_gA 901 102 <| o_il 1 <| o_c (.inl 0) <| o_isk 102 16 <| o_il 2 <| o_ri QR
def k_D_clear_37 (QR : Option qA → qS → Prop) (H : Nat → qP) : qP :=
  o_c (.inl 0) <| o_ri QR
def k_D_clear_27 (QR : Option qA → qS → Prop) (H : Nat → qP) : qP :=
  o_pI 901 118 <| o_al 0 <| o_gI 901 118 <| o_if (fun a => a ≤ 0) (k_D_clear_39 QR H) (k_D_clear_37 QR H)
def k_D_clear_26 (QR : Option qA → qS → Prop) (H : Nat → qP) : qP :=
  o_c (.inl 0) <| k_D_clear_27 QR H
def k_D_clear_22 (QR : Option qA → qS → Prop) (H : Nat → qP) : qP :=
  o_c (.inl 2) <| k_D_clear_27 QR H
def k_D_clear_15 (QR : Option qA → qS → Prop) (H : Nat → qP) : qP :=
  o_al 0 <| o_gZ 901 119 <| o_if (fun a => a = 0) (k_D_clear_26 QR H) (k_D_clear_22 QR H)
def k_D_clear_11 (QR : Option qA → qS → Prop) (H : Nat → qP) : qP :=
  o_c (.inl 1) <| k_D_clear_27 QR H
def k_D_clear_0 (QR : Option qA → qS → Prop) (H : Nat → qP) : qP :=
  o_al 0 <| o_il 1 <| o_c (.inl 0) <| o_c (.inl 15) <| oc_D_in <| o_if (fun a => ¬ a = 0) (k_D_clear_15 QR H) (k_D_clear_11 QR H)
set_option maxRecDepth 8000 in
theorem s_D_clear_39 {l : Launch} {ad : Nat → Nat} {D : va_G} {cA : Nat → ClassId} {WW : Nat → qP} {QR : Option qA → qS → Prop} (S : qSnd l rm_D_clear ad D cA R_D b_D_clear 3 WW) (Q : qRet (some .int) b_D_clear WW QR) : qle (k_D_clear_39 QR WW) WW 39 :=
  S.aload_n d_D_clear_39 rfl <| S.gA fl_D_16 (by decide) d_D_clear_40 <| S.iload_n d_D_clear_43 rfl <| S.iak (by decide) d_D_clear_44 <| S.istore_n d_D_clear_45 rfl (by decide) <| S.aload_n d_D_clear_46 rfl <| S.gA fl_D_16 (by decide) d_D_clear_47 <| S.iload_n d_D_clear_50 rfl <| S.iconst d_D_clear_51 (by decide) <| S.isk (by decide) d_D_clear_52 <| S.iload_n d_D_clear_53 rfl <| Q.1 rfl _ d_D_clear_54
set_option maxRecDepth 8000 in
theorem s_D_clear_37 {l : Launch} {ad : Nat → Nat} {D : va_G} {cA : Nat → ClassId} {WW : Nat → qP} {QR : Option qA → qS → Prop} (S : qSnd l rm_D_clear ad D cA R_D b_D_clear 3 WW) (Q : qRet (some .int) b_D_clear WW QR) : qle (k_D_clear_37 QR WW) WW 37 :=
  S.iconst d_D_clear_37 (by decide) <| Q.1 rfl _ d_D_clear_38
set_option maxRecDepth 8000 in
theorem s_D_clear_27 {l : Launch} {ad : Nat → Nat} {D : va_G} {cA : Nat → ClassId} {WW : Nat → qP} {QR : Option qA → qS → Prop} (S : qSnd l rm_D_clear ad D cA R_D b_D_clear 3 WW) (Q : qRet (some .int) b_D_clear WW QR) : qle (k_D_clear_27 QR WW) WW 27 :=
  S.pI fl_D_87 (by decide) (by decide +kernel) d_D_clear_27 <| S.aload_n d_D_clear_30 rfl <| S.gI fl_D_87 (by decide) d_D_clear_31 <| S.if_le d_D_clear_34 (by decide) (s_D_clear_39 S Q) (s_D_clear_37 S Q)
set_option maxRecDepth 8000 in
theorem s_D_clear_26 {l : Launch} {ad : Nat → Nat} {D : va_G} {cA : Nat → ClassId} {WW : Nat → qP} {QR : Option qA → qS → Prop} (S : qSnd l rm_D_clear ad D cA R_D b_D_clear 3 WW) (Q : qRet (some .int) b_D_clear WW QR) : qle (k_D_clear_26 QR WW) WW 26 :=
  S.iconst d_D_clear_26 (by decide) <| (s_D_clear_27 S Q)
set_option maxRecDepth 8000 in
theorem s_D_clear_22 {l : Launch} {ad : Nat → Nat} {D : va_G} {cA : Nat → ClassId} {WW : Nat → qP} {QR : Option qA → qS → Prop} (S : qSnd l rm_D_clear ad D cA R_D b_D_clear 3 WW) (Q : qRet (some .int) b_D_clear WW QR) : qle (k_D_clear_22 QR WW) WW 22 :=
  S.iconst d_D_clear_22 (by decide) <| S.goto d_D_clear_23 (by decide) (s_D_clear_27 S Q)
set_option maxRecDepth 8000 in
theorem s_D_clear_15 {l : Launch} {ad : Nat → Nat} {D : va_G} {cA : Nat → ClassId} {WW : Nat → qP} {QR : Option qA → qS → Prop} (S : qSnd l rm_D_clear ad D cA R_D b_D_clear 3 WW) (Q : qRet (some .int) b_D_clear WW QR) : qle (k_D_clear_15 QR WW) WW 15 :=
  S.aload_n d_D_clear_15 rfl <| S.gZ fl_D_139 (by decide) d_D_clear_16 <| S.if_eq d_D_clear_19 (by decide) (s_D_clear_26 S Q) (s_D_clear_22 S Q)
set_option maxRecDepth 8000 in
theorem s_D_clear_11 {l : Launch} {ad : Nat → Nat} {D : va_G} {cA : Nat → ClassId} {WW : Nat → qP} {QR : Option qA → qS → Prop} (S : qSnd l rm_D_clear ad D cA R_D b_D_clear 3 WW) (Q : qRet (some .int) b_D_clear WW QR) : qle (k_D_clear_11 QR WW) WW 11 :=
  S.iconst d_D_clear_11 (by decide) <| S.goto d_D_clear_12 (by decide) (s_D_clear_27 S Q)
set_option maxRecDepth 8000 in
theorem s_D_clear_0 {l : Launch} {ad : Nat → Nat} {D : va_G} {cA : Nat → ClassId} {WW : Nat → qP} {QR : Option qA → qS → Prop} (S : qSnd l rm_D_clear ad D cA R_D b_D_clear 3 WW) (Q : qRet (some .int) b_D_clear WW QR) : qle (k_D_clear_0 QR WW) WW 0 :=
  S.aload_n d_D_clear_0 rfl <| S.iload_n d_D_clear_1 rfl <| S.iconst d_D_clear_2 (by decide) <| S.bipush d_D_clear_3 (by decide) <| sc_D_136 S (by decide) d_D_clear_5 <| S.if_ne d_D_clear_8 (by decide) (s_D_clear_15 S Q) (s_D_clear_11 S Q)
theorem w_D_clear {l : Launch} {ad : Nat → Nat} {D : va_G} {cA : Nat → ClassId} {WW : Nat → qP} {QR : Option qA → qS → Prop} (S : qSnd l rm_D_clear ad D cA R_D b_D_clear 3 WW) (Q : qRet (some .int) b_D_clear WW QR) (a1 : Int) (σ : qS) (ha1 : r32 a1) (hσ : qoS σ) (h : P_D_clear a1 σ) (hq : ∀ (r : Int) σ', Q_D_clear a1 σ r σ' → QR (some (.inl r)) σ') : WW 0 [] [some (.inr (.inr 901)), some (.inl a1), none] σ := by
  refine s_D_clear_0 S Q _ _ _ ?_
  simp only [k_D_clear_0, k_D_clear_11, k_D_clear_15, k_D_clear_22, k_D_clear_26, k_D_clear_27, k_D_clear_37, k_D_clear_39, oc_D_in, o_c, o_il, o_ll, o_al, o_is, o_as, o_ls, o_inc, o_bi, o_bid, o_bl, o_bld, o_sl, o_i2l, o_l2i, o_dup, o_dup2, o_pop, o_pop2, o_if, o_i2, o_l2, swg, o_sw, o_gI, o_gZ, o_gJ, o_gA, o_gR, o_pI, o_pZ, o_pJ, o_pR, o_ia, o_iak, o_zak, o_ja, o_jak, o_is_, o_isk, o_zsk, o_js_, o_jsk, o_len, o_ri, o_rz, o_rl, o_rv, ls1, ls2, lks, lkj, List.getD_cons_zero, List.getD_cons_succ, List.set_cons_zero, List.set_cons_succ, qcat, true_and, and_true, List.map_nil, List.map_cons, List.sum_nil, List.sum_cons, Nat.reduceAdd, Nat.reduceLeDiff, Nat.zero_le, Int.reduceAdd, Int.reduceNeg, Int.reduceEq, or_true, true_or, Decidable.not_not, false_implies, not_false_eq_true, true_implies, not_true_eq_false, Int.reduceLT, Int.reduceLE, su_s]
  unfold Q_D_clear tsz at hq
  exact dinF (fun h1 _ => ⟨fun e => ⟨by omega, by omega, by rw [su_k (by decide)]; exact hq _ _ (by rw [if_neg (fun x => x h1), if_neg (fun x => x e)]; exact Or.inr ⟨rfl, rfl, rfl⟩)⟩, fun e => hq _ _ (by rw [if_neg (fun x => x h1), if_pos e]; exact Or.inl ⟨by omega, rfl, rfl⟩)⟩) (fun h1 => hq _ _ (by rw [if_pos h1]; exact Or.inl ⟨by omega, rfl, rfl⟩))
theorem c_D_clear (l : Launch) (ad : Nat → Nat) (D : va_G) (cA : Nat → ClassId) : qC l ad D cA y_D_clear (Cond.code y_D_clear b_D_clear 3 (some .int) :: lw_g) rm_D_clear pre_D_clear post_D_clear := by
  refine qC_of (own := R_D) (by decide) rfl ⟨rfl, rfl⟩ ?_ ?_
  · intro av σ h; unfold pre_D_clear at h; split at h
    · simp [qen]
    · exact h.elim
  · intro WW QR S Q av σ hav hσ h hq; unfold pre_D_clear at h; split at h
    next o a1 =>
      obtain ⟨rfl, h⟩ := h
      exact w_D_clear S Q a1 σ (hav _ (List.mem_of_getElem? (i := 1) rfl)) hσ h (fun r σ' h' => hq _ σ' h')
    next => exact h.elim
def trc (σ : qS) (f : Int) : Int := if ¬ (0 ≤ f ∧ f ≤ 15) then 1 else if σ 102 f = 300 ∨ σ 119 0 ≠ 0 then 2 else 0
def P_D_record (_f _k _v : Int) (σ : qS) : Prop := ∀ f, 0 ≤ f → f < 16 → 0 ≤ σ 102 f ∧ σ 102 f ≤ 300
def Q_D_record (f k v : Int) (σ : qS) (r : Int) (σ' : qS) : Prop := (0 < trc σ f ∧ σ' = su σ 118 0 (trc σ f) ∧ r = 0) ∨ (trc σ f = 0 ∧ r = σ 102 f + 1 ∧ σ' = su (su (su (su σ 118 0 0) 100 (300 * f + σ 102 f) k) 101 (300 * f + σ 102 f) v) 102 f (σ 102 f + 1))
def pre_D_record (av : List qA) (σ : qS) : Prop := match av with
  | [.inr (.inr o), .inl a1, .inr (.inl a2), .inr (.inl a3)] => o = 901 ∧ P_D_record a1 a2 a3 σ
  | _ => False
def post_D_record (av : List qA) (σ : qS) (r : Option qA) (σ' : qS) : Prop := match av, r with
  | [_, .inl a1, .inr (.inl a2), .inr (.inl a3)], some (.inl r) => Q_D_record a1 a2 a3 σ r σ'
  | _, _ => False
def oc_D_record (K : qP) : qP := fun st ls σ => match st with
  | .inr (.inl a3) :: .inr (.inl a2) :: .inl a1 :: .inr (.inr o) :: st => o = 901 ∧ (st.map qcat).sum ≤ 8 ∧ P_D_record a1 a2 a3 σ ∧ ∀ (r : Int) (σ' : qS), Q_D_record a1 a2 a3 σ r σ' → K (.inl r :: st) ls σ'
  | _ => False
def rm_D_record : Room := { frames := 1, cells := 0, slots := 0, locals := 22 }
theorem fl_D_9 : qF R_D 901 1 32 100 R_D F_D 9 0 := ⟨Or.inr ⟨rfl, rfl, rfl, rfl, rfl, rfl⟩, by decide, lw_at 789 (by decide +kernel) rfl⟩
theorem fl_D_13 : qF R_D 901 1 32 100 R_D F_D 13 1 := ⟨Or.inr ⟨rfl, rfl, rfl, rfl, rfl, rfl⟩, by decide, lw_at 790 (by decide +kernel) rfl⟩
def k_D_record_51 (QR : Option qA → qS → Prop) (H : Nat → qP) : qP :=
  o_al 0 <| o_gA 901 100 <| o_c (.inl 300) <| o_il 1 <| o_bi z_mul <| o_al 0 <| o_gA 901 102 <| o_il 1 <| o_iak 102 16 <| o_bi z_add <| o_ll 2 <| o_jsk 100 4800 <| o_al 0 <| o_gA 901 101 <| o_c (.inl 300) <| o_il 1 <| o_bi z_mul <| o_al 0 <| o_gA 901 102 <| o_il 1 <| o_iak 102 16 <| o_bi z_add <| o_ll 4 <| o_jsk 101 4800 <| o_al 0 <| o_gA 901 102 <| o_il 1 <| o_dup2 <| o_iak 102 16 <| o_c (.inl 1) <| o_bi z_add <| o_isk 102 16 <| o_al 0 <| o_gA 901 102 <| o_il 1 <| o_iak 102 16 <| o_ri QR
def k_D_record_49 (QR : Option qA → qS → Prop) (H : Nat → qP) : qP :=
  o_c (.inl 0) <| o_ri QR
def k_D_record_39 (QR : Option qA → qS → Prop) (H : Nat → qP) : qP :=
  o_pI 901 118 <| o_al 0 <| o_gI 901 118 <| o_if (fun a => a ≤ 0) (k_D_record_51 QR H) (k_D_record_49 QR H)
def k_D_record_38 (QR : Option qA → qS → Prop) (H : Nat → qP) : qP :=
  o_c (.inl 0) <| k_D_record_39 QR H
def k_D_record_34 (QR : Option qA → qS → Prop) (H : Nat → qP) : qP :=
  o_c (.inl 2) <| k_D_record_39 QR H
def k_D_record_27 (QR : Option qA → qS → Prop) (H : Nat → qP) : qP :=
  o_al 0 <| o_gZ 901 119 <| o_if (fun a => a = 0) (k_D_record_38 QR H) (k_D_record_34 QR H)
def k_D_record_15 (QR : Option qA → qS → Prop) (H : Nat → qP) : qP :=
  o_al 0 <| o_gA 901 102 <| o_il 1 <| o_iak 102 16 <| o_c (.inl 300) <| o_i2 (fun a b => a = b) (k_D_record_34 QR H) (k_D_record_27 QR H)
def k_D_record_11 (QR : Option qA → qS → Prop) (H : Nat → qP) : qP :=
  o_c (.inl 1) <| k_D_record_39 QR H
def k_D_record_0 (QR : Option qA → qS → Prop) (H : Nat → qP) : qP :=
  o_al 0 <| o_il 1 <| o_c (.inl 0) <| o_c (.inl 15) <| oc_D_in <| o_if (fun a => ¬ a = 0) (k_D_record_15 QR H) (k_D_record_11 QR H)
set_option maxRecDepth 8000 in
theorem s_D_record_51 {l : Launch} {ad : Nat → Nat} {D : va_G} {cA : Nat → ClassId} {WW : Nat → qP} {QR : Option qA → qS → Prop} (S : qSnd l rm_D_record ad D cA R_D b_D_record 6 WW) (Q : qRet (some .int) b_D_record WW QR) : qle (k_D_record_51 QR WW) WW 51 :=
  S.aload_n d_D_record_51 rfl <| S.gA fl_D_9 (by decide) d_D_record_52 <| S.sipush d_D_record_55 (by decide) <| S.iload_n d_D_record_58 rfl <| S.imul d_D_record_59 <| S.aload_n d_D_record_60 rfl <| S.gA fl_D_16 (by decide) d_D_record_61 <| S.iload_n d_D_record_64 rfl <| S.iak (by decide) d_D_record_65 <| S.iadd d_D_record_66 <| S.lload_n d_D_record_67 rfl <| S.jsk (by decide) d_D_record_68 <| S.aload_n d_D_record_69 rfl <| S.gA fl_D_13 (by decide) d_D_record_70 <| S.sipush d_D_record_73 (by decide) <| S.iload_n d_D_record_76 rfl <| S.imul d_D_record_77 <| S.aload_n d_D_record_78 rfl <| S.gA fl_D_16 (by decide) d_D_record_79 <| S.iload_n d_D_record_82 rfl <| S.iak (by decide) d_D_record_83 <| S.iadd d_D_record_84 <| S.lload d_D_record_85 <| S.jsk (by decide) d_D_record_87 <| S.aload_n d_D_record_88 rfl <| S.gA fl_D_16 (by decide) d_D_record_89 <| S.iload_n d_D_record_92 rfl <| S.dup2 d_D_record_93 <| S.iak (by decide) d_D_record_94 <| S.iconst d_D_record_95 (by decide) <| S.iadd d_D_record_96 <| S.isk (by decide) d_D_record_97 <| S.aload_n d_D_record_98 rfl <| S.gA fl_D_16 (by decide) d_D_record_99 <| S.iload_n d_D_record_102 rfl <| S.iak (by decide) d_D_record_103 <| Q.1 rfl _ d_D_record_104
set_option maxRecDepth 8000 in
theorem s_D_record_49 {l : Launch} {ad : Nat → Nat} {D : va_G} {cA : Nat → ClassId} {WW : Nat → qP} {QR : Option qA → qS → Prop} (S : qSnd l rm_D_record ad D cA R_D b_D_record 6 WW) (Q : qRet (some .int) b_D_record WW QR) : qle (k_D_record_49 QR WW) WW 49 :=
  S.iconst d_D_record_49 (by decide) <| Q.1 rfl _ d_D_record_50
set_option maxRecDepth 8000 in
theorem s_D_record_39 {l : Launch} {ad : Nat → Nat} {D : va_G} {cA : Nat → ClassId} {WW : Nat → qP} {QR : Option qA → qS → Prop} (S : qSnd l rm_D_record ad D cA R_D b_D_record 6 WW) (Q : qRet (some .int) b_D_record WW QR) : qle (k_D_record_39 QR WW) WW 39 :=
  S.pI fl_D_87 (by decide) (by decide +kernel) d_D_record_39 <| S.aload_n d_D_record_42 rfl <| S.gI fl_D_87 (by decide) d_D_record_43 <| S.if_le d_D_record_46 (by decide) (s_D_record_51 S Q) (s_D_record_49 S Q)
set_option maxRecDepth 8000 in
theorem s_D_record_38 {l : Launch} {ad : Nat → Nat} {D : va_G} {cA : Nat → ClassId} {WW : Nat → qP} {QR : Option qA → qS → Prop} (S : qSnd l rm_D_record ad D cA R_D b_D_record 6 WW) (Q : qRet (some .int) b_D_record WW QR) : qle (k_D_record_38 QR WW) WW 38 :=
  S.iconst d_D_record_38 (by decide) <| (s_D_record_39 S Q)
set_option maxRecDepth 8000 in
theorem s_D_record_34 {l : Launch} {ad : Nat → Nat} {D : va_G} {cA : Nat → ClassId} {WW : Nat → qP} {QR : Option qA → qS → Prop} (S : qSnd l rm_D_record ad D cA R_D b_D_record 6 WW) (Q : qRet (some .int) b_D_record WW QR) : qle (k_D_record_34 QR WW) WW 34 :=
  S.iconst d_D_record_34 (by decide) <| S.goto d_D_record_35 (by decide) (s_D_record_39 S Q)
set_option maxRecDepth 8000 in
theorem s_D_record_27 {l : Launch} {ad : Nat → Nat} {D : va_G} {cA : Nat → ClassId} {WW : Nat → qP} {QR : Option qA → qS → Prop} (S : qSnd l rm_D_record ad D cA R_D b_D_record 6 WW) (Q : qRet (some .int) b_D_record WW QR) : qle (k_D_record_27 QR WW) WW 27 :=
  S.aload_n d_D_record_27 rfl <| S.gZ fl_D_139 (by decide) d_D_record_28 <| S.if_eq d_D_record_31 (by decide) (s_D_record_38 S Q) (s_D_record_34 S Q)
set_option maxRecDepth 8000 in
theorem s_D_record_15 {l : Launch} {ad : Nat → Nat} {D : va_G} {cA : Nat → ClassId} {WW : Nat → qP} {QR : Option qA → qS → Prop} (S : qSnd l rm_D_record ad D cA R_D b_D_record 6 WW) (Q : qRet (some .int) b_D_record WW QR) : qle (k_D_record_15 QR WW) WW 15 :=
  S.aload_n d_D_record_15 rfl <| S.gA fl_D_16 (by decide) d_D_record_16 <| S.iload_n d_D_record_19 rfl <| S.iak (by decide) d_D_record_20 <| S.sipush d_D_record_21 (by decide) <| S.icmp_eq d_D_record_24 (by decide) (s_D_record_34 S Q) (s_D_record_27 S Q)
set_option maxRecDepth 8000 in
theorem s_D_record_11 {l : Launch} {ad : Nat → Nat} {D : va_G} {cA : Nat → ClassId} {WW : Nat → qP} {QR : Option qA → qS → Prop} (S : qSnd l rm_D_record ad D cA R_D b_D_record 6 WW) (Q : qRet (some .int) b_D_record WW QR) : qle (k_D_record_11 QR WW) WW 11 :=
  S.iconst d_D_record_11 (by decide) <| S.goto d_D_record_12 (by decide) (s_D_record_39 S Q)
set_option maxRecDepth 8000 in
theorem s_D_record_0 {l : Launch} {ad : Nat → Nat} {D : va_G} {cA : Nat → ClassId} {WW : Nat → qP} {QR : Option qA → qS → Prop} (S : qSnd l rm_D_record ad D cA R_D b_D_record 6 WW) (Q : qRet (some .int) b_D_record WW QR) : qle (k_D_record_0 QR WW) WW 0 :=
  S.aload_n d_D_record_0 rfl <| S.iload_n d_D_record_1 rfl <| S.iconst d_D_record_2 (by decide) <| S.bipush d_D_record_3 (by decide) <| sc_D_136 S (by decide) d_D_record_5 <| S.if_ne d_D_record_8 (by decide) (s_D_record_15 S Q) (s_D_record_11 S Q)
theorem w_D_record {l : Launch} {ad : Nat → Nat} {D : va_G} {cA : Nat → ClassId} {WW : Nat → qP} {QR : Option qA → qS → Prop} (S : qSnd l rm_D_record ad D cA R_D b_D_record 6 WW) (Q : qRet (some .int) b_D_record WW QR) (a1 : Int) (a2 : Int) (a3 : Int) (σ : qS) (ha1 : r32 a1) (ha2 : r64 a2) (ha3 : r64 a3) (hσ : qoS σ) (h : P_D_record a1 a2 a3 σ) (hq : ∀ (r : Int) σ', Q_D_record a1 a2 a3 σ r σ' → QR (some (.inl r)) σ') : WW 0 [] [some (.inr (.inr 901)), some (.inl a1), some (.inr (.inl a2)), none, some (.inr (.inl a3)), none] σ := by
  refine s_D_record_0 S Q _ _ _ ?_
  simp only [k_D_record_0, k_D_record_11, k_D_record_15, k_D_record_27, k_D_record_34, k_D_record_38, k_D_record_39, k_D_record_49, k_D_record_51, oc_D_in, o_c, o_il, o_ll, o_al, o_is, o_as, o_ls, o_inc, o_bi, o_bid, o_bl, o_bld, o_sl, o_i2l, o_l2i, o_dup, o_dup2, o_pop, o_pop2, o_if, o_i2, o_l2, swg, o_sw, o_gI, o_gZ, o_gJ, o_gA, o_gR, o_pI, o_pZ, o_pJ, o_pR, o_ia, o_iak, o_zak, o_ja, o_jak, o_is_, o_isk, o_zsk, o_js_, o_jsk, o_len, o_ri, o_rz, o_rl, o_rv, ls1, ls2, lks, lkj, List.getD_cons_zero, List.getD_cons_succ, List.set_cons_zero, List.set_cons_succ, qcat, true_and, and_true, List.map_nil, List.map_cons, List.sum_nil, List.sum_cons, Nat.reduceAdd, Nat.reduceLeDiff, Nat.zero_le, Int.reduceAdd, Int.reduceNeg, Int.reduceEq, or_true, true_or, Decidable.not_not, false_implies, not_false_eq_true, true_implies, not_true_eq_false, Int.reduceLT, Int.reduceLE, su_s]
  unfold Q_D_record trc at hq
  refine dinF (fun h1 => ⟨by omega, fun e3 => hq _ _ (by rw [if_neg (fun x => x h1), if_pos (Or.inl e3)]; exact Or.inl ⟨by omega, rfl, rfl⟩), fun n3 _ => ⟨fun e => ?_, fun e => hq _ _ (by rw [if_neg (fun x => x h1), if_pos (Or.inr e)]; exact Or.inl ⟨by omega, rfl, rfl⟩)⟩⟩) (fun h1 => hq _ _ (by rw [if_pos h1]; exact Or.inl ⟨by omega, rfl, rfl⟩))
  have hs := h a1 h1.1 (by omega)
  simp (disch := omega) only [su_k]
  have e1 : z_add (z_mul 300 a1) (σ 102 a1) = 300 * a1 + σ 102 a1 := by unfold z_add z_mul; rw [w32_i (300 * a1) (by omega) (by omega), w32_i _ (by omega) (by omega)]
  have e2 : z_add (σ 102 a1) 1 = σ 102 a1 + 1 := by unfold z_add; exact w32_i _ (by omega) (by omega)
  rw [e1, e2]
  refine ⟨by omega, by omega, by omega, by omega, by omega, by omega, by omega, hq _ _ ?_⟩
  rw [if_neg (fun x => x h1), if_neg (fun x => x.elim n3 (fun y => y e))]
  exact Or.inr ⟨rfl, rfl, rfl⟩
theorem c_D_record (l : Launch) (ad : Nat → Nat) (D : va_G) (cA : Nat → ClassId) : qC l ad D cA y_D_record (Cond.code y_D_record b_D_record 6 (some .int) :: lw_g) rm_D_record pre_D_record post_D_record := by
  refine qC_of (own := R_D) (by decide) rfl ⟨rfl, rfl⟩ ?_ ?_
  · intro av σ h; unfold pre_D_record at h; split at h
    · simp [qen]
    · exact h.elim
  · intro WW QR S Q av σ hav hσ h hq; unfold pre_D_record at h; split at h
    next o a1 a2 a3 =>
      obtain ⟨rfl, h⟩ := h
      exact w_D_record S Q a1 a2 a3 σ (hav _ (List.mem_of_getElem? (i := 1) rfl)) (hav _ (List.mem_of_getElem? (i := 2) rfl)) (hav _ (List.mem_of_getElem? (i := 3) rfl)) hσ h (fun r σ' h' => hq _ σ' h')
    next => exact h.elim
def tdr (σ : qS) (j : Int) : Int := if ¬ (0 ≤ j ∧ j ≤ 7) then 1 else if σ 119 0 ≠ 0 then 2 else 0
def P_D_drop (_j : Int) (_σ : qS) : Prop := True
def Q_D_drop (j : Int) (σ : qS) (r : Int) (σ' : qS) : Prop := (0 < tdr σ j ∧ σ' = su σ 118 0 (tdr σ j) ∧ r = 0) ∨ (tdr σ j = 0 ∧ σ' = su (su σ 118 0 0) 113 j 0 ∧ r = σ 113 j)
def pre_D_drop (av : List qA) (σ : qS) : Prop := match av with
  | [.inr (.inr o), .inl a1] => o = 901 ∧ P_D_drop a1 σ
  | _ => False
def post_D_drop (av : List qA) (σ : qS) (r : Option qA) (σ' : qS) : Prop := match av, r with
  | [_, .inl a1], some (.inl r) => Q_D_drop a1 σ r σ'
  | _, _ => False
def oc_D_drop (K : qP) : qP := fun st ls σ => match st with
  | .inl a1 :: .inr (.inr o) :: st => o = 901 ∧ (st.map qcat).sum ≤ 8 ∧ P_D_drop a1 σ ∧ ∀ (r : Int) (σ' : qS), Q_D_drop a1 σ r σ' → K (.inl r :: st) ls σ'
  | _ => False
def rm_D_drop : Room := { frames := 1, cells := 0, slots := 0, locals := 22 }
theorem fl_D_50 : qF R_D 901 1 32 100 R_D F_D 50 13 := ⟨Or.inr ⟨rfl, rfl, rfl, rfl, rfl, rfl⟩, by decide, lw_at 802 (by decide +kernel) rfl⟩
def k_D_drop_39 (QR : Option qA → qS → Prop) (H : Nat → qP) : qP :=
  o_al 0 <| o_gA 901 113 <| o_il 1 <| o_zak 113 8 <| o_is 2 <| o_al 0 <| o_gA 901 113 <| o_il 1 <| o_c (.inl 0) <| o_zsk 113 8 <| o_il 2 <| o_rz QR
def k_D_drop_37 (QR : Option qA → qS → Prop) (H : Nat → qP) : qP :=
  o_c (.inl 0) <| o_rz QR
def k_D_drop_27 (QR : Option qA → qS → Prop) (H : Nat → qP) : qP :=
  o_pI 901 118 <| o_al 0 <| o_gI 901 118 <| o_if (fun a => a ≤ 0) (k_D_drop_39 QR H) (k_D_drop_37 QR H)
def k_D_drop_26 (QR : Option qA → qS → Prop) (H : Nat → qP) : qP :=
  o_c (.inl 0) <| k_D_drop_27 QR H
def k_D_drop_22 (QR : Option qA → qS → Prop) (H : Nat → qP) : qP :=
  o_c (.inl 2) <| k_D_drop_27 QR H
def k_D_drop_15 (QR : Option qA → qS → Prop) (H : Nat → qP) : qP :=
  o_al 0 <| o_gZ 901 119 <| o_if (fun a => a = 0) (k_D_drop_26 QR H) (k_D_drop_22 QR H)
def k_D_drop_11 (QR : Option qA → qS → Prop) (H : Nat → qP) : qP :=
  o_c (.inl 1) <| k_D_drop_27 QR H
def k_D_drop_0 (QR : Option qA → qS → Prop) (H : Nat → qP) : qP :=
  o_al 0 <| o_il 1 <| o_c (.inl 0) <| o_c (.inl 7) <| oc_D_in <| o_if (fun a => ¬ a = 0) (k_D_drop_15 QR H) (k_D_drop_11 QR H)
set_option maxRecDepth 8000 in
theorem s_D_drop_39 {l : Launch} {ad : Nat → Nat} {D : va_G} {cA : Nat → ClassId} {WW : Nat → qP} {QR : Option qA → qS → Prop} (S : qSnd l rm_D_drop ad D cA R_D b_D_drop 3 WW) (Q : qRet (some .boolean) b_D_drop WW QR) : qle (k_D_drop_39 QR WW) WW 39 :=
  S.aload_n d_D_drop_39 rfl <| S.gA fl_D_50 (by decide) d_D_drop_40 <| S.iload_n d_D_drop_43 rfl <| S.zak (by decide) d_D_drop_44 <| S.istore_n d_D_drop_45 rfl (by decide) <| S.aload_n d_D_drop_46 rfl <| S.gA fl_D_50 (by decide) d_D_drop_47 <| S.iload_n d_D_drop_50 rfl <| S.iconst d_D_drop_51 (by decide) <| S.zast (by decide) d_D_drop_52 <| S.iload_n d_D_drop_53 rfl <| Q.2.1 rfl _ d_D_drop_54
set_option maxRecDepth 8000 in
theorem s_D_drop_37 {l : Launch} {ad : Nat → Nat} {D : va_G} {cA : Nat → ClassId} {WW : Nat → qP} {QR : Option qA → qS → Prop} (S : qSnd l rm_D_drop ad D cA R_D b_D_drop 3 WW) (Q : qRet (some .boolean) b_D_drop WW QR) : qle (k_D_drop_37 QR WW) WW 37 :=
  S.iconst d_D_drop_37 (by decide) <| Q.2.1 rfl _ d_D_drop_38
set_option maxRecDepth 8000 in
theorem s_D_drop_27 {l : Launch} {ad : Nat → Nat} {D : va_G} {cA : Nat → ClassId} {WW : Nat → qP} {QR : Option qA → qS → Prop} (S : qSnd l rm_D_drop ad D cA R_D b_D_drop 3 WW) (Q : qRet (some .boolean) b_D_drop WW QR) : qle (k_D_drop_27 QR WW) WW 27 :=
  S.pI fl_D_87 (by decide) (by decide +kernel) d_D_drop_27 <| S.aload_n d_D_drop_30 rfl <| S.gI fl_D_87 (by decide) d_D_drop_31 <| S.if_le d_D_drop_34 (by decide) (s_D_drop_39 S Q) (s_D_drop_37 S Q)
set_option maxRecDepth 8000 in
theorem s_D_drop_26 {l : Launch} {ad : Nat → Nat} {D : va_G} {cA : Nat → ClassId} {WW : Nat → qP} {QR : Option qA → qS → Prop} (S : qSnd l rm_D_drop ad D cA R_D b_D_drop 3 WW) (Q : qRet (some .boolean) b_D_drop WW QR) : qle (k_D_drop_26 QR WW) WW 26 :=
  S.iconst d_D_drop_26 (by decide) <| (s_D_drop_27 S Q)
set_option maxRecDepth 8000 in
theorem s_D_drop_22 {l : Launch} {ad : Nat → Nat} {D : va_G} {cA : Nat → ClassId} {WW : Nat → qP} {QR : Option qA → qS → Prop} (S : qSnd l rm_D_drop ad D cA R_D b_D_drop 3 WW) (Q : qRet (some .boolean) b_D_drop WW QR) : qle (k_D_drop_22 QR WW) WW 22 :=
  S.iconst d_D_drop_22 (by decide) <| S.goto d_D_drop_23 (by decide) (s_D_drop_27 S Q)
set_option maxRecDepth 8000 in
theorem s_D_drop_15 {l : Launch} {ad : Nat → Nat} {D : va_G} {cA : Nat → ClassId} {WW : Nat → qP} {QR : Option qA → qS → Prop} (S : qSnd l rm_D_drop ad D cA R_D b_D_drop 3 WW) (Q : qRet (some .boolean) b_D_drop WW QR) : qle (k_D_drop_15 QR WW) WW 15 :=
  S.aload_n d_D_drop_15 rfl <| S.gZ fl_D_139 (by decide) d_D_drop_16 <| S.if_eq d_D_drop_19 (by decide) (s_D_drop_26 S Q) (s_D_drop_22 S Q)
set_option maxRecDepth 8000 in
theorem s_D_drop_11 {l : Launch} {ad : Nat → Nat} {D : va_G} {cA : Nat → ClassId} {WW : Nat → qP} {QR : Option qA → qS → Prop} (S : qSnd l rm_D_drop ad D cA R_D b_D_drop 3 WW) (Q : qRet (some .boolean) b_D_drop WW QR) : qle (k_D_drop_11 QR WW) WW 11 :=
  S.iconst d_D_drop_11 (by decide) <| S.goto d_D_drop_12 (by decide) (s_D_drop_27 S Q)
set_option maxRecDepth 8000 in
theorem s_D_drop_0 {l : Launch} {ad : Nat → Nat} {D : va_G} {cA : Nat → ClassId} {WW : Nat → qP} {QR : Option qA → qS → Prop} (S : qSnd l rm_D_drop ad D cA R_D b_D_drop 3 WW) (Q : qRet (some .boolean) b_D_drop WW QR) : qle (k_D_drop_0 QR WW) WW 0 :=
  S.aload_n d_D_drop_0 rfl <| S.iload_n d_D_drop_1 rfl <| S.iconst d_D_drop_2 (by decide) <| S.bipush d_D_drop_3 (by decide) <| sc_D_136 S (by decide) d_D_drop_5 <| S.if_ne d_D_drop_8 (by decide) (s_D_drop_15 S Q) (s_D_drop_11 S Q)
theorem w_D_drop {l : Launch} {ad : Nat → Nat} {D : va_G} {cA : Nat → ClassId} {WW : Nat → qP} {QR : Option qA → qS → Prop} (S : qSnd l rm_D_drop ad D cA R_D b_D_drop 3 WW) (Q : qRet (some .boolean) b_D_drop WW QR) (a1 : Int) (σ : qS) (ha1 : r32 a1) (hσ : qoS σ) (h : P_D_drop a1 σ) (hq : ∀ (r : Int) σ', Q_D_drop a1 σ r σ' → QR (some (.inl r)) σ') : WW 0 [] [some (.inr (.inr 901)), some (.inl a1), none] σ := by
  refine s_D_drop_0 S Q _ _ _ ?_
  simp only [k_D_drop_0, k_D_drop_11, k_D_drop_15, k_D_drop_22, k_D_drop_26, k_D_drop_27, k_D_drop_37, k_D_drop_39, oc_D_in, o_c, o_il, o_ll, o_al, o_is, o_as, o_ls, o_inc, o_bi, o_bid, o_bl, o_bld, o_sl, o_i2l, o_l2i, o_dup, o_dup2, o_pop, o_pop2, o_if, o_i2, o_l2, swg, o_sw, o_gI, o_gZ, o_gJ, o_gA, o_gR, o_pI, o_pZ, o_pJ, o_pR, o_ia, o_iak, o_zak, o_ja, o_jak, o_is_, o_isk, o_zsk, o_js_, o_jsk, o_len, o_ri, o_rz, o_rl, o_rv, ls1, ls2, lks, lkj, List.getD_cons_zero, List.getD_cons_succ, List.set_cons_zero, List.set_cons_succ, qcat, true_and, and_true, List.map_nil, List.map_cons, List.sum_nil, List.sum_cons, Nat.reduceAdd, Nat.reduceLeDiff, Nat.zero_le, Int.reduceAdd, Int.reduceNeg, Int.reduceEq, or_true, true_or, Decidable.not_not, false_implies, not_false_eq_true, true_implies, not_true_eq_false, Int.reduceLT, Int.reduceLE, su_s]
  unfold Q_D_drop tdr at hq
  exact dinF (fun h1 _ => ⟨fun e => ⟨by omega, by rw [su_k (by decide)]; exact fun hm => ⟨by omega, hm, hq _ _ (by rw [if_neg (fun x => x h1), if_neg (fun x => x e)]; exact Or.inr ⟨rfl, rfl, rfl⟩)⟩⟩, fun e => hq _ _ (by rw [if_neg (fun x => x h1), if_pos e]; exact Or.inl ⟨by omega, rfl, rfl⟩)⟩) (fun h1 => hq _ _ (by rw [if_pos h1]; exact Or.inl ⟨by omega, rfl, rfl⟩))
theorem c_D_drop (l : Launch) (ad : Nat → Nat) (D : va_G) (cA : Nat → ClassId) : qC l ad D cA y_D_drop (Cond.code y_D_drop b_D_drop 3 (some .boolean) :: lw_g) rm_D_drop pre_D_drop post_D_drop := by
  refine qC_of (own := R_D) (by decide) rfl ⟨rfl, rfl⟩ ?_ ?_
  · intro av σ h; unfold pre_D_drop at h; split at h
    · simp [qen]
    · exact h.elim
  · intro WW QR S Q av σ hav hσ h hq; unfold pre_D_drop at h; split at h
    next o a1 =>
      obtain ⟨rfl, h⟩ := h
      exact w_D_drop S Q a1 σ (hav _ (List.mem_of_getElem? (i := 1) rfl)) hσ h (fun r σ' h' => hq _ σ' h')
    next => exact h.elim
def tcd (σ : qS) (o a : Int) : Int := if ¬ ((0 ≤ o ∧ o ≤ 18) ∧ (o = 4 ∨ o = 5 → 0 ≤ a ∧ a ≤ 3) ∧ (o = 15 ∨ o = 16 → 0 ≤ a ∧ a ≤ 40)) then 1 else if σ 115 0 = 40 ∨ σ 119 0 ≠ 0 then 2 else 0
def P_D_told (_f _i _v : Int) (σ : qS) : Prop := ∀ f, 0 ≤ f → f < 16 → 0 ≤ σ 102 f ∧ σ 102 f ≤ 300
def ttl (σ : qS) (f i : Int) : Int := if ¬ (0 ≤ f ∧ f ≤ 15) then 1 else if σ 119 0 ≠ 0 then 2 else if ¬ (0 ≤ i ∧ i ≤ σ 102 f - 1) then 1 else 0
def Q_D_told (f i v : Int) (σ : qS) (r : Int) (σ' : qS) : Prop := σ' = su σ 118 0 (ttl σ f i) ∧ ((0 < ttl σ f i ∧ r = 0) ∨ (ttl σ f i = 0 ∧ r = if v ≠ 0 then σ 101 (300 * f + i) else σ 100 (300 * f + i)))
def pre_D_told (av : List qA) (σ : qS) : Prop := match av with
  | [.inr (.inr o), .inl a1, .inl a2, .inl a3] => o = 901 ∧ P_D_told a1 a2 a3 σ
  | _ => False
def post_D_told (av : List qA) (σ : qS) (r : Option qA) (σ' : qS) : Prop := match av, r with
  | [_, .inl a1, .inl a2, .inl a3], some (.inr (.inl r)) => Q_D_told a1 a2 a3 σ r σ'
  | _, _ => False
def oc_D_told (K : qP) : qP := fun st ls σ => match st with
  | .inl a3 :: .inl a2 :: .inl a1 :: .inr (.inr o) :: st => o = 901 ∧ (st.map qcat).sum ≤ 8 ∧ P_D_told a1 a2 a3 σ ∧ ∀ (r : Int) (σ' : qS), Q_D_told a1 a2 a3 σ r σ' → K (.inr (.inl r) :: st) ls σ'
  | _ => False
def rm_D_told : Room := { frames := 1, cells := 0, slots := 0, locals := 22 }
def k_D_told_90 (QR : Option qA → qS → Prop) (H : Nat → qP) : qP :=
  o_rl QR
def k_D_told_78 (QR : Option qA → qS → Prop) (H : Nat → qP) : qP :=
  o_al 0 <| o_gA 901 100 <| o_c (.inl 300) <| o_il 1 <| o_bi z_mul <| o_il 2 <| o_bi z_add <| o_jak 100 4800 <| k_D_told_90 QR H
def k_D_told_63 (QR : Option qA → qS → Prop) (H : Nat → qP) : qP :=
  o_al 0 <| o_gA 901 101 <| o_c (.inl 300) <| o_il 1 <| o_bi z_mul <| o_il 2 <| o_bi z_add <| o_jak 101 4800 <| k_D_told_90 QR H
def k_D_told_59 (QR : Option qA → qS → Prop) (H : Nat → qP) : qP :=
  o_il 3 <| o_if (fun a => a = 0) (k_D_told_78 QR H) (k_D_told_63 QR H)
def k_D_told_57 (QR : Option qA → qS → Prop) (H : Nat → qP) : qP :=
  o_c (.inr (.inl 0)) <| o_rl QR
def k_D_told_47 (QR : Option qA → qS → Prop) (H : Nat → qP) : qP :=
  o_pI 901 118 <| o_al 0 <| o_gI 901 118 <| o_if (fun a => a ≤ 0) (k_D_told_59 QR H) (k_D_told_57 QR H)
def k_D_told_46 (QR : Option qA → qS → Prop) (H : Nat → qP) : qP :=
  o_c (.inl 0) <| k_D_told_47 QR H
def k_D_told_42 (QR : Option qA → qS → Prop) (H : Nat → qP) : qP :=
  o_c (.inl 1) <| k_D_told_47 QR H
def k_D_told_26 (QR : Option qA → qS → Prop) (H : Nat → qP) : qP :=
  o_il 2 <| o_c (.inl 0) <| o_al 0 <| o_gA 901 102 <| o_il 1 <| o_iak 102 16 <| o_c (.inl 1) <| o_bi z_sub <| oc_D_in <| o_if (fun a => ¬ a = 0) (k_D_told_46 QR H) (k_D_told_42 QR H)
def k_D_told_22 (QR : Option qA → qS → Prop) (H : Nat → qP) : qP :=
  o_c (.inl 2) <| k_D_told_47 QR H
def k_D_told_15 (QR : Option qA → qS → Prop) (H : Nat → qP) : qP :=
  o_al 0 <| o_gZ 901 119 <| o_if (fun a => a = 0) (k_D_told_26 QR H) (k_D_told_22 QR H)
def k_D_told_11 (QR : Option qA → qS → Prop) (H : Nat → qP) : qP :=
  o_c (.inl 1) <| k_D_told_47 QR H
def k_D_told_0 (QR : Option qA → qS → Prop) (H : Nat → qP) : qP :=
  o_al 0 <| o_il 1 <| o_c (.inl 0) <| o_c (.inl 15) <| oc_D_in <| o_if (fun a => ¬ a = 0) (k_D_told_15 QR H) (k_D_told_11 QR H)
set_option maxRecDepth 8000 in
theorem s_D_told_90 {l : Launch} {ad : Nat → Nat} {D : va_G} {cA : Nat → ClassId} {WW : Nat → qP} {QR : Option qA → qS → Prop} (S : qSnd l rm_D_told ad D cA R_D b_D_told 4 WW) (Q : qRet (some .long) b_D_told WW QR) : qle (k_D_told_90 QR WW) WW 90 :=
  Q.2.2.1 rfl _ d_D_told_90
set_option maxRecDepth 8000 in
theorem s_D_told_78 {l : Launch} {ad : Nat → Nat} {D : va_G} {cA : Nat → ClassId} {WW : Nat → qP} {QR : Option qA → qS → Prop} (S : qSnd l rm_D_told ad D cA R_D b_D_told 4 WW) (Q : qRet (some .long) b_D_told WW QR) : qle (k_D_told_78 QR WW) WW 78 :=
  S.aload_n d_D_told_78 rfl <| S.gA fl_D_9 (by decide) d_D_told_79 <| S.sipush d_D_told_82 (by decide) <| S.iload_n d_D_told_85 rfl <| S.imul d_D_told_86 <| S.iload_n d_D_told_87 rfl <| S.iadd d_D_told_88 <| S.jak (by decide) d_D_told_89 <| (s_D_told_90 S Q)
set_option maxRecDepth 8000 in
theorem s_D_told_63 {l : Launch} {ad : Nat → Nat} {D : va_G} {cA : Nat → ClassId} {WW : Nat → qP} {QR : Option qA → qS → Prop} (S : qSnd l rm_D_told ad D cA R_D b_D_told 4 WW) (Q : qRet (some .long) b_D_told WW QR) : qle (k_D_told_63 QR WW) WW 63 :=
  S.aload_n d_D_told_63 rfl <| S.gA fl_D_13 (by decide) d_D_told_64 <| S.sipush d_D_told_67 (by decide) <| S.iload_n d_D_told_70 rfl <| S.imul d_D_told_71 <| S.iload_n d_D_told_72 rfl <| S.iadd d_D_told_73 <| S.jak (by decide) d_D_told_74 <| S.goto d_D_told_75 (by decide) (s_D_told_90 S Q)
set_option maxRecDepth 8000 in
theorem s_D_told_59 {l : Launch} {ad : Nat → Nat} {D : va_G} {cA : Nat → ClassId} {WW : Nat → qP} {QR : Option qA → qS → Prop} (S : qSnd l rm_D_told ad D cA R_D b_D_told 4 WW) (Q : qRet (some .long) b_D_told WW QR) : qle (k_D_told_59 QR WW) WW 59 :=
  S.iload_n d_D_told_59 rfl <| S.if_eq d_D_told_60 (by decide) (s_D_told_78 S Q) (s_D_told_63 S Q)
set_option maxRecDepth 8000 in
theorem s_D_told_57 {l : Launch} {ad : Nat → Nat} {D : va_G} {cA : Nat → ClassId} {WW : Nat → qP} {QR : Option qA → qS → Prop} (S : qSnd l rm_D_told ad D cA R_D b_D_told 4 WW) (Q : qRet (some .long) b_D_told WW QR) : qle (k_D_told_57 QR WW) WW 57 :=
  S.lconst d_D_told_57 (by decide) <| Q.2.2.1 rfl _ d_D_told_58
set_option maxRecDepth 8000 in
theorem s_D_told_47 {l : Launch} {ad : Nat → Nat} {D : va_G} {cA : Nat → ClassId} {WW : Nat → qP} {QR : Option qA → qS → Prop} (S : qSnd l rm_D_told ad D cA R_D b_D_told 4 WW) (Q : qRet (some .long) b_D_told WW QR) : qle (k_D_told_47 QR WW) WW 47 :=
  S.pI fl_D_87 (by decide) (by decide +kernel) d_D_told_47 <| S.aload_n d_D_told_50 rfl <| S.gI fl_D_87 (by decide) d_D_told_51 <| S.if_le d_D_told_54 (by decide) (s_D_told_59 S Q) (s_D_told_57 S Q)
set_option maxRecDepth 8000 in
theorem s_D_told_46 {l : Launch} {ad : Nat → Nat} {D : va_G} {cA : Nat → ClassId} {WW : Nat → qP} {QR : Option qA → qS → Prop} (S : qSnd l rm_D_told ad D cA R_D b_D_told 4 WW) (Q : qRet (some .long) b_D_told WW QR) : qle (k_D_told_46 QR WW) WW 46 :=
  S.iconst d_D_told_46 (by decide) <| (s_D_told_47 S Q)
set_option maxRecDepth 8000 in
theorem s_D_told_42 {l : Launch} {ad : Nat → Nat} {D : va_G} {cA : Nat → ClassId} {WW : Nat → qP} {QR : Option qA → qS → Prop} (S : qSnd l rm_D_told ad D cA R_D b_D_told 4 WW) (Q : qRet (some .long) b_D_told WW QR) : qle (k_D_told_42 QR WW) WW 42 :=
  S.iconst d_D_told_42 (by decide) <| S.goto d_D_told_43 (by decide) (s_D_told_47 S Q)
set_option maxRecDepth 8000 in
theorem s_D_told_26 {l : Launch} {ad : Nat → Nat} {D : va_G} {cA : Nat → ClassId} {WW : Nat → qP} {QR : Option qA → qS → Prop} (S : qSnd l rm_D_told ad D cA R_D b_D_told 4 WW) (Q : qRet (some .long) b_D_told WW QR) : qle (k_D_told_26 QR WW) WW 26 :=
  S.iload_n d_D_told_26 rfl <| S.iconst d_D_told_27 (by decide) <| S.aload_n d_D_told_28 rfl <| S.gA fl_D_16 (by decide) d_D_told_29 <| S.iload_n d_D_told_32 rfl <| S.iak (by decide) d_D_told_33 <| S.iconst d_D_told_34 (by decide) <| S.isub d_D_told_35 <| sc_D_136 S (by decide) d_D_told_36 <| S.if_ne d_D_told_39 (by decide) (s_D_told_46 S Q) (s_D_told_42 S Q)
set_option maxRecDepth 8000 in
theorem s_D_told_22 {l : Launch} {ad : Nat → Nat} {D : va_G} {cA : Nat → ClassId} {WW : Nat → qP} {QR : Option qA → qS → Prop} (S : qSnd l rm_D_told ad D cA R_D b_D_told 4 WW) (Q : qRet (some .long) b_D_told WW QR) : qle (k_D_told_22 QR WW) WW 22 :=
  S.iconst d_D_told_22 (by decide) <| S.goto d_D_told_23 (by decide) (s_D_told_47 S Q)
set_option maxRecDepth 8000 in
theorem s_D_told_15 {l : Launch} {ad : Nat → Nat} {D : va_G} {cA : Nat → ClassId} {WW : Nat → qP} {QR : Option qA → qS → Prop} (S : qSnd l rm_D_told ad D cA R_D b_D_told 4 WW) (Q : qRet (some .long) b_D_told WW QR) : qle (k_D_told_15 QR WW) WW 15 :=
  S.aload_n d_D_told_15 rfl <| S.gZ fl_D_139 (by decide) d_D_told_16 <| S.if_eq d_D_told_19 (by decide) (s_D_told_26 S Q) (s_D_told_22 S Q)
set_option maxRecDepth 8000 in
theorem s_D_told_11 {l : Launch} {ad : Nat → Nat} {D : va_G} {cA : Nat → ClassId} {WW : Nat → qP} {QR : Option qA → qS → Prop} (S : qSnd l rm_D_told ad D cA R_D b_D_told 4 WW) (Q : qRet (some .long) b_D_told WW QR) : qle (k_D_told_11 QR WW) WW 11 :=
  S.iconst d_D_told_11 (by decide) <| S.goto d_D_told_12 (by decide) (s_D_told_47 S Q)
set_option maxRecDepth 8000 in
theorem s_D_told_0 {l : Launch} {ad : Nat → Nat} {D : va_G} {cA : Nat → ClassId} {WW : Nat → qP} {QR : Option qA → qS → Prop} (S : qSnd l rm_D_told ad D cA R_D b_D_told 4 WW) (Q : qRet (some .long) b_D_told WW QR) : qle (k_D_told_0 QR WW) WW 0 :=
  S.aload_n d_D_told_0 rfl <| S.iload_n d_D_told_1 rfl <| S.iconst d_D_told_2 (by decide) <| S.bipush d_D_told_3 (by decide) <| sc_D_136 S (by decide) d_D_told_5 <| S.if_ne d_D_told_8 (by decide) (s_D_told_15 S Q) (s_D_told_11 S Q)
theorem w_D_told {l : Launch} {ad : Nat → Nat} {D : va_G} {cA : Nat → ClassId} {WW : Nat → qP} {QR : Option qA → qS → Prop} (S : qSnd l rm_D_told ad D cA R_D b_D_told 4 WW) (Q : qRet (some .long) b_D_told WW QR) (a1 : Int) (a2 : Int) (a3 : Int) (σ : qS) (ha1 : r32 a1) (ha2 : r32 a2) (ha3 : r32 a3) (hσ : qoS σ) (h : P_D_told a1 a2 a3 σ) (hq : ∀ (r : Int) σ', Q_D_told a1 a2 a3 σ r σ' → QR (some (.inr (.inl r))) σ') : WW 0 [] [some (.inr (.inr 901)), some (.inl a1), some (.inl a2), some (.inl a3)] σ := by
  refine s_D_told_0 S Q _ _ _ ?_
  simp only [k_D_told_0, k_D_told_11, k_D_told_15, k_D_told_22, k_D_told_26, k_D_told_42, k_D_told_46, k_D_told_47, k_D_told_57, k_D_told_59, k_D_told_63, k_D_told_78, k_D_told_90, oc_D_in, o_c, o_il, o_ll, o_al, o_is, o_as, o_ls, o_inc, o_bi, o_bid, o_bl, o_bld, o_sl, o_i2l, o_l2i, o_dup, o_dup2, o_pop, o_pop2, o_if, o_i2, o_l2, swg, o_sw, o_gI, o_gZ, o_gJ, o_gA, o_gR, o_pI, o_pZ, o_pJ, o_pR, o_ia, o_iak, o_zak, o_ja, o_jak, o_is_, o_isk, o_zsk, o_js_, o_jsk, o_len, o_ri, o_rz, o_rl, o_rv, ls1, ls2, lks, lkj, List.getD_cons_zero, List.getD_cons_succ, List.set_cons_zero, List.set_cons_succ, qcat, true_and, and_true, List.map_nil, List.map_cons, List.sum_nil, List.sum_cons, Nat.reduceAdd, Nat.reduceLeDiff, Nat.zero_le, Int.reduceAdd, Int.reduceNeg, Int.reduceEq, or_true, true_or, Decidable.not_not, false_implies, not_false_eq_true, true_implies, not_true_eq_false, Int.reduceLT, Int.reduceLE, su_s]
  unfold Q_D_told ttl at hq
  refine dinF (fun h1 _ => ⟨fun e => ⟨by omega, ?_⟩, fun e => hq _ _ (by rw [if_neg (fun x => x h1), if_pos e]; exact ⟨rfl, Or.inl ⟨by omega, rfl⟩⟩)⟩) (fun h1 => hq _ _ (by rw [if_pos h1]; exact ⟨rfl, Or.inl ⟨by omega, rfl⟩⟩))
  have hs := h a1 h1.1 (by omega)
  have e1 : z_sub (σ 102 a1) 1 = σ 102 a1 - 1 := by unfold z_sub; exact w32_i _ (by omega) (by omega)
  rw [e1]
  refine dinF (fun h2 => ?_) (fun h2 => hq _ _ (by rw [if_neg (fun x => x h1), if_neg (fun x => x e), if_pos h2]; exact ⟨rfl, Or.inl ⟨by omega, rfl⟩⟩))
  have e2 : z_add (z_mul 300 a1) a2 = 300 * a1 + a2 := by unfold z_add z_mul; rw [w32_i (300 * a1) (by omega) (by omega), w32_i _ (by omega) (by omega)]
  rw [e2, su_k (by decide), su_k (by decide)]
  exact ⟨fun e0 => ⟨by omega, hq _ _ (by rw [if_neg (fun x => x h1), if_neg (fun x => x e), if_neg (fun x => x h2)]; exact ⟨rfl, Or.inr ⟨rfl, by rw [if_neg (fun x => x e0)]⟩⟩)⟩, fun e0 => ⟨by omega, hq _ _ (by rw [if_neg (fun x => x h1), if_neg (fun x => x e), if_neg (fun x => x h2)]; exact ⟨rfl, Or.inr ⟨rfl, by rw [if_pos e0]⟩⟩)⟩⟩
theorem c_D_told (l : Launch) (ad : Nat → Nat) (D : va_G) (cA : Nat → ClassId) : qC l ad D cA y_D_told (Cond.code y_D_told b_D_told 4 (some .long) :: lw_g) rm_D_told pre_D_told post_D_told := by
  refine qC_of (own := R_D) (by decide) rfl ⟨rfl, rfl⟩ ?_ ?_
  · intro av σ h; unfold pre_D_told at h; split at h
    · simp [qen]
    · exact h.elim
  · intro WW QR S Q av σ hav hσ h hq; unfold pre_D_told at h; split at h
    next o a1 a2 a3 =>
      obtain ⟨rfl, h⟩ := h
      exact w_D_told S Q a1 a2 a3 σ (hav _ (List.mem_of_getElem? (i := 1) rfl)) (hav _ (List.mem_of_getElem? (i := 2) rfl)) (hav _ (List.mem_of_getElem? (i := 3) rfl)) hσ h (fun r σ' h' => hq _ σ' h')
    next => exact h.elim
def P_D_code (_o _a : Int) (σ : qS) : Prop := 0 ≤ σ 115 0 ∧ σ 115 0 ≤ 40
def Q_D_code (o a : Int) (σ : qS) (r : Int) (σ' : qS) : Prop := (0 < tcd σ o a ∧ σ' = su σ 118 0 (tcd σ o a) ∧ r = 0) ∨ (tcd σ o a = 0 ∧ r = σ 115 0 + 1 ∧ σ' = su (su (su (su σ 118 0 0) 105 (σ 115 0) o) 107 (σ 115 0) a) 115 0 (σ 115 0 + 1))
def pre_D_code (av : List qA) (σ : qS) : Prop := match av with
  | [.inr (.inr o), .inl a1, .inr (.inl a2)] => o = 901 ∧ P_D_code a1 a2 σ
  | _ => False
def post_D_code (av : List qA) (σ : qS) (r : Option qA) (σ' : qS) : Prop := match av, r with
  | [_, .inl a1, .inr (.inl a2)], some (.inl r) => Q_D_code a1 a2 σ r σ'
  | _, _ => False
def oc_D_code (K : qP) : qP := fun st ls σ => match st with
  | .inr (.inl a2) :: .inl a1 :: .inr (.inr o) :: st => o = 901 ∧ (st.map qcat).sum ≤ 8 ∧ P_D_code a1 a2 σ ∧ ∀ (r : Int) (σ' : qS), Q_D_code a1 a2 σ r σ' → K (.inl r :: st) ls σ'
  | _ => False
def rm_D_code : Room := { frames := 1, cells := 0, slots := 0, locals := 22 }
theorem fl_D_26 : qF R_D 901 1 32 100 R_D F_D 26 5 := ⟨Or.inr ⟨rfl, rfl, rfl, rfl, rfl, rfl⟩, by decide, lw_at 794 (by decide +kernel) rfl⟩
theorem fl_D_32 : qF R_D 901 1 32 100 R_D F_D 32 7 := ⟨Or.inr ⟨rfl, rfl, rfl, rfl, rfl, rfl⟩, by decide, lw_at 796 (by decide +kernel) rfl⟩
theorem fl_D_147 : qF R_D 901 1 32 100 R_D F_D 147 15 := ⟨Or.inr ⟨rfl, rfl, rfl, rfl, rfl, rfl⟩, by decide, lw_at 804 (by decide +kernel) rfl⟩
def k_D_code_110 (QR : Option qA → qS → Prop) (H : Nat → qP) : qP :=
  o_al 0 <| o_gA 901 105 <| o_al 0 <| o_gI 901 115 <| o_il 1 <| o_isk 105 40 <| o_al 0 <| o_gA 901 107 <| o_al 0 <| o_gI 901 115 <| o_ll 2 <| o_jsk 107 40 <| o_al 0 <| o_dup <| o_gI 901 115 <| o_c (.inl 1) <| o_bi z_add <| o_pI 901 115 <| o_al 0 <| o_gI 901 115 <| o_ri QR
def k_D_code_108 (QR : Option qA → qS → Prop) (H : Nat → qP) : qP :=
  o_c (.inl 0) <| o_ri QR
def k_D_code_98 (QR : Option qA → qS → Prop) (H : Nat → qP) : qP :=
  o_pI 901 118 <| o_al 0 <| o_gI 901 118 <| o_if (fun a => a ≤ 0) (H 110) (k_D_code_108 QR H)
def k_D_code_97 (QR : Option qA → qS → Prop) (H : Nat → qP) : qP :=
  o_c (.inl 0) <| k_D_code_98 QR H
def k_D_code_93 (QR : Option qA → qS → Prop) (H : Nat → qP) : qP :=
  o_c (.inl 2) <| k_D_code_98 QR H
def k_D_code_86 (QR : Option qA → qS → Prop) (H : Nat → qP) : qP :=
  o_al 0 <| o_gZ 901 119 <| o_if (fun a => a = 0) (k_D_code_97 QR H) (k_D_code_93 QR H)
def k_D_code_77 (QR : Option qA → qS → Prop) (H : Nat → qP) : qP :=
  o_al 0 <| o_gI 901 115 <| o_c (.inl 40) <| o_i2 (fun a b => a = b) (k_D_code_93 QR H) (k_D_code_86 QR H)
def k_D_code_73 (QR : Option qA → qS → Prop) (H : Nat → qP) : qP :=
  o_c (.inl 1) <| k_D_code_98 QR H
def k_D_code_65 (QR : Option qA → qS → Prop) (H : Nat → qP) : qP :=
  o_is 4 <| o_al 0 <| o_il 4 <| o_if (fun a => ¬ a = 0) (k_D_code_77 QR H) (k_D_code_73 QR H)
def k_D_code_64 (QR : Option qA → qS → Prop) (H : Nat → qP) : qP :=
  o_c (.inl 0) <| k_D_code_65 QR H
def k_D_code_60 (QR : Option qA → qS → Prop) (H : Nat → qP) : qP :=
  o_c (.inl 1) <| k_D_code_65 QR H
def k_D_code_52 (QR : Option qA → qS → Prop) (H : Nat → qP) : qP :=
  o_ll 2 <| o_c (.inr (.inl 40)) <| o_l2 (fun a b => b < a) (H 64) (H 60)
def k_D_code_46 (QR : Option qA → qS → Prop) (H : Nat → qP) : qP :=
  o_ll 2 <| o_c (.inr (.inl 0)) <| o_l2 (fun a b => a < b) (H 64) (k_D_code_52 QR H)
def k_D_code_40 (QR : Option qA → qS → Prop) (H : Nat → qP) : qP :=
  o_il 1 <| o_c (.inl 16) <| o_i2 (fun a b => ¬ a = b) (H 60) (k_D_code_46 QR H)
def k_D_code_34 (QR : Option qA → qS → Prop) (H : Nat → qP) : qP :=
  o_il 1 <| o_c (.inl 15) <| o_i2 (fun a b => a = b) (k_D_code_46 QR H) (k_D_code_40 QR H)
def k_D_code_26 (QR : Option qA → qS → Prop) (H : Nat → qP) : qP :=
  o_ll 2 <| o_c (.inr (.inl 3)) <| o_l2 (fun a b => b < a) (H 64) (H 34)
def k_D_code_20 (QR : Option qA → qS → Prop) (H : Nat → qP) : qP :=
  o_ll 2 <| o_c (.inr (.inl 0)) <| o_l2 (fun a b => a < b) (H 64) (k_D_code_26 QR H)
def k_D_code_15 (QR : Option qA → qS → Prop) (H : Nat → qP) : qP :=
  o_il 1 <| o_c (.inl 5) <| o_i2 (fun a b => ¬ a = b) (H 34) (k_D_code_20 QR H)
def k_D_code_10 (QR : Option qA → qS → Prop) (H : Nat → qP) : qP :=
  o_il 1 <| o_c (.inl 4) <| o_i2 (fun a b => a = b) (k_D_code_20 QR H) (k_D_code_15 QR H)
def k_D_code_0 (QR : Option qA → qS → Prop) (H : Nat → qP) : qP :=
  o_il 1 <| o_c (.inl 0) <| o_c (.inl 18) <| oc_D_in <| o_if (fun a => a = 0) (H 64) (k_D_code_10 QR H)
set_option maxRecDepth 8000 in
theorem s_D_code_110 {l : Launch} {ad : Nat → Nat} {D : va_G} {cA : Nat → ClassId} {WW : Nat → qP} {QR : Option qA → qS → Prop} (S : qSnd l rm_D_code ad D cA R_D b_D_code 5 WW) (Q : qRet (some .int) b_D_code WW QR) : qle (k_D_code_110 QR WW) WW 110 :=
  S.aload_n d_D_code_110 rfl <| S.gA fl_D_26 (by decide) d_D_code_111 <| S.aload_n d_D_code_114 rfl <| S.gI fl_D_147 (by decide) d_D_code_115 <| S.iload_n d_D_code_118 rfl <| S.isk (by decide) d_D_code_119 <| S.aload_n d_D_code_120 rfl <| S.gA fl_D_32 (by decide) d_D_code_121 <| S.aload_n d_D_code_124 rfl <| S.gI fl_D_147 (by decide) d_D_code_125 <| S.lload_n d_D_code_128 rfl <| S.jsk (by decide) d_D_code_129 <| S.aload_n d_D_code_130 rfl <| S.dup d_D_code_131 <| S.gI fl_D_147 (by decide) d_D_code_132 <| S.iconst d_D_code_135 (by decide) <| S.iadd d_D_code_136 <| S.pI fl_D_147 (by decide) (by decide +kernel) d_D_code_137 <| S.aload_n d_D_code_140 rfl <| S.gI fl_D_147 (by decide) d_D_code_141 <| Q.1 rfl _ d_D_code_144
set_option maxRecDepth 8000 in
theorem s_D_code_108 {l : Launch} {ad : Nat → Nat} {D : va_G} {cA : Nat → ClassId} {WW : Nat → qP} {QR : Option qA → qS → Prop} (S : qSnd l rm_D_code ad D cA R_D b_D_code 5 WW) (Q : qRet (some .int) b_D_code WW QR) : qle (k_D_code_108 QR WW) WW 108 :=
  S.iconst d_D_code_108 (by decide) <| Q.1 rfl _ d_D_code_109
set_option maxRecDepth 8000 in
theorem s_D_code_98 {l : Launch} {ad : Nat → Nat} {D : va_G} {cA : Nat → ClassId} {WW : Nat → qP} {QR : Option qA → qS → Prop} (S : qSnd l rm_D_code ad D cA R_D b_D_code 5 WW) (Q : qRet (some .int) b_D_code WW QR) : qle (k_D_code_98 QR WW) WW 98 :=
  S.pI fl_D_87 (by decide) (by decide +kernel) d_D_code_98 <| S.aload_n d_D_code_101 rfl <| S.gI fl_D_87 (by decide) d_D_code_102 <| S.if_le d_D_code_105 (by decide) (fun _ _ _ h => h) (s_D_code_108 S Q)
set_option maxRecDepth 8000 in
theorem s_D_code_97 {l : Launch} {ad : Nat → Nat} {D : va_G} {cA : Nat → ClassId} {WW : Nat → qP} {QR : Option qA → qS → Prop} (S : qSnd l rm_D_code ad D cA R_D b_D_code 5 WW) (Q : qRet (some .int) b_D_code WW QR) : qle (k_D_code_97 QR WW) WW 97 :=
  S.iconst d_D_code_97 (by decide) <| (s_D_code_98 S Q)
set_option maxRecDepth 8000 in
theorem s_D_code_93 {l : Launch} {ad : Nat → Nat} {D : va_G} {cA : Nat → ClassId} {WW : Nat → qP} {QR : Option qA → qS → Prop} (S : qSnd l rm_D_code ad D cA R_D b_D_code 5 WW) (Q : qRet (some .int) b_D_code WW QR) : qle (k_D_code_93 QR WW) WW 93 :=
  S.iconst d_D_code_93 (by decide) <| S.goto d_D_code_94 (by decide) (s_D_code_98 S Q)
set_option maxRecDepth 8000 in
theorem s_D_code_86 {l : Launch} {ad : Nat → Nat} {D : va_G} {cA : Nat → ClassId} {WW : Nat → qP} {QR : Option qA → qS → Prop} (S : qSnd l rm_D_code ad D cA R_D b_D_code 5 WW) (Q : qRet (some .int) b_D_code WW QR) : qle (k_D_code_86 QR WW) WW 86 :=
  S.aload_n d_D_code_86 rfl <| S.gZ fl_D_139 (by decide) d_D_code_87 <| S.if_eq d_D_code_90 (by decide) (s_D_code_97 S Q) (s_D_code_93 S Q)
set_option maxRecDepth 8000 in
theorem s_D_code_77 {l : Launch} {ad : Nat → Nat} {D : va_G} {cA : Nat → ClassId} {WW : Nat → qP} {QR : Option qA → qS → Prop} (S : qSnd l rm_D_code ad D cA R_D b_D_code 5 WW) (Q : qRet (some .int) b_D_code WW QR) : qle (k_D_code_77 QR WW) WW 77 :=
  S.aload_n d_D_code_77 rfl <| S.gI fl_D_147 (by decide) d_D_code_78 <| S.bipush d_D_code_81 (by decide) <| S.icmp_eq d_D_code_83 (by decide) (s_D_code_93 S Q) (s_D_code_86 S Q)
set_option maxRecDepth 8000 in
theorem s_D_code_73 {l : Launch} {ad : Nat → Nat} {D : va_G} {cA : Nat → ClassId} {WW : Nat → qP} {QR : Option qA → qS → Prop} (S : qSnd l rm_D_code ad D cA R_D b_D_code 5 WW) (Q : qRet (some .int) b_D_code WW QR) : qle (k_D_code_73 QR WW) WW 73 :=
  S.iconst d_D_code_73 (by decide) <| S.goto d_D_code_74 (by decide) (s_D_code_98 S Q)
set_option maxRecDepth 8000 in
theorem s_D_code_65 {l : Launch} {ad : Nat → Nat} {D : va_G} {cA : Nat → ClassId} {WW : Nat → qP} {QR : Option qA → qS → Prop} (S : qSnd l rm_D_code ad D cA R_D b_D_code 5 WW) (Q : qRet (some .int) b_D_code WW QR) : qle (k_D_code_65 QR WW) WW 65 :=
  S.istore d_D_code_65 (by decide) <| S.aload_n d_D_code_67 rfl <| S.iload d_D_code_68 <| S.if_ne d_D_code_70 (by decide) (s_D_code_77 S Q) (s_D_code_73 S Q)
set_option maxRecDepth 8000 in
theorem s_D_code_64 {l : Launch} {ad : Nat → Nat} {D : va_G} {cA : Nat → ClassId} {WW : Nat → qP} {QR : Option qA → qS → Prop} (S : qSnd l rm_D_code ad D cA R_D b_D_code 5 WW) (Q : qRet (some .int) b_D_code WW QR) : qle (k_D_code_64 QR WW) WW 64 :=
  S.iconst d_D_code_64 (by decide) <| (s_D_code_65 S Q)
set_option maxRecDepth 8000 in
theorem s_D_code_60 {l : Launch} {ad : Nat → Nat} {D : va_G} {cA : Nat → ClassId} {WW : Nat → qP} {QR : Option qA → qS → Prop} (S : qSnd l rm_D_code ad D cA R_D b_D_code 5 WW) (Q : qRet (some .int) b_D_code WW QR) : qle (k_D_code_60 QR WW) WW 60 :=
  S.iconst d_D_code_60 (by decide) <| S.goto d_D_code_61 (by decide) (s_D_code_65 S Q)
set_option maxRecDepth 8000 in
theorem s_D_code_52 {l : Launch} {ad : Nat → Nat} {D : va_G} {cA : Nat → ClassId} {WW : Nat → qP} {QR : Option qA → qS → Prop} (S : qSnd l rm_D_code ad D cA R_D b_D_code 5 WW) (Q : qRet (some .int) b_D_code WW QR) : qle (k_D_code_52 QR WW) WW 52 :=
  S.lload_n d_D_code_52 rfl <| S.ldc2 d_D_code_53 (lw_at 906 (by decide +kernel) rfl) (by decide) <| S.lcmp_gt d_D_code_56 d_D_code_57 (by decide) (fun _ _ _ h => h) (fun _ _ _ h => h)
set_option maxRecDepth 8000 in
theorem s_D_code_46 {l : Launch} {ad : Nat → Nat} {D : va_G} {cA : Nat → ClassId} {WW : Nat → qP} {QR : Option qA → qS → Prop} (S : qSnd l rm_D_code ad D cA R_D b_D_code 5 WW) (Q : qRet (some .int) b_D_code WW QR) : qle (k_D_code_46 QR WW) WW 46 :=
  S.lload_n d_D_code_46 rfl <| S.lconst d_D_code_47 (by decide) <| S.lcmp_lt d_D_code_48 d_D_code_49 (by decide) (fun _ _ _ h => h) (s_D_code_52 S Q)
set_option maxRecDepth 8000 in
theorem s_D_code_40 {l : Launch} {ad : Nat → Nat} {D : va_G} {cA : Nat → ClassId} {WW : Nat → qP} {QR : Option qA → qS → Prop} (S : qSnd l rm_D_code ad D cA R_D b_D_code 5 WW) (Q : qRet (some .int) b_D_code WW QR) : qle (k_D_code_40 QR WW) WW 40 :=
  S.iload_n d_D_code_40 rfl <| S.bipush d_D_code_41 (by decide) <| S.icmp_ne d_D_code_43 (by decide) (fun _ _ _ h => h) (s_D_code_46 S Q)
set_option maxRecDepth 8000 in
theorem s_D_code_34 {l : Launch} {ad : Nat → Nat} {D : va_G} {cA : Nat → ClassId} {WW : Nat → qP} {QR : Option qA → qS → Prop} (S : qSnd l rm_D_code ad D cA R_D b_D_code 5 WW) (Q : qRet (some .int) b_D_code WW QR) : qle (k_D_code_34 QR WW) WW 34 :=
  S.iload_n d_D_code_34 rfl <| S.bipush d_D_code_35 (by decide) <| S.icmp_eq d_D_code_37 (by decide) (s_D_code_46 S Q) (s_D_code_40 S Q)
set_option maxRecDepth 8000 in
theorem s_D_code_26 {l : Launch} {ad : Nat → Nat} {D : va_G} {cA : Nat → ClassId} {WW : Nat → qP} {QR : Option qA → qS → Prop} (S : qSnd l rm_D_code ad D cA R_D b_D_code 5 WW) (Q : qRet (some .int) b_D_code WW QR) : qle (k_D_code_26 QR WW) WW 26 :=
  S.lload_n d_D_code_26 rfl <| S.ldc2 d_D_code_27 (lw_at 905 (by decide +kernel) rfl) (by decide) <| S.lcmp_gt d_D_code_30 d_D_code_31 (by decide) (fun _ _ _ h => h) (fun _ _ _ h => h)
set_option maxRecDepth 8000 in
theorem s_D_code_20 {l : Launch} {ad : Nat → Nat} {D : va_G} {cA : Nat → ClassId} {WW : Nat → qP} {QR : Option qA → qS → Prop} (S : qSnd l rm_D_code ad D cA R_D b_D_code 5 WW) (Q : qRet (some .int) b_D_code WW QR) : qle (k_D_code_20 QR WW) WW 20 :=
  S.lload_n d_D_code_20 rfl <| S.lconst d_D_code_21 (by decide) <| S.lcmp_lt d_D_code_22 d_D_code_23 (by decide) (fun _ _ _ h => h) (s_D_code_26 S Q)
set_option maxRecDepth 8000 in
theorem s_D_code_15 {l : Launch} {ad : Nat → Nat} {D : va_G} {cA : Nat → ClassId} {WW : Nat → qP} {QR : Option qA → qS → Prop} (S : qSnd l rm_D_code ad D cA R_D b_D_code 5 WW) (Q : qRet (some .int) b_D_code WW QR) : qle (k_D_code_15 QR WW) WW 15 :=
  S.iload_n d_D_code_15 rfl <| S.iconst d_D_code_16 (by decide) <| S.icmp_ne d_D_code_17 (by decide) (fun _ _ _ h => h) (s_D_code_20 S Q)
set_option maxRecDepth 8000 in
theorem s_D_code_10 {l : Launch} {ad : Nat → Nat} {D : va_G} {cA : Nat → ClassId} {WW : Nat → qP} {QR : Option qA → qS → Prop} (S : qSnd l rm_D_code ad D cA R_D b_D_code 5 WW) (Q : qRet (some .int) b_D_code WW QR) : qle (k_D_code_10 QR WW) WW 10 :=
  S.iload_n d_D_code_10 rfl <| S.iconst d_D_code_11 (by decide) <| S.icmp_eq d_D_code_12 (by decide) (s_D_code_20 S Q) (s_D_code_15 S Q)
set_option maxRecDepth 8000 in
theorem s_D_code_0 {l : Launch} {ad : Nat → Nat} {D : va_G} {cA : Nat → ClassId} {WW : Nat → qP} {QR : Option qA → qS → Prop} (S : qSnd l rm_D_code ad D cA R_D b_D_code 5 WW) (Q : qRet (some .int) b_D_code WW QR) : qle (k_D_code_0 QR WW) WW 0 :=
  S.iload_n d_D_code_0 rfl <| S.iconst d_D_code_1 (by decide) <| S.bipush d_D_code_2 (by decide) <| sc_D_136 S (by decide) d_D_code_4 <| S.if_eq d_D_code_7 (by decide) (fun _ _ _ h => h) (s_D_code_10 S Q)
theorem w_D_code {l : Launch} {ad : Nat → Nat} {D : va_G} {cA : Nat → ClassId} {WW : Nat → qP} {QR : Option qA → qS → Prop} (S : qSnd l rm_D_code ad D cA R_D b_D_code 5 WW) (Q : qRet (some .int) b_D_code WW QR) (a1 : Int) (a2 : Int) (σ : qS) (ha1 : r32 a1) (ha2 : r64 a2) (hσ : qoS σ) (h : P_D_code a1 a2 σ) (hq : ∀ (r : Int) σ', Q_D_code a1 a2 σ r σ' → QR (some (.inl r)) σ') : WW 0 [] [some (.inr (.inr 901)), some (.inl a1), some (.inr (.inl a2)), none, none] σ := by
  have h' : 0 ≤ σ 115 0 ∧ σ 115 0 ≤ 40 := h
  unfold Q_D_code tcd at hq
  have no : ¬ ((0 ≤ a1 ∧ a1 ≤ 18) ∧ (a1 = 4 ∨ a1 = 5 → 0 ≤ a2 ∧ a2 ≤ 3) ∧ (a1 = 15 ∨ a1 = 16 → 0 ≤ a2 ∧ a2 ≤ 40)) → WW 64 [] [some (.inr (.inr 901)), some (.inl a1), some (.inr (.inl a2)), none, none] σ := fun hc => by
    refine s_D_code_64 S Q _ _ _ ?_
    simp only [k_D_code_0, k_D_code_10, k_D_code_15, k_D_code_20, k_D_code_26, k_D_code_34, k_D_code_40, k_D_code_46, k_D_code_52, k_D_code_60, k_D_code_64, k_D_code_65, k_D_code_73, k_D_code_77, k_D_code_86, k_D_code_93, k_D_code_97, k_D_code_98, k_D_code_108, k_D_code_110, oc_D_in, o_c, o_il, o_ll, o_al, o_is, o_as, o_ls, o_inc, o_bi, o_bid, o_bl, o_bld, o_sl, o_i2l, o_l2i, o_dup, o_dup2, o_pop, o_pop2, o_if, o_i2, o_l2, swg, o_sw, o_gI, o_gZ, o_gJ, o_gA, o_gR, o_pI, o_pZ, o_pJ, o_pR, o_ia, o_iak, o_zak, o_ja, o_jak, o_is_, o_isk, o_zsk, o_js_, o_jsk, o_len, o_ri, o_rz, o_rl, o_rv, ls1, ls2, lks, lkj, List.getD_cons_zero, List.getD_cons_succ, List.set_cons_zero, List.set_cons_succ, qcat, true_and, and_true, List.map_nil, List.map_cons, List.sum_nil, List.sum_cons, Nat.reduceAdd, Nat.reduceLeDiff, Nat.zero_le, Int.reduceAdd, Int.reduceNeg, Int.reduceEq, or_true, true_or, Decidable.not_not, false_implies, not_false_eq_true, true_implies, not_true_eq_false, Int.reduceLT, Int.reduceLE, su_s]
    exact hq _ _ (by rw [if_pos hc]; exact Or.inl ⟨by omega, rfl, rfl⟩)
  have yes : ((0 ≤ a1 ∧ a1 ≤ 18) ∧ (a1 = 4 ∨ a1 = 5 → 0 ≤ a2 ∧ a2 ≤ 3) ∧ (a1 = 15 ∨ a1 = 16 → 0 ≤ a2 ∧ a2 ≤ 40)) → WW 60 [] [some (.inr (.inr 901)), some (.inl a1), some (.inr (.inl a2)), none, none] σ := fun hc => by
    refine s_D_code_60 S Q _ _ _ ?_
    simp only [k_D_code_0, k_D_code_10, k_D_code_15, k_D_code_20, k_D_code_26, k_D_code_34, k_D_code_40, k_D_code_46, k_D_code_52, k_D_code_60, k_D_code_64, k_D_code_65, k_D_code_73, k_D_code_77, k_D_code_86, k_D_code_93, k_D_code_97, k_D_code_98, k_D_code_108, k_D_code_110, oc_D_in, o_c, o_il, o_ll, o_al, o_is, o_as, o_ls, o_inc, o_bi, o_bid, o_bl, o_bld, o_sl, o_i2l, o_l2i, o_dup, o_dup2, o_pop, o_pop2, o_if, o_i2, o_l2, swg, o_sw, o_gI, o_gZ, o_gJ, o_gA, o_gR, o_pI, o_pZ, o_pJ, o_pR, o_ia, o_iak, o_zak, o_ja, o_jak, o_is_, o_isk, o_zsk, o_js_, o_jsk, o_len, o_ri, o_rz, o_rl, o_rv, ls1, ls2, lks, lkj, List.getD_cons_zero, List.getD_cons_succ, List.set_cons_zero, List.set_cons_succ, qcat, true_and, and_true, List.map_nil, List.map_cons, List.sum_nil, List.sum_cons, Nat.reduceAdd, Nat.reduceLeDiff, Nat.zero_le, Int.reduceAdd, Int.reduceNeg, Int.reduceEq, or_true, true_or, Decidable.not_not, false_implies, not_false_eq_true, true_implies, not_true_eq_false, Int.reduceLT, Int.reduceLE, su_s]
    refine ⟨fun e4 => hq _ _ (by rw [if_neg (fun x => x hc), if_pos (Or.inl e4)]; exact Or.inl ⟨by omega, rfl, rfl⟩), fun n4 _ => ⟨fun e => ?_, fun e => hq _ _ (by rw [if_neg (fun x => x hc), if_pos (Or.inr e)]; exact Or.inl ⟨by omega, rfl, rfl⟩)⟩⟩
    refine s_D_code_110 S Q _ _ _ ?_
    simp only [k_D_code_0, k_D_code_10, k_D_code_15, k_D_code_20, k_D_code_26, k_D_code_34, k_D_code_40, k_D_code_46, k_D_code_52, k_D_code_60, k_D_code_64, k_D_code_65, k_D_code_73, k_D_code_77, k_D_code_86, k_D_code_93, k_D_code_97, k_D_code_98, k_D_code_108, k_D_code_110, oc_D_in, o_c, o_il, o_ll, o_al, o_is, o_as, o_ls, o_inc, o_bi, o_bid, o_bl, o_bld, o_sl, o_i2l, o_l2i, o_dup, o_dup2, o_pop, o_pop2, o_if, o_i2, o_l2, swg, o_sw, o_gI, o_gZ, o_gJ, o_gA, o_gR, o_pI, o_pZ, o_pJ, o_pR, o_ia, o_iak, o_zak, o_ja, o_jak, o_is_, o_isk, o_zsk, o_js_, o_jsk, o_len, o_ri, o_rz, o_rl, o_rv, ls1, ls2, lks, lkj, List.getD_cons_zero, List.getD_cons_succ, List.set_cons_zero, List.set_cons_succ, qcat, true_and, and_true, List.map_nil, List.map_cons, List.sum_nil, List.sum_cons, Nat.reduceAdd, Nat.reduceLeDiff, Nat.zero_le, Int.reduceAdd, Int.reduceNeg, Int.reduceEq, or_true, true_or, Decidable.not_not, false_implies, not_false_eq_true, true_implies, not_true_eq_false, Int.reduceLT, Int.reduceLE]
    simp (disch := omega) only [su_k, su_s]
    have e2 : z_add (σ 115 0) 1 = σ 115 0 + 1 := by unfold z_add; exact w32_i _ (by omega) (by omega)
    rw [e2]
    refine ⟨by omega, by omega, hq _ _ ?_⟩
    rw [if_neg (fun x => x hc), if_neg (fun x => x.elim n4 (fun y => y e))]
    exact Or.inr ⟨rfl, rfl, rfl⟩
  have at34 : (0 ≤ a1 ∧ a1 ≤ 18) → (a1 = 4 ∨ a1 = 5 → 0 ≤ a2 ∧ a2 ≤ 3) → WW 34 [] [some (.inr (.inr 901)), some (.inl a1), some (.inr (.inl a2)), none, none] σ := fun h1 h2 => by
    refine s_D_code_34 S Q _ _ _ ?_
    simp only [k_D_code_0, k_D_code_10, k_D_code_15, k_D_code_20, k_D_code_26, k_D_code_34, k_D_code_40, k_D_code_46, k_D_code_52, k_D_code_60, k_D_code_64, k_D_code_65, k_D_code_73, k_D_code_77, k_D_code_86, k_D_code_93, k_D_code_97, k_D_code_98, k_D_code_108, k_D_code_110, oc_D_in, o_c, o_il, o_ll, o_al, o_is, o_as, o_ls, o_inc, o_bi, o_bid, o_bl, o_bld, o_sl, o_i2l, o_l2i, o_dup, o_dup2, o_pop, o_pop2, o_if, o_i2, o_l2, swg, o_sw, o_gI, o_gZ, o_gJ, o_gA, o_gR, o_pI, o_pZ, o_pJ, o_pR, o_ia, o_iak, o_zak, o_ja, o_jak, o_is_, o_isk, o_zsk, o_js_, o_jsk, o_len, o_ri, o_rz, o_rl, o_rv, ls1, ls2, lks, lkj, List.getD_cons_zero, List.getD_cons_succ, List.set_cons_zero, List.set_cons_succ, qcat, true_and, and_true, List.map_nil, List.map_cons, List.sum_nil, List.sum_cons, Nat.reduceAdd, Nat.reduceLeDiff, Nat.zero_le, Int.reduceAdd, Int.reduceNeg, Int.reduceEq, or_true, true_or, Decidable.not_not, false_implies, not_false_eq_true, true_implies, not_true_eq_false, Int.reduceLT, Int.reduceLE, su_s]
    have go : (a1 = 15 ∨ a1 = 16) → (a2 < 0 → WW 64 [] [some (.inr (.inr 901)), some (.inl a1), some (.inr (.inl a2)), none, none] σ) ∧ (¬ a2 < 0 → (40 < a2 → WW 64 [] [some (.inr (.inr 901)), some (.inl a1), some (.inr (.inl a2)), none, none] σ) ∧ (¬ 40 < a2 → WW 60 [] [some (.inr (.inr 901)), some (.inl a1), some (.inr (.inl a2)), none, none] σ)) := fun e => ⟨fun hl => no (fun hc => by have := hc.2.2 e; omega), fun hl => ⟨fun hg => no (fun hc => by have := hc.2.2 e; omega), fun hg => yes ⟨h1, h2, fun _ => by omega⟩⟩⟩
    exact ⟨fun e => go (Or.inl e), fun n15 => ⟨fun n16 => yes ⟨h1, h2, fun e => by omega⟩, fun e => go (Or.inr e)⟩⟩
  refine s_D_code_0 S Q _ _ _ ?_
  simp only [k_D_code_0, k_D_code_10, k_D_code_15, k_D_code_20, k_D_code_26, k_D_code_34, k_D_code_40, k_D_code_46, k_D_code_52, k_D_code_60, k_D_code_64, k_D_code_65, k_D_code_73, k_D_code_77, k_D_code_86, k_D_code_93, k_D_code_97, k_D_code_98, k_D_code_108, k_D_code_110, oc_D_in, o_c, o_il, o_ll, o_al, o_is, o_as, o_ls, o_inc, o_bi, o_bid, o_bl, o_bld, o_sl, o_i2l, o_l2i, o_dup, o_dup2, o_pop, o_pop2, o_if, o_i2, o_l2, swg, o_sw, o_gI, o_gZ, o_gJ, o_gA, o_gR, o_pI, o_pZ, o_pJ, o_pR, o_ia, o_iak, o_zak, o_ja, o_jak, o_is_, o_isk, o_zsk, o_js_, o_jsk, o_len, o_ri, o_rz, o_rl, o_rv, ls1, ls2, lks, lkj, List.getD_cons_zero, List.getD_cons_succ, List.set_cons_zero, List.set_cons_succ, qcat, true_and, and_true, List.map_nil, List.map_cons, List.sum_nil, List.sum_cons, Nat.reduceAdd, Nat.reduceLeDiff, Nat.zero_le, Int.reduceAdd, Int.reduceNeg, Int.reduceEq, or_true, true_or, Decidable.not_not, false_implies, not_false_eq_true, true_implies, not_true_eq_false, Int.reduceLT, Int.reduceLE, su_s]
  have go : (0 ≤ a1 ∧ a1 ≤ 18) → (a1 = 4 ∨ a1 = 5) → (a2 < 0 → WW 64 [] [some (.inr (.inr 901)), some (.inl a1), some (.inr (.inl a2)), none, none] σ) ∧ (¬ a2 < 0 → (3 < a2 → WW 64 [] [some (.inr (.inr 901)), some (.inl a1), some (.inr (.inl a2)), none, none] σ) ∧ (¬ 3 < a2 → WW 34 [] [some (.inr (.inr 901)), some (.inl a1), some (.inr (.inl a2)), none, none] σ)) := fun h1 e => ⟨fun hl => no (fun hc => by have := hc.2.1 e; omega), fun hl => ⟨fun hg => no (fun hc => by have := hc.2.1 e; omega), fun hg => at34 h1 (fun _ => by omega)⟩⟩
  exact dinC (fun h1 => ⟨fun e => go h1 (Or.inl e), fun n4 => ⟨fun n5 => at34 h1 (fun e => by omega), fun e => go h1 (Or.inr e)⟩⟩) (fun h1 => no (fun hc => h1 hc.1))
theorem c_D_code (l : Launch) (ad : Nat → Nat) (D : va_G) (cA : Nat → ClassId) : qC l ad D cA y_D_code (Cond.code y_D_code b_D_code 5 (some .int) :: lw_g) rm_D_code pre_D_code post_D_code := by
  refine qC_of (own := R_D) (by decide) rfl ⟨rfl, rfl⟩ ?_ ?_
  · intro av σ h; unfold pre_D_code at h; split at h
    · simp [qen]
    · exact h.elim
  · intro WW QR S Q av σ hav hσ h hq; unfold pre_D_code at h; split at h
    next o a1 a2 =>
      obtain ⟨rfl, h⟩ := h
      exact w_D_code S Q a1 a2 σ (hav _ (List.mem_of_getElem? (i := 1) rfl)) (hav _ (List.mem_of_getElem? (i := 2) rfl)) hσ h (fun r σ' h' => hq _ σ' h')
    next => exact h.elim
def tjb (σ : qS) (j a b o n : Int) : Int := if ¬ (0 ≤ j ∧ j ≤ 7) then 1 else if ¬ ((0 ≤ a ∧ a ≤ 15) ∧ (0 ≤ o ∧ o ≤ 15) ∧ (-1 ≤ b ∧ b ≤ 15) ∧ (1 ≤ n ∧ n ≤ 6)) then 2 else if σ 104 (3 * j) = 0 ∨ σ 104 (3 * j + 2) = 0 ∨ σ 119 0 ≠ 0 then 3 else 0
def P_D_job (_j _a _b _o _n : Int) (_σ : qS) : Prop := True
def Q_D_job (j a b o n : Int) (σ σ' : qS) : Prop := (0 < tjb σ j a b o n ∧ σ' = su σ 118 0 (tjb σ j a b o n)) ∨ (tjb σ j a b o n = 0 ∧ σ' = su (su (su (su (su (su σ 118 0 0) 113 j 1) 108 j a) 109 j b) 110 j o) 111 j n)
def pre_D_job (av : List qA) (σ : qS) : Prop := match av with
  | [.inr (.inr o), .inl a1, .inl a2, .inl a3, .inl a4, .inl a5] => o = 901 ∧ P_D_job a1 a2 a3 a4 a5 σ
  | _ => False
def post_D_job (av : List qA) (σ : qS) (r : Option qA) (σ' : qS) : Prop := match av, r with
  | [_, .inl a1, .inl a2, .inl a3, .inl a4, .inl a5], none => Q_D_job a1 a2 a3 a4 a5 σ σ'
  | _, _ => False
def oc_D_job (K : qP) : qP := fun st ls σ => match st with
  | .inl a5 :: .inl a4 :: .inl a3 :: .inl a2 :: .inl a1 :: .inr (.inr o) :: st => o = 901 ∧ (st.map qcat).sum ≤ 8 ∧ P_D_job a1 a2 a3 a4 a5 σ ∧ ∀ (σ' : qS), Q_D_job a1 a2 a3 a4 a5 σ σ' → K st ls σ'
  | _ => False
def rm_D_job : Room := { frames := 1, cells := 0, slots := 0, locals := 22 }
theorem fl_D_23 : qF R_D 901 1 32 100 R_D F_D 23 4 := ⟨Or.inr ⟨rfl, rfl, rfl, rfl, rfl, rfl⟩, by decide, lw_at 793 (by decide +kernel) rfl⟩
theorem fl_D_41 : qF R_D 901 1 32 100 R_D F_D 41 10 := ⟨Or.inr ⟨rfl, rfl, rfl, rfl, rfl, rfl⟩, by decide, lw_at 799 (by decide +kernel) rfl⟩
theorem fl_D_44 : qF R_D 901 1 32 100 R_D F_D 44 11 := ⟨Or.inr ⟨rfl, rfl, rfl, rfl, rfl, rfl⟩, by decide, lw_at 800 (by decide +kernel) rfl⟩
def k_D_job_108 (QR : Option qA → qS → Prop) (H : Nat → qP) : qP :=
  o_al 0 <| o_gA 901 113 <| o_il 1 <| o_c (.inl 1) <| o_zsk 113 8 <| o_al 0 <| o_gA 901 108 <| o_il 1 <| o_il 2 <| o_isk 108 8 <| o_al 0 <| o_gA 901 109 <| o_il 1 <| o_il 3 <| o_isk 109 8 <| o_al 0 <| o_gA 901 110 <| o_il 1 <| o_il 4 <| o_isk 110 8 <| o_al 0 <| o_gA 901 111 <| o_il 1 <| o_il 5 <| o_isk 111 8 <| o_rv QR
def k_D_job_107 (QR : Option qA → qS → Prop) (H : Nat → qP) : qP :=
  o_rv QR
def k_D_job_97 (QR : Option qA → qS → Prop) (H : Nat → qP) : qP :=
  o_pI 901 118 <| o_al 0 <| o_gI 901 118 <| o_if (fun a => a ≤ 0) (H 108) (k_D_job_107 QR H)
def k_D_job_96 (QR : Option qA → qS → Prop) (H : Nat → qP) : qP :=
  o_c (.inl 0) <| k_D_job_97 QR H
def k_D_job_92 (QR : Option qA → qS → Prop) (H : Nat → qP) : qP :=
  o_c (.inl 3) <| k_D_job_97 QR H
def k_D_job_85 (QR : Option qA → qS → Prop) (H : Nat → qP) : qP :=
  o_al 0 <| o_gZ 901 119 <| o_if (fun a => a = 0) (k_D_job_96 QR H) (k_D_job_92 QR H)
def k_D_job_72 (QR : Option qA → qS → Prop) (H : Nat → qP) : qP :=
  o_al 0 <| o_gA 901 104 <| o_c (.inl 3) <| o_il 1 <| o_bi z_mul <| o_c (.inl 2) <| o_bi z_add <| o_iak 104 24 <| o_if (fun a => a = 0) (k_D_job_92 QR H) (k_D_job_85 QR H)
def k_D_job_61 (QR : Option qA → qS → Prop) (H : Nat → qP) : qP :=
  o_al 0 <| o_gA 901 104 <| o_c (.inl 3) <| o_il 1 <| o_bi z_mul <| o_iak 104 24 <| o_if (fun a => a = 0) (k_D_job_92 QR H) (k_D_job_72 QR H)
def k_D_job_57 (QR : Option qA → qS → Prop) (H : Nat → qP) : qP :=
  o_c (.inl 2) <| k_D_job_97 QR H
def k_D_job_46 (QR : Option qA → qS → Prop) (H : Nat → qP) : qP :=
  o_il 5 <| o_c (.inl 1) <| o_c (.inl 6) <| oc_D_in <| o_if (fun a => ¬ a = 0) (k_D_job_61 QR H) (k_D_job_57 QR H)
def k_D_job_36 (QR : Option qA → qS → Prop) (H : Nat → qP) : qP :=
  o_il 3 <| o_c (.inl (-1)) <| o_c (.inl 15) <| oc_D_in <| o_if (fun a => a = 0) (k_D_job_57 QR H) (k_D_job_46 QR H)
def k_D_job_25 (QR : Option qA → qS → Prop) (H : Nat → qP) : qP :=
  o_il 4 <| o_c (.inl 0) <| o_c (.inl 15) <| oc_D_in <| o_if (fun a => a = 0) (k_D_job_57 QR H) (k_D_job_36 QR H)
def k_D_job_15 (QR : Option qA → qS → Prop) (H : Nat → qP) : qP :=
  o_il 2 <| o_c (.inl 0) <| o_c (.inl 15) <| oc_D_in <| o_if (fun a => a = 0) (k_D_job_57 QR H) (k_D_job_25 QR H)
def k_D_job_11 (QR : Option qA → qS → Prop) (H : Nat → qP) : qP :=
  o_c (.inl 1) <| k_D_job_97 QR H
def k_D_job_0 (QR : Option qA → qS → Prop) (H : Nat → qP) : qP :=
  o_al 0 <| o_il 1 <| o_c (.inl 0) <| o_c (.inl 7) <| oc_D_in <| o_if (fun a => ¬ a = 0) (k_D_job_15 QR H) (k_D_job_11 QR H)
set_option maxRecDepth 8000 in
theorem s_D_job_108 {l : Launch} {ad : Nat → Nat} {D : va_G} {cA : Nat → ClassId} {WW : Nat → qP} {QR : Option qA → qS → Prop} (S : qSnd l rm_D_job ad D cA R_D b_D_job 6 WW) (Q : qRet (none) b_D_job WW QR) : qle (k_D_job_108 QR WW) WW 108 :=
  S.aload_n d_D_job_108 rfl <| S.gA fl_D_50 (by decide) d_D_job_109 <| S.iload_n d_D_job_112 rfl <| S.iconst d_D_job_113 (by decide) <| S.zast (by decide) d_D_job_114 <| S.aload_n d_D_job_115 rfl <| S.gA fl_D_35 (by decide) d_D_job_116 <| S.iload_n d_D_job_119 rfl <| S.iload_n d_D_job_120 rfl <| S.isk (by decide) d_D_job_121 <| S.aload_n d_D_job_122 rfl <| S.gA fl_D_38 (by decide) d_D_job_123 <| S.iload_n d_D_job_126 rfl <| S.iload_n d_D_job_127 rfl <| S.isk (by decide) d_D_job_128 <| S.aload_n d_D_job_129 rfl <| S.gA fl_D_41 (by decide) d_D_job_130 <| S.iload_n d_D_job_133 rfl <| S.iload d_D_job_134 <| S.isk (by decide) d_D_job_136 <| S.aload_n d_D_job_137 rfl <| S.gA fl_D_44 (by decide) d_D_job_138 <| S.iload_n d_D_job_141 rfl <| S.iload d_D_job_142 <| S.isk (by decide) d_D_job_144 <| Q.2.2.2 rfl _ d_D_job_145
set_option maxRecDepth 8000 in
theorem s_D_job_107 {l : Launch} {ad : Nat → Nat} {D : va_G} {cA : Nat → ClassId} {WW : Nat → qP} {QR : Option qA → qS → Prop} (S : qSnd l rm_D_job ad D cA R_D b_D_job 6 WW) (Q : qRet (none) b_D_job WW QR) : qle (k_D_job_107 QR WW) WW 107 :=
  Q.2.2.2 rfl _ d_D_job_107
set_option maxRecDepth 8000 in
theorem s_D_job_97 {l : Launch} {ad : Nat → Nat} {D : va_G} {cA : Nat → ClassId} {WW : Nat → qP} {QR : Option qA → qS → Prop} (S : qSnd l rm_D_job ad D cA R_D b_D_job 6 WW) (Q : qRet (none) b_D_job WW QR) : qle (k_D_job_97 QR WW) WW 97 :=
  S.pI fl_D_87 (by decide) (by decide +kernel) d_D_job_97 <| S.aload_n d_D_job_100 rfl <| S.gI fl_D_87 (by decide) d_D_job_101 <| S.if_le d_D_job_104 (by decide) (fun _ _ _ h => h) (s_D_job_107 S Q)
set_option maxRecDepth 8000 in
theorem s_D_job_96 {l : Launch} {ad : Nat → Nat} {D : va_G} {cA : Nat → ClassId} {WW : Nat → qP} {QR : Option qA → qS → Prop} (S : qSnd l rm_D_job ad D cA R_D b_D_job 6 WW) (Q : qRet (none) b_D_job WW QR) : qle (k_D_job_96 QR WW) WW 96 :=
  S.iconst d_D_job_96 (by decide) <| (s_D_job_97 S Q)
set_option maxRecDepth 8000 in
theorem s_D_job_92 {l : Launch} {ad : Nat → Nat} {D : va_G} {cA : Nat → ClassId} {WW : Nat → qP} {QR : Option qA → qS → Prop} (S : qSnd l rm_D_job ad D cA R_D b_D_job 6 WW) (Q : qRet (none) b_D_job WW QR) : qle (k_D_job_92 QR WW) WW 92 :=
  S.iconst d_D_job_92 (by decide) <| S.goto d_D_job_93 (by decide) (s_D_job_97 S Q)
set_option maxRecDepth 8000 in
theorem s_D_job_85 {l : Launch} {ad : Nat → Nat} {D : va_G} {cA : Nat → ClassId} {WW : Nat → qP} {QR : Option qA → qS → Prop} (S : qSnd l rm_D_job ad D cA R_D b_D_job 6 WW) (Q : qRet (none) b_D_job WW QR) : qle (k_D_job_85 QR WW) WW 85 :=
  S.aload_n d_D_job_85 rfl <| S.gZ fl_D_139 (by decide) d_D_job_86 <| S.if_eq d_D_job_89 (by decide) (s_D_job_96 S Q) (s_D_job_92 S Q)
set_option maxRecDepth 8000 in
theorem s_D_job_72 {l : Launch} {ad : Nat → Nat} {D : va_G} {cA : Nat → ClassId} {WW : Nat → qP} {QR : Option qA → qS → Prop} (S : qSnd l rm_D_job ad D cA R_D b_D_job 6 WW) (Q : qRet (none) b_D_job WW QR) : qle (k_D_job_72 QR WW) WW 72 :=
  S.aload_n d_D_job_72 rfl <| S.gA fl_D_23 (by decide) d_D_job_73 <| S.iconst d_D_job_76 (by decide) <| S.iload_n d_D_job_77 rfl <| S.imul d_D_job_78 <| S.iconst d_D_job_79 (by decide) <| S.iadd d_D_job_80 <| S.iak (by decide) d_D_job_81 <| S.if_eq d_D_job_82 (by decide) (s_D_job_92 S Q) (s_D_job_85 S Q)
set_option maxRecDepth 8000 in
theorem s_D_job_61 {l : Launch} {ad : Nat → Nat} {D : va_G} {cA : Nat → ClassId} {WW : Nat → qP} {QR : Option qA → qS → Prop} (S : qSnd l rm_D_job ad D cA R_D b_D_job 6 WW) (Q : qRet (none) b_D_job WW QR) : qle (k_D_job_61 QR WW) WW 61 :=
  S.aload_n d_D_job_61 rfl <| S.gA fl_D_23 (by decide) d_D_job_62 <| S.iconst d_D_job_65 (by decide) <| S.iload_n d_D_job_66 rfl <| S.imul d_D_job_67 <| S.iak (by decide) d_D_job_68 <| S.if_eq d_D_job_69 (by decide) (s_D_job_92 S Q) (s_D_job_72 S Q)
set_option maxRecDepth 8000 in
theorem s_D_job_57 {l : Launch} {ad : Nat → Nat} {D : va_G} {cA : Nat → ClassId} {WW : Nat → qP} {QR : Option qA → qS → Prop} (S : qSnd l rm_D_job ad D cA R_D b_D_job 6 WW) (Q : qRet (none) b_D_job WW QR) : qle (k_D_job_57 QR WW) WW 57 :=
  S.iconst d_D_job_57 (by decide) <| S.goto d_D_job_58 (by decide) (s_D_job_97 S Q)
set_option maxRecDepth 8000 in
theorem s_D_job_46 {l : Launch} {ad : Nat → Nat} {D : va_G} {cA : Nat → ClassId} {WW : Nat → qP} {QR : Option qA → qS → Prop} (S : qSnd l rm_D_job ad D cA R_D b_D_job 6 WW) (Q : qRet (none) b_D_job WW QR) : qle (k_D_job_46 QR WW) WW 46 :=
  S.iload d_D_job_46 <| S.iconst d_D_job_48 (by decide) <| S.bipush d_D_job_49 (by decide) <| sc_D_136 S (by decide) d_D_job_51 <| S.if_ne d_D_job_54 (by decide) (s_D_job_61 S Q) (s_D_job_57 S Q)
set_option maxRecDepth 8000 in
theorem s_D_job_36 {l : Launch} {ad : Nat → Nat} {D : va_G} {cA : Nat → ClassId} {WW : Nat → qP} {QR : Option qA → qS → Prop} (S : qSnd l rm_D_job ad D cA R_D b_D_job 6 WW) (Q : qRet (none) b_D_job WW QR) : qle (k_D_job_36 QR WW) WW 36 :=
  S.iload_n d_D_job_36 rfl <| S.iconst d_D_job_37 (by decide) <| S.bipush d_D_job_38 (by decide) <| sc_D_136 S (by decide) d_D_job_40 <| S.if_eq d_D_job_43 (by decide) (s_D_job_57 S Q) (s_D_job_46 S Q)
set_option maxRecDepth 8000 in
theorem s_D_job_25 {l : Launch} {ad : Nat → Nat} {D : va_G} {cA : Nat → ClassId} {WW : Nat → qP} {QR : Option qA → qS → Prop} (S : qSnd l rm_D_job ad D cA R_D b_D_job 6 WW) (Q : qRet (none) b_D_job WW QR) : qle (k_D_job_25 QR WW) WW 25 :=
  S.iload d_D_job_25 <| S.iconst d_D_job_27 (by decide) <| S.bipush d_D_job_28 (by decide) <| sc_D_136 S (by decide) d_D_job_30 <| S.if_eq d_D_job_33 (by decide) (s_D_job_57 S Q) (s_D_job_36 S Q)
set_option maxRecDepth 8000 in
theorem s_D_job_15 {l : Launch} {ad : Nat → Nat} {D : va_G} {cA : Nat → ClassId} {WW : Nat → qP} {QR : Option qA → qS → Prop} (S : qSnd l rm_D_job ad D cA R_D b_D_job 6 WW) (Q : qRet (none) b_D_job WW QR) : qle (k_D_job_15 QR WW) WW 15 :=
  S.iload_n d_D_job_15 rfl <| S.iconst d_D_job_16 (by decide) <| S.bipush d_D_job_17 (by decide) <| sc_D_136 S (by decide) d_D_job_19 <| S.if_eq d_D_job_22 (by decide) (s_D_job_57 S Q) (s_D_job_25 S Q)
set_option maxRecDepth 8000 in
theorem s_D_job_11 {l : Launch} {ad : Nat → Nat} {D : va_G} {cA : Nat → ClassId} {WW : Nat → qP} {QR : Option qA → qS → Prop} (S : qSnd l rm_D_job ad D cA R_D b_D_job 6 WW) (Q : qRet (none) b_D_job WW QR) : qle (k_D_job_11 QR WW) WW 11 :=
  S.iconst d_D_job_11 (by decide) <| S.goto d_D_job_12 (by decide) (s_D_job_97 S Q)
set_option maxRecDepth 8000 in
theorem s_D_job_0 {l : Launch} {ad : Nat → Nat} {D : va_G} {cA : Nat → ClassId} {WW : Nat → qP} {QR : Option qA → qS → Prop} (S : qSnd l rm_D_job ad D cA R_D b_D_job 6 WW) (Q : qRet (none) b_D_job WW QR) : qle (k_D_job_0 QR WW) WW 0 :=
  S.aload_n d_D_job_0 rfl <| S.iload_n d_D_job_1 rfl <| S.iconst d_D_job_2 (by decide) <| S.bipush d_D_job_3 (by decide) <| sc_D_136 S (by decide) d_D_job_5 <| S.if_ne d_D_job_8 (by decide) (s_D_job_15 S Q) (s_D_job_11 S Q)
theorem w_D_job {l : Launch} {ad : Nat → Nat} {D : va_G} {cA : Nat → ClassId} {WW : Nat → qP} {QR : Option qA → qS → Prop} (S : qSnd l rm_D_job ad D cA R_D b_D_job 6 WW) (Q : qRet (none) b_D_job WW QR) (a1 : Int) (a2 : Int) (a3 : Int) (a4 : Int) (a5 : Int) (σ : qS) (ha1 : r32 a1) (ha2 : r32 a2) (ha3 : r32 a3) (ha4 : r32 a4) (ha5 : r32 a5) (hσ : qoS σ) (h : P_D_job a1 a2 a3 a4 a5 σ) (hq : ∀ σ', Q_D_job a1 a2 a3 a4 a5 σ σ' → QR none σ') : WW 0 [] [some (.inr (.inr 901)), some (.inl a1), some (.inl a2), some (.inl a3), some (.inl a4), some (.inl a5)] σ := by
  unfold Q_D_job tjb at hq
  have t1 : ¬ (0 ≤ a1 ∧ a1 ≤ 7) → QR none (su σ 118 0 1) := fun hj => hq _ (by rw [if_pos hj]; exact Or.inl ⟨by omega, rfl⟩)
  have t2 : (0 ≤ a1 ∧ a1 ≤ 7) → ¬ ((0 ≤ a2 ∧ a2 ≤ 15) ∧ (0 ≤ a4 ∧ a4 ≤ 15) ∧ (-1 ≤ a3 ∧ a3 ≤ 15) ∧ (1 ≤ a5 ∧ a5 ≤ 6)) → QR none (su σ 118 0 2) := fun hj hc => hq _ (by rw [if_neg (fun x => x hj), if_pos hc]; exact Or.inl ⟨by omega, rfl⟩)
  refine s_D_job_0 S Q _ _ _ ?_
  simp only [k_D_job_0, k_D_job_11, k_D_job_15, k_D_job_25, k_D_job_36, k_D_job_46, k_D_job_57, k_D_job_61, k_D_job_72, k_D_job_85, k_D_job_92, k_D_job_96, k_D_job_97, k_D_job_107, k_D_job_108, oc_D_in, o_c, o_il, o_ll, o_al, o_is, o_as, o_ls, o_inc, o_bi, o_bid, o_bl, o_bld, o_sl, o_i2l, o_l2i, o_dup, o_dup2, o_pop, o_pop2, o_if, o_i2, o_l2, swg, o_sw, o_gI, o_gZ, o_gJ, o_gA, o_gR, o_pI, o_pZ, o_pJ, o_pR, o_ia, o_iak, o_zak, o_ja, o_jak, o_is_, o_isk, o_zsk, o_js_, o_jsk, o_len, o_ri, o_rz, o_rl, o_rv, ls1, ls2, lks, lkj, List.getD_cons_zero, List.getD_cons_succ, List.set_cons_zero, List.set_cons_succ, qcat, true_and, and_true, List.map_nil, List.map_cons, List.sum_nil, List.sum_cons, Nat.reduceAdd, Nat.reduceLeDiff, Nat.zero_le, Int.reduceAdd, Int.reduceNeg, Int.reduceEq, or_true, true_or, Decidable.not_not, false_implies, not_false_eq_true, true_implies, not_true_eq_false, Int.reduceLT, Int.reduceLE, su_s]
  refine dinF (fun hj => dinC (fun h1 => dinC (fun h2 => dinC (fun h3 => dinF (fun h4 => ?_) (fun h4 => t2 hj (fun x => h4 x.2.2.2))) (fun h3 => t2 hj (fun x => h3 x.2.2.1))) (fun h2 => t2 hj (fun x => h2 x.2.1))) (fun h1 => t2 hj (fun x => h1 x.1))) (fun hj => t1 hj)
  have hc : (0 ≤ a2 ∧ a2 ≤ 15) ∧ (0 ≤ a4 ∧ a4 ≤ 15) ∧ (-1 ≤ a3 ∧ a3 ≤ 15) ∧ (1 ≤ a5 ∧ a5 ≤ 6) := ⟨h1, h2, h3, h4⟩
  have e0 : z_mul 3 a1 = 3 * a1 := by unfold z_mul; exact w32_i _ (by omega) (by omega)
  have e2 : z_add (3 * a1) 2 = 3 * a1 + 2 := by unfold z_add; exact w32_i _ (by omega) (by omega)
  rw [e0, e2]
  have t3 : (σ 104 (3 * a1) = 0 ∨ σ 104 (3 * a1 + 2) = 0 ∨ σ 119 0 ≠ 0) → QR none (su σ 118 0 3) := fun h3 => hq _ (by rw [if_neg (fun x => x hj), if_neg (fun x => x hc), if_pos h3]; exact Or.inl ⟨by omega, rfl⟩)
  refine ⟨by omega, fun e => t3 (Or.inl e), fun n1 => ⟨by omega, fun e => t3 (Or.inr (Or.inl e)), fun n2 _ => ⟨fun e => ?_, fun e => t3 (Or.inr (Or.inr e))⟩⟩⟩
  refine s_D_job_108 S Q _ _ _ ?_
  simp only [k_D_job_0, k_D_job_11, k_D_job_15, k_D_job_25, k_D_job_36, k_D_job_46, k_D_job_57, k_D_job_61, k_D_job_72, k_D_job_85, k_D_job_92, k_D_job_96, k_D_job_97, k_D_job_107, k_D_job_108, oc_D_in, o_c, o_il, o_ll, o_al, o_is, o_as, o_ls, o_inc, o_bi, o_bid, o_bl, o_bld, o_sl, o_i2l, o_l2i, o_dup, o_dup2, o_pop, o_pop2, o_if, o_i2, o_l2, swg, o_sw, o_gI, o_gZ, o_gJ, o_gA, o_gR, o_pI, o_pZ, o_pJ, o_pR, o_ia, o_iak, o_zak, o_ja, o_jak, o_is_, o_isk, o_zsk, o_js_, o_jsk, o_len, o_ri, o_rz, o_rl, o_rv, ls1, ls2, lks, lkj, List.getD_cons_zero, List.getD_cons_succ, List.set_cons_zero, List.set_cons_succ, qcat, true_and, and_true, List.map_nil, List.map_cons, List.sum_nil, List.sum_cons, Nat.reduceAdd, Nat.reduceLeDiff, Nat.zero_le, Int.reduceAdd, Int.reduceNeg, Int.reduceEq, or_true, true_or, Decidable.not_not, false_implies, not_false_eq_true, true_implies, not_true_eq_false, Int.reduceLT, Int.reduceLE, su_s]
  refine ⟨by omega, by omega, by omega, by omega, by omega, hq _ ?_⟩
  rw [if_neg (fun x => x hj), if_neg (fun x => x hc), if_neg (fun x => x.elim n1 (fun y => y.elim n2 (fun z => z e)))]
  exact Or.inr ⟨rfl, rfl⟩
theorem c_D_job (l : Launch) (ad : Nat → Nat) (D : va_G) (cA : Nat → ClassId) : qC l ad D cA y_D_job (Cond.code y_D_job b_D_job 6 (none) :: lw_g) rm_D_job pre_D_job post_D_job := by
  refine qC_of (own := R_D) (by decide) rfl ⟨rfl, rfl⟩ ?_ ?_
  · intro av σ h; unfold pre_D_job at h; split at h
    · simp [qen]
    · exact h.elim
  · intro WW QR S Q av σ hav hσ h hq; unfold pre_D_job at h; split at h
    next o a1 a2 a3 a4 a5 =>
      obtain ⟨rfl, h⟩ := h
      exact w_D_job S Q a1 a2 a3 a4 a5 σ (hav _ (List.mem_of_getElem? (i := 1) rfl)) (hav _ (List.mem_of_getElem? (i := 2) rfl)) (hav _ (List.mem_of_getElem? (i := 3) rfl)) (hav _ (List.mem_of_getElem? (i := 4) rfl)) (hav _ (List.mem_of_getElem? (i := 5) rfl)) hσ h (fun σ' h' => hq _ σ' h')
    next => exact h.elim
def P_D_pair (_k _v : Int) (σ : qS) : Prop := 0 ≤ σ 130 0 ∧ σ 130 0 < 2000000000
def Q_D_pair (k v : Int) (σ σ' : qS) : Prop := σ' = if σ 130 0 < 4000 then su (su (su σ 122 (σ 130 0) k) 123 (σ 130 0) v) 130 0 (σ 130 0 + 1) else su σ 130 0 (σ 130 0 + 1)
def pre_D_pair (av : List qA) (σ : qS) : Prop := match av with
  | [.inr (.inr o), .inr (.inl a1), .inr (.inl a2)] => o = 901 ∧ P_D_pair a1 a2 σ
  | _ => False
def post_D_pair (av : List qA) (σ : qS) (r : Option qA) (σ' : qS) : Prop := match av, r with
  | [_, .inr (.inl a1), .inr (.inl a2)], none => Q_D_pair a1 a2 σ σ'
  | _, _ => False
def oc_D_pair (K : qP) : qP := fun st ls σ => match st with
  | .inr (.inl a2) :: .inr (.inl a1) :: .inr (.inr o) :: st => o = 901 ∧ (st.map qcat).sum ≤ 8 ∧ P_D_pair a1 a2 σ ∧ ∀ (σ' : qS), Q_D_pair a1 a2 σ σ' → K st ls σ'
  | _ => False
def rm_D_pair : Room := { frames := 0, cells := 0, slots := 0, locals := 0 }
theorem fl_D_63 : qF R_D 901 1 32 100 R_D F_D 63 22 := ⟨Or.inr ⟨rfl, rfl, rfl, rfl, rfl, rfl⟩, by decide, lw_at 811 (by decide +kernel) rfl⟩
theorem fl_D_66 : qF R_D 901 1 32 100 R_D F_D 66 23 := ⟨Or.inr ⟨rfl, rfl, rfl, rfl, rfl, rfl⟩, by decide, lw_at 812 (by decide +kernel) rfl⟩
theorem fl_D_106 : qF R_D 901 1 32 100 R_D F_D 106 30 := ⟨Or.inr ⟨rfl, rfl, rfl, rfl, rfl, rfl⟩, by decide, lw_at 819 (by decide +kernel) rfl⟩
def k_D_pair_32 (QR : Option qA → qS → Prop) (H : Nat → qP) : qP :=
  o_al 0 <| o_dup <| o_gI 901 130 <| o_c (.inl 1) <| o_bi z_add <| o_pI 901 130 <| o_rv QR
def k_D_pair_12 (QR : Option qA → qS → Prop) (H : Nat → qP) : qP :=
  o_al 0 <| o_gA 901 122 <| o_al 0 <| o_gI 901 130 <| o_ll 1 <| o_jsk 122 4000 <| o_al 0 <| o_gA 901 123 <| o_al 0 <| o_gI 901 130 <| o_ll 3 <| o_jsk 123 4000 <| k_D_pair_32 QR H
def k_D_pair_0 (QR : Option qA → qS → Prop) (H : Nat → qP) : qP :=
  o_al 0 <| o_gI 901 130 <| o_al 0 <| o_gA 901 122 <| o_len 122 4000 <| o_i2 (fun a b => b ≤ a) (k_D_pair_32 QR H) (k_D_pair_12 QR H)
set_option maxRecDepth 8000 in
theorem s_D_pair_32 {l : Launch} {ad : Nat → Nat} {D : va_G} {cA : Nat → ClassId} {WW : Nat → qP} {QR : Option qA → qS → Prop} (S : qSnd l rm_D_pair ad D cA R_D b_D_pair 5 WW) (Q : qRet (none) b_D_pair WW QR) : qle (k_D_pair_32 QR WW) WW 32 :=
  S.aload_n d_D_pair_32 rfl <| S.dup d_D_pair_33 <| S.gI fl_D_106 (by decide) d_D_pair_34 <| S.iconst d_D_pair_37 (by decide) <| S.iadd d_D_pair_38 <| S.pI fl_D_106 (by decide) (by decide +kernel) d_D_pair_39 <| Q.2.2.2 rfl _ d_D_pair_42
set_option maxRecDepth 8000 in
theorem s_D_pair_12 {l : Launch} {ad : Nat → Nat} {D : va_G} {cA : Nat → ClassId} {WW : Nat → qP} {QR : Option qA → qS → Prop} (S : qSnd l rm_D_pair ad D cA R_D b_D_pair 5 WW) (Q : qRet (none) b_D_pair WW QR) : qle (k_D_pair_12 QR WW) WW 12 :=
  S.aload_n d_D_pair_12 rfl <| S.gA fl_D_63 (by decide) d_D_pair_13 <| S.aload_n d_D_pair_16 rfl <| S.gI fl_D_106 (by decide) d_D_pair_17 <| S.lload_n d_D_pair_20 rfl <| S.jsk (by decide) d_D_pair_21 <| S.aload_n d_D_pair_22 rfl <| S.gA fl_D_66 (by decide) d_D_pair_23 <| S.aload_n d_D_pair_26 rfl <| S.gI fl_D_106 (by decide) d_D_pair_27 <| S.lload_n d_D_pair_30 rfl <| S.jsk (by decide) d_D_pair_31 <| (s_D_pair_32 S Q)
set_option maxRecDepth 8000 in
theorem s_D_pair_0 {l : Launch} {ad : Nat → Nat} {D : va_G} {cA : Nat → ClassId} {WW : Nat → qP} {QR : Option qA → qS → Prop} (S : qSnd l rm_D_pair ad D cA R_D b_D_pair 5 WW) (Q : qRet (none) b_D_pair WW QR) : qle (k_D_pair_0 QR WW) WW 0 :=
  S.aload_n d_D_pair_0 rfl <| S.gI fl_D_106 (by decide) d_D_pair_1 <| S.aload_n d_D_pair_4 rfl <| S.gA fl_D_63 (by decide) d_D_pair_5 <| S.len (by decide) d_D_pair_8 <| S.icmp_ge d_D_pair_9 (by decide) (s_D_pair_32 S Q) (s_D_pair_12 S Q)
theorem w_D_pair {l : Launch} {ad : Nat → Nat} {D : va_G} {cA : Nat → ClassId} {WW : Nat → qP} {QR : Option qA → qS → Prop} (S : qSnd l rm_D_pair ad D cA R_D b_D_pair 5 WW) (Q : qRet (none) b_D_pair WW QR) (a1 : Int) (a2 : Int) (σ : qS) (ha1 : r64 a1) (ha2 : r64 a2) (hσ : qoS σ) (h : P_D_pair a1 a2 σ) (hq : ∀ σ', Q_D_pair a1 a2 σ σ' → QR none σ') : WW 0 [] [some (.inr (.inr 901)), some (.inr (.inl a1)), none, some (.inr (.inl a2)), none] σ := by
  refine s_D_pair_0 S Q _ _ _ ?_
  simp only [k_D_pair_0, k_D_pair_12, k_D_pair_32, o_c, o_il, o_ll, o_al, o_is, o_as, o_ls, o_inc, o_bi, o_bid, o_bl, o_bld, o_sl, o_i2l, o_l2i, o_dup, o_dup2, o_pop, o_pop2, o_if, o_i2, o_l2, swg, o_sw, o_gI, o_gZ, o_gJ, o_gA, o_gR, o_pI, o_pZ, o_pJ, o_pR, o_ia, o_iak, o_zak, o_ja, o_jak, o_is_, o_isk, o_zsk, o_js_, o_jsk, o_len, o_ri, o_rz, o_rl, o_rv, ls1, ls2, lks, lkj, List.getD_cons_zero, List.getD_cons_succ, List.set_cons_zero, List.set_cons_succ, qcat, true_and, and_true, List.map_nil, List.map_cons, List.sum_nil, List.sum_cons, Nat.reduceAdd, Nat.reduceLeDiff, Nat.zero_le, Int.reduceAdd, Int.reduceNeg, Int.reduceEq, or_true, true_or, Decidable.not_not, false_implies, not_false_eq_true, true_implies, not_true_eq_false, Int.reduceLT, Int.reduceLE]
  have h' : 0 ≤ σ 130 0 ∧ σ 130 0 < 2000000000 := h
  have e2 : z_add (σ 130 0) 1 = σ 130 0 + 1 := by unfold z_add; exact w32_i _ (by omega) (by omega)
  simp (disch := omega) only [su_k, su_s]
  rw [e2]
  unfold Q_D_pair at hq
  exact ⟨fun hg => hq _ (by rw [if_neg (by omega)]), fun hg => ⟨by omega, by omega, hq _ (by rw [if_pos (by omega)])⟩⟩
theorem c_D_pair (l : Launch) (ad : Nat → Nat) (D : va_G) (cA : Nat → ClassId) : qC l ad D cA y_D_pair (Cond.code y_D_pair b_D_pair 5 (none) :: lw_g) rm_D_pair pre_D_pair post_D_pair := by
  refine qC_of (own := R_D) (by decide) rfl ⟨rfl, rfl⟩ ?_ ?_
  · intro av σ h; unfold pre_D_pair at h; split at h
    · simp [qen]
    · exact h.elim
  · intro WW QR S Q av σ hav hσ h hq; unfold pre_D_pair at h; split at h
    next o a1 a2 =>
      obtain ⟨rfl, h⟩ := h
      exact w_D_pair S Q a1 a2 σ (hav _ (List.mem_of_getElem? (i := 1) rfl)) (hav _ (List.mem_of_getElem? (i := 2) rfl)) hσ h (fun σ' h' => hq _ σ' h')
    next => exact h.elim

