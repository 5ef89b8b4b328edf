theorem inC {v lo hi : Int} {σ : qS} {A B : qS → Prop} (h1 : lo ≤ v ∧ v ≤ hi → B σ) (h2 : ¬ (lo ≤ v ∧ v ≤ hi) → A σ) : P_M_in v lo hi σ ∧ ∀ r σ1, Q_M_in v lo hi σ r σ1 → (r = 0 → A σ1) ∧ (¬ r = 0 → B σ1) := inB (K := fun r σ1 => (r = 0 → A σ1) ∧ (¬ r = 0 → B σ1)) (fun h => ⟨fun e => by omega, fun _ => h1 h⟩) (fun h => ⟨fun _ => h2 h, fun e => absurd rfl e⟩)
def RndP : Nat → Int → (qS → Prop) → qS → Prop
  | 0, _, K, σ => K σ
  | n + 1, w, K, σ => P_M_one w σ ∧ ∀ σ', Q_M_one w σ σ' → RndP n (w + 1) K σ'
def RndQ : Nat → Int → qS → qS → Prop
  | 0, _, σ, σ' => σ' = σ
  | n + 1, w, σ, σ' => ∃ σ1, Q_M_one w σ σ1 ∧ RndQ n (w + 1) σ1 σ'
def FinP : Nat → qS → Prop
  | 0, σ => σ 27 0 = 0
  | n + 1, σ => σ 27 0 = 0 ∨ (σ 27 0 ≠ 0 ∧ RndP 7 0 (FinP n) σ)
def FinQ : Nat → qS → qS → Prop
  | 0, σ, σ' => σ 27 0 = 0 ∧ σ' = σ
  | n + 1, σ, σ' => (σ 27 0 = 0 ∧ σ' = σ) ∨ (σ 27 0 ≠ 0 ∧ ∃ σ1, RndQ 7 0 σ σ1 ∧ FinQ n σ1 σ')
def fin0 (σ : qS) : qS := su (su σ 49 0 0) 50 0 0
def P_M_finish (σ : qS) : Prop := σ 26 0 ≠ 0 → ∃ n, FinP n (fin0 σ)
def Q_M_finish (σ : qS) (r : Int) (σ' : qS) : Prop := σ 26 0 ≠ 0 ∧ ∃ n σ1, FinQ n (fin0 σ) σ1 ∧ σ' = su σ1 26 0 0 ∧ r = σ1 28 0
def T_M_finish (σ : qS) (t : Nat) (σ' : qS) : Prop := σ' = σ ∧ σ 26 0 = 0 ∧ t = 1
def pre_M_finish (av : List qA) (σ : qS) : Prop := match av with
  | [.inr (.inr o)] => o = 900 ∧ P_M_finish  σ
  | _ => False
def post_M_finish (av : List qA) (σ : qS) (r : Option qA) (σ' : qS) : Prop := match av, r with
  | [_], some (.inl r) => Q_M_finish  σ r σ'
  | _, _ => False
def oc_M_finish (K : qP) : qP := fun st ls σ => match st with
  | .inr (.inr o) :: st => o = 900 ∧ (st.map qcat).sum ≤ 8 ∧ P_M_finish  σ ∧ ∀ (r : Int) (σ' : qS), Q_M_finish  σ r σ' → K (.inl r :: st) ls σ'
  | _ => False
def pst_M_finish (av : List qA) (σ : qS) (t : Nat) (σ' : qS) : Prop := match av with
  | [_] => T_M_finish  σ t σ'
  | _ => False
def ot_M_finish (QT : Nat → qS → Prop) (K : qP) : qP := fun st ls σ => match st with
  | .inr (.inr o) :: st => o = 900 ∧ (st.map qcat).sum ≤ 8 ∧ P_M_finish  σ ∧ (∀ (r : Int) (σ' : qS), Q_M_finish  σ r σ' → K (.inl r :: st) ls σ') ∧ ∀ (t : Nat) (σ' : qS), T_M_finish  σ t σ' → QT t σ'
  | _ => False
def rm_M_finish : Room := { frames := 9, cells := 1, slots := 6, locals := 220 }
def k_M_finish_46 (QR : Option qA → qS → Prop) (QT : Nat → qS → Prop) (H : Nat → qP) : qP :=
  o_al 0 <| o_c (.inl 0) <| o_pZ 900 26 <| o_al 0 <| o_gI 900 28 <| o_ri QR
def k_M_finish_43 (QR : Option qA → qS → Prop) (QT : Nat → qS → Prop) (H : Nat → qP) : qP :=
  H 17
def k_M_finish_32 (QR : Option qA → qS → Prop) (QT : Nat → qS → Prop) (H : Nat → qP) : qP :=
  o_al 0 <| o_il 1 <| oc_M_one <| o_inc 1 1 <| H 26
def k_M_finish_26 (QR : Option qA → qS → Prop) (QT : Nat → qS → Prop) (H : Nat → qP) : qP :=
  o_il 1 <| o_c (.inl 6) <| o_i2 (fun a b => b < a) (k_M_finish_43 QR QT H) (k_M_finish_32 QR QT H)
def k_M_finish_24 (QR : Option qA → qS → Prop) (QT : Nat → qS → Prop) (H : Nat → qP) : qP :=
  o_c (.inl 0) <| o_is 1 <| H 26
def k_M_finish_17 (QR : Option qA → qS → Prop) (QT : Nat → qS → Prop) (H : Nat → qP) : qP :=
  o_al 0 <| o_gZ 900 27 <| o_if (fun a => a = 0) (H 46) (k_M_finish_24 QR QT H)
def k_M_finish_0 (QR : Option qA → qS → Prop) (QT : Nat → qS → Prop) (H : Nat → qP) : qP :=
  o_al 0 <| o_gZ 900 26 <| ot_M_may QT <| o_al 0 <| o_c (.inl 0) <| o_pI 900 49 <| o_al 0 <| o_c (.inl 0) <| o_pI 900 50 <| H 17
set_option maxRecDepth 8000 in
theorem s_M_finish_46 {l : Launch} {ad : Nat → Nat} {D : va_G} {cA : Nat → ClassId} {WW : Nat → qP} {QR : Option qA → qS → Prop} (S : qSnd l rm_M_finish ad D cA R_M b_M_finish 2 WW) (Q : qRet (some .int) b_M_finish WW QR) {QT : Nat → qS → Prop} (Th : qThr l rm_M_finish ad D cA R_M b_M_finish WW QT) : qle (k_M_finish_46 QR QT WW) WW 46 :=
  S.aload_n d_M_finish_46 rfl <| S.iconst d_M_finish_47 (by decide) <| S.pZ fl_M_422 (by decide) (by decide +kernel) d_M_finish_48 <| S.aload_n d_M_finish_51 rfl <| S.gI fl_M_276 (by decide) d_M_finish_52 <| Q.1 rfl _ d_M_finish_55
set_option maxRecDepth 8000 in
theorem s_M_finish_43 {l : Launch} {ad : Nat → Nat} {D : va_G} {cA : Nat → ClassId} {WW : Nat → qP} {QR : Option qA → qS → Prop} (S : qSnd l rm_M_finish ad D cA R_M b_M_finish 2 WW) (Q : qRet (some .int) b_M_finish WW QR) {QT : Nat → qS → Prop} (Th : qThr l rm_M_finish ad D cA R_M b_M_finish WW QT) : qle (k_M_finish_43 QR QT WW) WW 43 :=
  S.goto d_M_finish_43 (by decide) (fun _ _ _ h => h)
set_option maxRecDepth 8000 in
theorem s_M_finish_32 {l : Launch} {ad : Nat → Nat} {D : va_G} {cA : Nat → ClassId} {WW : Nat → qP} {QR : Option qA → qS → Prop} (S : qSnd l rm_M_finish ad D cA R_M b_M_finish 2 WW) (Q : qRet (some .int) b_M_finish WW QR) {QT : Nat → qS → Prop} (Th : qThr l rm_M_finish ad D cA R_M b_M_finish WW QT) : qle (k_M_finish_32 QR QT WW) WW 32 :=
  S.aload_n d_M_finish_32 rfl <| S.iload_n d_M_finish_33 rfl <| sc_M_484 S (by decide) d_M_finish_34 <| S.iinc d_M_finish_37 (by decide) <| S.goto d_M_finish_40 (by decide) (fun _ _ _ h => h)
set_option maxRecDepth 8000 in
theorem s_M_finish_26 {l : Launch} {ad : Nat → Nat} {D : va_G} {cA : Nat → ClassId} {WW : Nat → qP} {QR : Option qA → qS → Prop} (S : qSnd l rm_M_finish ad D cA R_M b_M_finish 2 WW) (Q : qRet (some .int) b_M_finish WW QR) {QT : Nat → qS → Prop} (Th : qThr l rm_M_finish ad D cA R_M b_M_finish WW QT) : qle (k_M_finish_26 QR QT WW) WW 26 :=
  S.iload_n d_M_finish_26 rfl <| S.bipush d_M_finish_27 (by decide) <| S.icmp_gt d_M_finish_29 (by decide) (s_M_finish_43 S Q Th) (s_M_finish_32 S Q Th)
set_option maxRecDepth 8000 in
theorem s_M_finish_24 {l : Launch} {ad : Nat → Nat} {D : va_G} {cA : Nat → ClassId} {WW : Nat → qP} {QR : Option qA → qS → Prop} (S : qSnd l rm_M_finish ad D cA R_M b_M_finish 2 WW) (Q : qRet (some .int) b_M_finish WW QR) {QT : Nat → qS → Prop} (Th : qThr l rm_M_finish ad D cA R_M b_M_finish WW QT) : qle (k_M_finish_24 QR QT WW) WW 24 :=
  S.iconst d_M_finish_24 (by decide) <| S.istore_n d_M_finish_25 rfl (by decide) <| (fun _ _ _ h => h)
set_option maxRecDepth 8000 in
theorem s_M_finish_17 {l : Launch} {ad : Nat → Nat} {D : va_G} {cA : Nat → ClassId} {WW : Nat → qP} {QR : Option qA → qS → Prop} (S : qSnd l rm_M_finish ad D cA R_M b_M_finish 2 WW) (Q : qRet (some .int) b_M_finish WW QR) {QT : Nat → qS → Prop} (Th : qThr l rm_M_finish ad D cA R_M b_M_finish WW QT) : qle (k_M_finish_17 QR QT WW) WW 17 :=
  S.aload_n d_M_finish_17 rfl <| S.gZ fl_M_267 (by decide) d_M_finish_18 <| S.if_eq d_M_finish_21 (by decide) (fun _ _ _ h => h) (s_M_finish_24 S Q Th)
set_option maxRecDepth 8000 in
theorem s_M_finish_0 {l : Launch} {ad : Nat → Nat} {D : va_G} {cA : Nat → ClassId} {WW : Nat → qP} {QR : Option qA → qS → Prop} (S : qSnd l rm_M_finish ad D cA R_M b_M_finish 2 WW) (Q : qRet (some .int) b_M_finish WW QR) {QT : Nat → qS → Prop} (Th : qThr l rm_M_finish ad D cA R_M b_M_finish WW QT) : qle (k_M_finish_0 QR QT WW) WW 0 :=
  S.aload_n d_M_finish_0 rfl <| S.gZ fl_M_422 (by decide) d_M_finish_1 <| st_M_425 Th (by decide) d_M_finish_4 <| S.aload_n d_M_finish_7 rfl <| S.iconst d_M_finish_8 (by decide) <| S.pI fl_M_285 (by decide) (by decide +kernel) d_M_finish_9 <| S.aload_n d_M_finish_12 rfl <| S.iconst d_M_finish_13 (by decide) <| S.pI fl_M_288 (by decide) (by decide +kernel) d_M_finish_14 <| (fun _ _ _ h => h)
theorem v_M_finish_26 {l : Launch} {ad : Nat → Nat} {D : va_G} {cA : Nat → ClassId} {WW : Nat → qP} {QR : Option qA → qS → Prop} (S : qSnd l rm_M_finish ad D cA R_M b_M_finish 2 WW) (Q : qRet (some .int) b_M_finish WW QR) {QT : Nat → qS → Prop} (Th : qThr l rm_M_finish ad D cA R_M b_M_finish WW QT) (K0 : qS → Prop) (σ0 : qS) (K : ∀ σ', K0 σ' → RndQ 7 0 σ0 σ' → WW 17 [] [some (.inr (.inr 900)), none] σ') : ∀ (m : Nat) (w : Int) (σ : qS), 0 ≤ w → w + m = 7 → RndP m w K0 σ → (∀ σ', RndQ m w σ σ' → RndQ 7 0 σ0 σ') → WW 26 [] [some (.inr (.inr 900)), some (.inl w)] σ := by
  intro m
  induction m with
  | zero =>
    intro w σ hw0 hw hP hQ
    refine s_M_finish_26 S Q Th _ _ _ ?_
    simp only [k_M_finish_0, k_M_finish_17, k_M_finish_24, k_M_finish_26, k_M_finish_32, k_M_finish_43, k_M_finish_46, ot_M_may, oc_M_one, o_th, o_c, o_il, o_ll, o_al, o_is, o_as, o_ls, o_inc, o_bi, o_bid, o_bl, o_bld, o_sl, o_i2l, o_l2i, o_dup, o_dup2, o_pop, o_pop2, o_if, o_i2, o_l2, swg, o_sw, o_gI, o_gZ, o_gJ, o_gA, o_gR, o_pI, o_pZ, o_pJ, o_pR, o_ia, o_iak, o_zak, o_ja, o_jak, o_is_, o_isk, o_zsk, o_js_, o_jsk, o_len, o_ri, o_rz, o_rl, o_rv, ls1, ls2, lks, lkj, List.getD_cons_zero, List.getD_cons_succ, List.set_cons_zero, List.set_cons_succ, qcat, true_and, and_true, List.map_nil, List.map_cons, List.sum_nil, List.sum_cons, Nat.reduceAdd, Nat.reduceLeDiff, Nat.zero_le, Int.reduceAdd, Int.reduceNeg, Int.reduceEq, or_true, true_or, Decidable.not_not, false_implies, not_false_eq_true, true_implies, not_true_eq_false, Int.reduceLT, Int.reduceLE]
    exact ⟨fun _ => S.fg (ls' := [some (.inr (.inr 900)), none]) ⟨rfl, trivial⟩ (K σ hP (hQ _ rfl)), fun h => by omega⟩
  | succ m ih =>
    intro w σ hw0 hw hP hQ
    refine s_M_finish_26 S Q Th _ _ _ ?_
    simp only [k_M_finish_0, k_M_finish_17, k_M_finish_24, k_M_finish_26, k_M_finish_32, k_M_finish_43, k_M_finish_46, ot_M_may, oc_M_one, o_th, o_c, o_il, o_ll, o_al, o_is, o_as, o_ls, o_inc, o_bi, o_bid, o_bl, o_bld, o_sl, o_i2l, o_l2i, o_dup, o_dup2, o_pop, o_pop2, o_if, o_i2, o_l2, swg, o_sw, o_gI, o_gZ, o_gJ, o_gA, o_gR, o_pI, o_pZ, o_pJ, o_pR, o_ia, o_iak, o_zak, o_ja, o_jak, o_is_, o_isk, o_zsk, o_js_, o_jsk, o_len, o_ri, o_rz, o_rl, o_rv, ls1, ls2, lks, lkj, List.getD_cons_zero, List.getD_cons_succ, List.set_cons_zero, List.set_cons_succ, qcat, true_and, and_true, List.map_nil, List.map_cons, List.sum_nil, List.sum_cons, Nat.reduceAdd, Nat.reduceLeDiff, Nat.zero_le, Int.reduceAdd, Int.reduceNeg, Int.reduceEq, or_true, true_or, Decidable.not_not, false_implies, not_false_eq_true, true_implies, not_true_eq_false, Int.reduceLT, Int.reduceLE]
    rw [w32_i _ (by omega) (by omega)]
    exact ⟨fun h => by omega, fun _ => ⟨hP.1, fun σ1 q1 => ih (w + 1) σ1 (by omega) (by omega) (hP.2 σ1 q1) (fun σ' q => hQ _ ⟨σ1, q1, q⟩)⟩⟩
theorem v_M_finish_17 {l : Launch} {ad : Nat → Nat} {D : va_G} {cA : Nat → ClassId} {WW : Nat → qP} {QR : Option qA → qS → Prop} (S : qSnd l rm_M_finish ad D cA R_M b_M_finish 2 WW) (Q : qRet (some .int) b_M_finish WW QR) {QT : Nat → qS → Prop} (Th : qThr l rm_M_finish ad D cA R_M b_M_finish WW QT) (hq : ∀ n σ σ1, True → (K : FinQ n σ σ1) → True) (σa : qS) (K : ∀ σ1, (∃ n, FinQ n σa σ1) → WW 46 [] [some (.inr (.inr 900)), none] σ1) : ∀ (n : Nat) (σ : qS), FinP n σ → (∀ k σ1, FinQ k σ σ1 → ∃ k', FinQ k' σa σ1) → WW 17 [] [some (.inr (.inr 900)), none] σ := by
  intro n
  induction n with
  | zero =>
    intro σ hF hr
    refine s_M_finish_17 S Q Th _ _ _ ?_
    simp only [k_M_finish_0, k_M_finish_17, k_M_finish_24, k_M_finish_26, k_M_finish_32, k_M_finish_43, k_M_finish_46, ot_M_may, oc_M_one, o_th, o_c, o_il, o_ll, o_al, o_is, o_as, o_ls, o_inc, o_bi, o_bid, o_bl, o_bld, o_sl, o_i2l, o_l2i, o_dup, o_dup2, o_pop, o_pop2, o_if, o_i2, o_l2, swg, o_sw, o_gI, o_gZ, o_gJ, o_gA, o_gR, o_pI, o_pZ, o_pJ, o_pR, o_ia, o_iak, o_zak, o_ja, o_jak, o_is_, o_isk, o_zsk, o_js_, o_jsk, o_len, o_ri, o_rz, o_rl, o_rv, ls1, ls2, lks, lkj, List.getD_cons_zero, List.getD_cons_succ, List.set_cons_zero, List.set_cons_succ, qcat, true_and, and_true, List.map_nil, List.map_cons, List.sum_nil, List.sum_cons, Nat.reduceAdd, Nat.reduceLeDiff, Nat.zero_le, Int.reduceAdd, Int.reduceNeg, Int.reduceEq, or_true, true_or, Decidable.not_not, false_implies, not_false_eq_true, true_implies, not_true_eq_false, Int.reduceLT, Int.reduceLE]
    exact fun _ => ⟨fun h0 => K σ (hr 0 σ ⟨h0, rfl⟩), fun h0 => absurd hF h0⟩
  | succ n ih =>
    intro σ hF hr
    refine s_M_finish_17 S Q Th _ _ _ ?_
    simp only [k_M_finish_0, k_M_finish_17, k_M_finish_24, k_M_finish_26, k_M_finish_32, k_M_finish_43, k_M_finish_46, ot_M_may, oc_M_one, o_th, o_c, o_il, o_ll, o_al, o_is, o_as, o_ls, o_inc, o_bi, o_bid, o_bl, o_bld, o_sl, o_i2l, o_l2i, o_dup, o_dup2, o_pop, o_pop2, o_if, o_i2, o_l2, swg, o_sw, o_gI, o_gZ, o_gJ, o_gA, o_gR, o_pI, o_pZ, o_pJ, o_pR, o_ia, o_iak, o_zak, o_ja, o_jak, o_is_, o_isk, o_zsk, o_js_, o_jsk, o_len, o_ri, o_rz, o_rl, o_rv, ls1, ls2, lks, lkj, List.getD_cons_zero, List.getD_cons_succ, List.set_cons_zero, List.set_cons_succ, qcat, true_and, and_true, List.map_nil, List.map_cons, List.sum_nil, List.sum_cons, Nat.reduceAdd, Nat.reduceLeDiff, Nat.zero_le, Int.reduceAdd, Int.reduceNeg, Int.reduceEq, or_true, true_or, Decidable.not_not, false_implies, not_false_eq_true, true_implies, not_true_eq_false, Int.reduceLT, Int.reduceLE]
    refine fun _ => ⟨fun h0 => K σ (hr 0 σ ⟨h0, rfl⟩), fun h0 => ?_⟩
    rcases hF with h | ⟨_, hP⟩
    · exact absurd h h0
    · exact v_M_finish_26 S Q Th (FinP n) σ (fun σ' hF' hR => ih σ' hF' (fun k σ1 hk => hr (k + 1) σ1 (Or.inr ⟨h0, σ', hR, hk⟩))) 7 0 σ (by omega) (by omega) hP (fun σ' q => q)
theorem w_M_finish {l : Launch} {ad : Nat → Nat} {D : va_G} {cA : Nat → ClassId} {WW : Nat → qP} {QR : Option qA → qS → Prop} (S : qSnd l rm_M_finish ad D cA R_M b_M_finish 2 WW) (Q : qRet (some .int) b_M_finish WW QR) {QT : Nat → qS → Prop} (Th : qThr l rm_M_finish ad D cA R_M b_M_finish WW QT)  (σ : qS)  (hσ : qoS σ) (h : P_M_finish  σ) (hq : ∀ (r : Int) σ', Q_M_finish  σ r σ' → QR (some (.inl r)) σ') (ht : ∀ (t : Nat) σ', T_M_finish  σ t σ' → QT t σ') : WW 0 [] [some (.inr (.inr 900)), none] σ := by
  refine s_M_finish_0 S Q Th _ _ _ ?_
  simp only [k_M_finish_0, k_M_finish_17, k_M_finish_24, k_M_finish_26, k_M_finish_32, k_M_finish_43, k_M_finish_46, ot_M_may, oc_M_one, o_th, o_c, o_il, o_ll, o_al, o_is, o_as, o_ls, o_inc, o_bi, o_bid, o_bl, o_bld, o_sl, o_i2l, o_l2i, o_dup, o_dup2, o_pop, o_pop2, o_if, o_i2, o_l2, swg, o_sw, o_gI, o_gZ, o_gJ, o_gA, o_gR, o_pI, o_pZ, o_pJ, o_pR, o_ia, o_iak, o_zak, o_ja, o_jak, o_is_, o_isk, o_zsk, o_js_, o_jsk, o_len, o_ri, o_rz, o_rl, o_rv, ls1, ls2, lks, lkj, List.getD_cons_zero, List.getD_cons_succ, List.set_cons_zero, List.set_cons_succ, qcat, true_and, and_true, List.map_nil, List.map_cons, List.sum_nil, List.sum_cons, Nat.reduceAdd, Nat.reduceLeDiff, Nat.zero_le, Int.reduceAdd, Int.reduceNeg, Int.reduceEq, or_true, true_or, Decidable.not_not, false_implies, not_false_eq_true, true_implies, not_true_eq_false, Int.reduceLT, Int.reduceLE]
  refine fun _ => mayB (fun hb => ?_) (fun hb => ht _ _ ⟨rfl, hb, rfl⟩)
  obtain ⟨n, hn⟩ := h hb
  refine v_M_finish_17 S Q Th (fun _ _ _ _ _ => trivial) (fin0 σ) (fun σ1 q => ?_) n (fin0 σ) hn (fun k σ1 h => ⟨k, h⟩)
  refine s_M_finish_46 S Q Th _ _ _ ?_
  simp only [k_M_finish_0, k_M_finish_17, k_M_finish_24, k_M_finish_26, k_M_finish_32, k_M_finish_43, k_M_finish_46, ot_M_may, oc_M_one, o_th, o_c, o_il, o_ll, o_al, o_is, o_as, o_ls, o_inc, o_bi, o_bid, o_bl, o_bld, o_sl, o_i2l, o_l2i, o_dup, o_dup2, o_pop, o_pop2, o_if, o_i2, o_l2, swg, o_sw, o_gI, o_gZ, o_gJ, o_gA, o_gR, o_pI, o_pZ, o_pJ, o_pR, o_ia, o_iak, o_zak, o_ja, o_jak, o_is_, o_isk, o_zsk, o_js_, o_jsk, o_len, o_ri, o_rz, o_rl, o_rv, ls1, ls2, lks, lkj, List.getD_cons_zero, List.getD_cons_succ, List.set_cons_zero, List.set_cons_succ, qcat, true_and, and_true, List.map_nil, List.map_cons, List.sum_nil, List.sum_cons, Nat.reduceAdd, Nat.reduceLeDiff, Nat.zero_le, Int.reduceAdd, Int.reduceNeg, Int.reduceEq, or_true, true_or, Decidable.not_not, false_implies, not_false_eq_true, true_implies, not_true_eq_false, Int.reduceLT, Int.reduceLE]
  obtain ⟨k, hk⟩ := q
  exact hq _ _ ⟨hb, k, σ1, hk, rfl, by rw [su_k (by decide)]⟩
theorem c_M_finish (l : Launch) (ad : Nat → Nat) (D : va_G) (cA : Nat → ClassId) : qT l ad D cA y_M_finish (Cond.code y_M_finish b_M_finish 2 (some .int) :: lw_g) rm_M_finish pre_M_finish post_M_finish pst_M_finish := by
  refine qT_of (own := R_M) (by decide) rfl ?_ ?_
  · intro av σ h; unfold pre_M_finish at h; split at h
    · simp [qen]
    · exact h.elim
  · intro WW QR QT S Q Th av σ hav hσ h hq ht; unfold pre_M_finish at h; split at h
    next o =>
      obtain ⟨rfl, h⟩ := h
      exact w_M_finish S Q Th  σ  hσ h (fun r σ' h' => hq _ σ' h') (fun t σ' h' => ht t σ' h')
    next => exact h.elim
def codok (o a : Int) : Prop := (0 ≤ o ∧ o ≤ 18) ∧ (o = 4 ∨ o = 5 → 0 ≤ a ∧ a ≤ 3) ∧ (o = 15 ∨ o = 16 → 0 ≤ a ∧ a ≤ 40)
def P_M_code (_o _a : Int) (σ : qS) : Prop := 0 ≤ σ 5 0 ∧ σ 5 0 ≤ 40
def Q_M_code (o a : Int) (σ : qS) (r : Int) (σ' : qS) : Prop := codok o a ∧ σ 5 0 < 40 ∧ σ 26 0 = 0 ∧ r = σ 5 0 + 1 ∧ σ' = su (su (su σ 3 (σ 5 0) o) 4 (σ 5 0) a) 5 0 (σ 5 0 + 1)
def T_M_code (o a : Int) (σ : qS) (t : Nat) (σ' : qS) : Prop := σ' = σ ∧ ((¬ codok o a ∧ t = 0) ∨ (codok o a ∧ (σ 26 0 ≠ 0 ∨ ¬ σ 5 0 < 40) ∧ t = 1))
def pre_M_code (av : List qA) (σ : qS) : Prop := match av with
  | [.inr (.inr o), .inl a1, .inr (.inl a2)] => o = 900 ∧ P_M_code a1 a2 σ
  | _ => False
def post_M_code (av : List qA) (σ : qS) (r : Option qA) (σ' : qS) : Prop := match av, r with
  | [_, .inl a1, .inr (.inl a2)], some (.inl r) => Q_M_code a1 a2 σ r σ'
  | _, _ => False
def oc_M_code (K : qP) : qP := fun st ls σ => match st with
  | .inr (.inl a2) :: .inl a1 :: .inr (.inr o) :: st => o = 900 ∧ (st.map qcat).sum ≤ 8 ∧ P_M_code a1 a2 σ ∧ ∀ (r : Int) (σ' : qS), Q_M_code a1 a2 σ r σ' → K (.inl r :: st) ls σ'
  | _ => False
def pst_M_code (av : List qA) (σ : qS) (t : Nat) (σ' : qS) : Prop := match av with
  | [_, .inl a1, .inr (.inl a2)] => T_M_code a1 a2 σ t σ'
  | _ => False
def ot_M_code (QT : Nat → qS → Prop) (K : qP) : qP := fun st ls σ => match st with
  | .inr (.inl a2) :: .inl a1 :: .inr (.inr o) :: st => o = 900 ∧ (st.map qcat).sum ≤ 8 ∧ P_M_code a1 a2 σ ∧ (∀ (r : Int) (σ' : qS), Q_M_code a1 a2 σ r σ' → K (.inl r :: st) ls σ') ∧ ∀ (t : Nat) (σ' : qS), T_M_code a1 a2 σ t σ' → QT t σ'
  | _ => False
def rm_M_code : Room := { frames := 7, cells := 1, slots := 6, locals := 101 }
theorem fl_M_20 : qF R_M 900 0 82 0 R_M F_M 20 3 := ⟨Or.inl ⟨rfl, rfl, rfl, rfl, rfl, rfl⟩, by decide, lw_at 81 (by decide +kernel) rfl⟩
theorem fl_M_23 : qF R_M 900 0 82 0 R_M F_M 23 4 := ⟨Or.inl ⟨rfl, rfl, rfl, rfl, rfl, rfl⟩, by decide, lw_at 82 (by decide +kernel) rfl⟩
theorem fl_M_453 : qF R_M 900 0 82 0 R_M F_M 453 5 := ⟨Or.inl ⟨rfl, rfl, rfl, rfl, rfl, rfl⟩, by decide, lw_at 83 (by decide +kernel) rfl⟩
def k_M_code_88 (QR : Option qA → qS → Prop) (QT : Nat → qS → Prop) (H : Nat → qP) : qP :=
  o_al 0 <| o_gA 900 3 <| o_al 0 <| o_gI 900 5 <| o_il 1 <| o_isk 3 40 <| o_al 0 <| o_gA 900 4 <| o_al 0 <| o_gI 900 5 <| o_ll 2 <| o_jsk 4 40 <| o_al 0 <| o_dup <| o_gI 900 5 <| o_c (.inl 1) <| o_bi z_add <| o_pI 900 5 <| o_al 0 <| o_gI 900 5 <| o_ri QR
def k_M_code_85 (QR : Option qA → qS → Prop) (QT : Nat → qS → Prop) (H : Nat → qP) : qP :=
  ot_M_may QT <| H 88
def k_M_code_84 (QR : Option qA → qS → Prop) (QT : Nat → qS → Prop) (H : Nat → qP) : qP :=
  o_c (.inl 0) <| k_M_code_85 QR QT H
def k_M_code_80 (QR : Option qA → qS → Prop) (QT : Nat → qS → Prop) (H : Nat → qP) : qP :=
  o_c (.inl 1) <| k_M_code_85 QR QT H
def k_M_code_73 (QR : Option qA → qS → Prop) (QT : Nat → qS → Prop) (H : Nat → qP) : qP :=
  o_al 0 <| o_gZ 900 26 <| o_if (fun a => ¬ a = 0) (k_M_code_84 QR QT H) (k_M_code_80 QR QT H)
def k_M_code_64 (QR : Option qA → qS → Prop) (QT : Nat → qS → Prop) (H : Nat → qP) : qP :=
  o_al 0 <| o_gI 900 5 <| o_c (.inl 40) <| o_i2 (fun a b => b ≤ a) (k_M_code_84 QR QT H) (k_M_code_73 QR QT H)
def k_M_code_61 (QR : Option qA → qS → Prop) (QT : Nat → qS → Prop) (H : Nat → qP) : qP :=
  ot_M_right QT <| H 64
def k_M_code_60 (QR : Option qA → qS → Prop) (QT : Nat → qS → Prop) (H : Nat → qP) : qP :=
  o_c (.inl 0) <| k_M_code_61 QR QT H
def k_M_code_56 (QR : Option qA → qS → Prop) (QT : Nat → qS → Prop) (H : Nat → qP) : qP :=
  o_c (.inl 1) <| k_M_code_61 QR QT H
def k_M_code_45 (QR : Option qA → qS → Prop) (QT : Nat → qS → Prop) (H : Nat → qP) : qP :=
  o_ll 2 <| o_c (.inr (.inl 0)) <| o_c (.inr (.inl 40)) <| oc_M_in <| o_if (fun a => a = 0) (H 60) (H 56)
def k_M_code_39 (QR : Option qA → qS → Prop) (QT : Nat → qS → Prop) (H : Nat → qP) : qP :=
  o_il 1 <| o_c (.inl 16) <| o_i2 (fun a b => ¬ a = b) (H 56) (k_M_code_45 QR QT H)
def k_M_code_33 (QR : Option qA → qS → Prop) (QT : Nat → qS → Prop) (H : Nat → qP) : qP :=
  o_il 1 <| o_c (.inl 15) <| o_i2 (fun a b => a = b) (k_M_code_45 QR QT H) (k_M_code_39 QR QT H)
def k_M_code_22 (QR : Option qA → qS → Prop) (QT : Nat → qS → Prop) (H : Nat → qP) : qP :=
  o_ll 2 <| o_c (.inr (.inl 0)) <| o_c (.inr (.inl 3)) <| oc_M_in <| o_if (fun a => a = 0) (H 60) (H 33)
def k_M_code_17 (QR : Option qA → qS → Prop) (QT : Nat → qS → Prop) (H : Nat → qP) : qP :=
  o_il 1 <| o_c (.inl 5) <| o_i2 (fun a b => ¬ a = b) (H 33) (k_M_code_22 QR QT H)
def k_M_code_12 (QR : Option qA → qS → Prop) (QT : Nat → qS → Prop) (H : Nat → qP) : qP :=
  o_il 1 <| o_c (.inl 4) <| o_i2 (fun a b => a = b) (k_M_code_22 QR QT H) (k_M_code_17 QR QT H)
def k_M_code_0 (QR : Option qA → qS → Prop) (QT : Nat → qS → Prop) (H : Nat → qP) : qP :=
  o_il 1 <| o_i2l <| o_c (.inr (.inl 0)) <| o_c (.inr (.inl 18)) <| oc_M_in <| o_if (fun a => a = 0) (H 60) (k_M_code_12 QR QT H)
set_option maxRecDepth 8000 in
theorem s_M_code_88 {l : Launch} {ad : Nat → Nat} {D : va_G} {cA : Nat → ClassId} {WW : Nat → qP} {QR : Option qA → qS → Prop} (S : qSnd l rm_M_code ad D cA R_M b_M_code 4 WW) (Q : qRet (some .int) b_M_code WW QR) {QT : Nat → qS → Prop} (Th : qThr l rm_M_code ad D cA R_M b_M_code WW QT) : qle (k_M_code_88 QR QT WW) WW 88 :=
  S.aload_n d_M_code_88 rfl <| S.gA fl_M_20 (by decide) d_M_code_89 <| S.aload_n d_M_code_92 rfl <| S.gI fl_M_453 (by decide) d_M_code_93 <| S.iload_n d_M_code_96 rfl <| S.isk (by decide) d_M_code_97 <| S.aload_n d_M_code_98 rfl <| S.gA fl_M_23 (by decide) d_M_code_99 <| S.aload_n d_M_code_102 rfl <| S.gI fl_M_453 (by decide) d_M_code_103 <| S.lload_n d_M_code_106 rfl <| S.jsk (by decide) d_M_code_107 <| S.aload_n d_M_code_108 rfl <| S.dup d_M_code_109 <| S.gI fl_M_453 (by decide) d_M_code_110 <| S.iconst d_M_code_113 (by decide) <| S.iadd d_M_code_114 <| S.pI fl_M_453 (by decide) (by decide +kernel) d_M_code_115 <| S.aload_n d_M_code_118 rfl <| S.gI fl_M_453 (by decide) d_M_code_119 <| Q.1 rfl _ d_M_code_122
set_option maxRecDepth 8000 in
theorem s_M_code_85 {l : Launch} {ad : Nat → Nat} {D : va_G} {cA : Nat → ClassId} {WW : Nat → qP} {QR : Option qA → qS → Prop} (S : qSnd l rm_M_code ad D cA R_M b_M_code 4 WW) (Q : qRet (some .int) b_M_code WW QR) {QT : Nat → qS → Prop} (Th : qThr l rm_M_code ad D cA R_M b_M_code WW QT) : qle (k_M_code_85 QR QT WW) WW 85 :=
  st_M_425 Th (by decide) d_M_code_85 <| (fun _ _ _ h => h)
set_option maxRecDepth 8000 in
theorem s_M_code_84 {l : Launch} {ad : Nat → Nat} {D : va_G} {cA : Nat → ClassId} {WW : Nat → qP} {QR : Option qA → qS → Prop} (S : qSnd l rm_M_code ad D cA R_M b_M_code 4 WW) (Q : qRet (some .int) b_M_code WW QR) {QT : Nat → qS → Prop} (Th : qThr l rm_M_code ad D cA R_M b_M_code WW QT) : qle (k_M_code_84 QR QT WW) WW 84 :=
  S.iconst d_M_code_84 (by decide) <| (s_M_code_85 S Q Th)
set_option maxRecDepth 8000 in
theorem s_M_code_80 {l : Launch} {ad : Nat → Nat} {D : va_G} {cA : Nat → ClassId} {WW : Nat → qP} {QR : Option qA → qS → Prop} (S : qSnd l rm_M_code ad D cA R_M b_M_code 4 WW) (Q : qRet (some .int) b_M_code WW QR) {QT : Nat → qS → Prop} (Th : qThr l rm_M_code ad D cA R_M b_M_code WW QT) : qle (k_M_code_80 QR QT WW) WW 80 :=
  S.iconst d_M_code_80 (by decide) <| S.goto d_M_code_81 (by decide) (s_M_code_85 S Q Th)
set_option maxRecDepth 8000 in
theorem s_M_code_73 {l : Launch} {ad : Nat → Nat} {D : va_G} {cA : Nat → ClassId} {WW : Nat → qP} {QR : Option qA → qS → Prop} (S : qSnd l rm_M_code ad D cA R_M b_M_code 4 WW) (Q : qRet (some .int) b_M_code WW QR) {QT : Nat → qS → Prop} (Th : qThr l rm_M_code ad D cA R_M b_M_code WW QT) : qle (k_M_code_73 QR QT WW) WW 73 :=
  S.aload_n d_M_code_73 rfl <| S.gZ fl_M_422 (by decide) d_M_code_74 <| S.if_ne d_M_code_77 (by decide) (s_M_code_84 S Q Th) (s_M_code_80 S Q Th)
set_option maxRecDepth 8000 in
theorem s_M_code_64 {l : Launch} {ad : Nat → Nat} {D : va_G} {cA : Nat → ClassId} {WW : Nat → qP} {QR : Option qA → qS → Prop} (S : qSnd l rm_M_code ad D cA R_M b_M_code 4 WW) (Q : qRet (some .int) b_M_code WW QR) {QT : Nat → qS → Prop} (Th : qThr l rm_M_code ad D cA R_M b_M_code WW QT) : qle (k_M_code_64 QR QT WW) WW 64 :=
  S.aload_n d_M_code_64 rfl <| S.gI fl_M_453 (by decide) d_M_code_65 <| S.bipush d_M_code_68 (by decide) <| S.icmp_ge d_M_code_70 (by decide) (s_M_code_84 S Q Th) (s_M_code_73 S Q Th)
set_option maxRecDepth 8000 in
theorem s_M_code_61 {l : Launch} {ad : Nat → Nat} {D : va_G} {cA : Nat → ClassId} {WW : Nat → qP} {QR : Option qA → qS → Prop} (S : qSnd l rm_M_code ad D cA R_M b_M_code 4 WW) (Q : qRet (some .int) b_M_code WW QR) {QT : Nat → qS → Prop} (Th : qThr l rm_M_code ad D cA R_M b_M_code WW QT) : qle (k_M_code_61 QR QT WW) WW 61 :=
  st_M_450 Th (by decide) d_M_code_61 <| (fun _ _ _ h => h)
set_option maxRecDepth 8000 in
theorem s_M_code_60 {l : Launch} {ad : Nat → Nat} {D : va_G} {cA : Nat → ClassId} {WW : Nat → qP} {QR : Option qA → qS → Prop} (S : qSnd l rm_M_code ad D cA R_M b_M_code 4 WW) (Q : qRet (some .int) b_M_code WW QR) {QT : Nat → qS → Prop} (Th : qThr l rm_M_code ad D cA R_M b_M_code WW QT) : qle (k_M_code_60 QR QT WW) WW 60 :=
  S.iconst d_M_code_60 (by decide) <| (s_M_code_61 S Q Th)
set_option maxRecDepth 8000 in
theorem s_M_code_56 {l : Launch} {ad : Nat → Nat} {D : va_G} {cA : Nat → ClassId} {WW : Nat → qP} {QR : Option qA → qS → Prop} (S : qSnd l rm_M_code ad D cA R_M b_M_code 4 WW) (Q : qRet (some .int) b_M_code WW QR) {QT : Nat → qS → Prop} (Th : qThr l rm_M_code ad D cA R_M b_M_code WW QT) : qle (k_M_code_56 QR QT WW) WW 56 :=
  S.iconst d_M_code_56 (by decide) <| S.goto d_M_code_57 (by decide) (s_M_code_61 S Q Th)
set_option maxRecDepth 8000 in
theorem s_M_code_45 {l : Launch} {ad : Nat → Nat} {D : va_G} {cA : Nat → ClassId} {WW : Nat → qP} {QR : Option qA → qS → Prop} (S : qSnd l rm_M_code ad D cA R_M b_M_code 4 WW) (Q : qRet (some .int) b_M_code WW QR) {QT : Nat → qS → Prop} (Th : qThr l rm_M_code ad D cA R_M b_M_code WW QT) : qle (k_M_code_45 QR QT WW) WW 45 :=
  S.lload_n d_M_code_45 rfl <| S.lconst d_M_code_46 (by decide) <| S.ldc2 d_M_code_47 (lw_at 474 (by decide +kernel) rfl) (by decide) <| sc_M_431 S (by decide) d_M_code_50 <| S.if_eq d_M_code_53 (by decide) (fun _ _ _ h => h) (fun _ _ _ h => h)
set_option maxRecDepth 8000 in
theorem s_M_code_39 {l : Launch} {ad : Nat → Nat} {D : va_G} {cA : Nat → ClassId} {WW : Nat → qP} {QR : Option qA → qS → Prop} (S : qSnd l rm_M_code ad D cA R_M b_M_code 4 WW) (Q : qRet (some .int) b_M_code WW QR) {QT : Nat → qS → Prop} (Th : qThr l rm_M_code ad D cA R_M b_M_code WW QT) : qle (k_M_code_39 QR QT WW) WW 39 :=
  S.iload_n d_M_code_39 rfl <| S.bipush d_M_code_40 (by decide) <| S.icmp_ne d_M_code_42 (by decide) (fun _ _ _ h => h) (s_M_code_45 S Q Th)
set_option maxRecDepth 8000 in
theorem s_M_code_33 {l : Launch} {ad : Nat → Nat} {D : va_G} {cA : Nat → ClassId} {WW : Nat → qP} {QR : Option qA → qS → Prop} (S : qSnd l rm_M_code ad D cA R_M b_M_code 4 WW) (Q : qRet (some .int) b_M_code WW QR) {QT : Nat → qS → Prop} (Th : qThr l rm_M_code ad D cA R_M b_M_code WW QT) : qle (k_M_code_33 QR QT WW) WW 33 :=
  S.iload_n d_M_code_33 rfl <| S.bipush d_M_code_34 (by decide) <| S.icmp_eq d_M_code_36 (by decide) (s_M_code_45 S Q Th) (s_M_code_39 S Q Th)
set_option maxRecDepth 8000 in
theorem s_M_code_22 {l : Launch} {ad : Nat → Nat} {D : va_G} {cA : Nat → ClassId} {WW : Nat → qP} {QR : Option qA → qS → Prop} (S : qSnd l rm_M_code ad D cA R_M b_M_code 4 WW) (Q : qRet (some .int) b_M_code WW QR) {QT : Nat → qS → Prop} (Th : qThr l rm_M_code ad D cA R_M b_M_code WW QT) : qle (k_M_code_22 QR QT WW) WW 22 :=
  S.lload_n d_M_code_22 rfl <| S.lconst d_M_code_23 (by decide) <| S.ldc2 d_M_code_24 (lw_at 473 (by decide +kernel) rfl) (by decide) <| sc_M_431 S (by decide) d_M_code_27 <| S.if_eq d_M_code_30 (by decide) (fun _ _ _ h => h) (fun _ _ _ h => h)
set_option maxRecDepth 8000 in
theorem s_M_code_17 {l : Launch} {ad : Nat → Nat} {D : va_G} {cA : Nat → ClassId} {WW : Nat → qP} {QR : Option qA → qS → Prop} (S : qSnd l rm_M_code ad D cA R_M b_M_code 4 WW) (Q : qRet (some .int) b_M_code WW QR) {QT : Nat → qS → Prop} (Th : qThr l rm_M_code ad D cA R_M b_M_code WW QT) : qle (k_M_code_17 QR QT WW) WW 17 :=
  S.iload_n d_M_code_17 rfl <| S.iconst d_M_code_18 (by decide) <| S.icmp_ne d_M_code_19 (by decide) (fun _ _ _ h => h) (s_M_code_22 S Q Th)
set_option maxRecDepth 8000 in
theorem s_M_code_12 {l : Launch} {ad : Nat → Nat} {D : va_G} {cA : Nat → ClassId} {WW : Nat → qP} {QR : Option qA → qS → Prop} (S : qSnd l rm_M_code ad D cA R_M b_M_code 4 WW) (Q : qRet (some .int) b_M_code WW QR) {QT : Nat → qS → Prop} (Th : qThr l rm_M_code ad D cA R_M b_M_code WW QT) : qle (k_M_code_12 QR QT WW) WW 12 :=
  S.iload_n d_M_code_12 rfl <| S.iconst d_M_code_13 (by decide) <| S.icmp_eq d_M_code_14 (by decide) (s_M_code_22 S Q Th) (s_M_code_17 S Q Th)
set_option maxRecDepth 8000 in
theorem s_M_code_0 {l : Launch} {ad : Nat → Nat} {D : va_G} {cA : Nat → ClassId} {WW : Nat → qP} {QR : Option qA → qS → Prop} (S : qSnd l rm_M_code ad D cA R_M b_M_code 4 WW) (Q : qRet (some .int) b_M_code WW QR) {QT : Nat → qS → Prop} (Th : qThr l rm_M_code ad D cA R_M b_M_code WW QT) : qle (k_M_code_0 QR QT WW) WW 0 :=
  S.iload_n d_M_code_0 rfl <| S.i2l d_M_code_1 <| S.lconst d_M_code_2 (by decide) <| S.ldc2 d_M_code_3 (lw_at 472 (by decide +kernel) rfl) (by decide) <| sc_M_431 S (by decide) d_M_code_6 <| S.if_eq d_M_code_9 (by decide) (fun _ _ _ h => h) (s_M_code_12 S Q Th)
theorem v_M_code_64 {l : Launch} {ad : Nat → Nat} {D : va_G} {cA : Nat → ClassId} {WW : Nat → qP} {QR : Option qA → qS → Prop} (S : qSnd l rm_M_code ad D cA R_M b_M_code 4 WW) (Q : qRet (some .int) b_M_code WW QR) {QT : Nat → qS → Prop} (Th : qThr l rm_M_code ad D cA R_M b_M_code WW QT) (o a : Int) (σ : qS) (h : P_M_code o a σ) (hc : codok o a) (hq : ∀ (r : Int) σ', Q_M_code o a σ r σ' → QR (some (.inl r)) σ') (ht : ∀ (t : Nat) σ', T_M_code o a σ t σ' → QT t σ') : WW 64 [] [some (.inr (.inr 900)), some (.inl o), some (.inr (.inl a)), none] σ := by
  refine s_M_code_64 S Q Th _ _ _ ?_
  simp only [k_M_code_0, k_M_code_12, k_M_code_17, k_M_code_22, k_M_code_33, k_M_code_39, k_M_code_45, k_M_code_56, k_M_code_60, k_M_code_61, k_M_code_64, k_M_code_73, k_M_code_80, k_M_code_84, k_M_code_85, k_M_code_88, oc_M_in, ot_M_may, ot_M_right, o_th, o_c, o_il, o_ll, o_al, o_is, o_as, o_ls, o_inc, o_bi, o_bid, o_bl, o_bld, o_sl, o_i2l, o_l2i, o_dup, o_dup2, o_pop, o_pop2, o_if, o_i2, o_l2, swg, o_sw, o_gI, o_gZ, o_gJ, o_gA, o_gR, o_pI, o_pZ, o_pJ, o_pR, o_ia, o_iak, o_zak, o_ja, o_jak, o_is_, o_isk, o_zsk, o_js_, o_jsk, o_len, o_ri, o_rz, o_rl, o_rv, ls1, ls2, lks, lkj, List.getD_cons_zero, List.getD_cons_succ, List.set_cons_zero, List.set_cons_succ, qcat, true_and, and_true, List.map_nil, List.map_cons, List.sum_nil, List.sum_cons, Nat.reduceAdd, Nat.reduceLeDiff, Nat.zero_le, Int.reduceAdd, Int.reduceNeg, Int.reduceEq, or_true, true_or, Decidable.not_not, false_implies, not_false_eq_true, true_implies, not_true_eq_false, Int.reduceLT, Int.reduceLE]
  have h' : 0 ≤ σ 5 0 ∧ σ 5 0 ≤ 40 := h
  refine ⟨fun h4 => mayN (ht _ _ ⟨rfl, Or.inr ⟨hc, Or.inr (by omega), rfl⟩⟩), fun h4 _ => ⟨fun hb => mayN (ht _ _ ⟨rfl, Or.inr ⟨hc, Or.inl hb, rfl⟩⟩), fun hb => mayY ?_⟩⟩
  refine s_M_code_88 S Q Th _ _ _ ?_
  simp only [k_M_code_0, k_M_code_12, k_M_code_17, k_M_code_22, k_M_code_33, k_M_code_39, k_M_code_45, k_M_code_56, k_M_code_60, k_M_code_61, k_M_code_64, k_M_code_73, k_M_code_80, k_M_code_84, k_M_code_85, k_M_code_88, oc_M_in, ot_M_may, ot_M_right, o_th, o_c, o_il, o_ll, o_al, o_is, o_as, o_ls, o_inc, o_bi, o_bid, o_bl, o_bld, o_sl, o_i2l, o_l2i, o_dup, o_dup2, o_pop, o_pop2, o_if, o_i2, o_l2, swg, o_sw, o_gI, o_gZ, o_gJ, o_gA, o_gR, o_pI, o_pZ, o_pJ, o_pR, o_ia, o_iak, o_zak, o_ja, o_jak, o_is_, o_isk, o_zsk, o_js_, o_jsk, o_len, o_ri, o_rz, o_rl, o_rv, ls1, ls2, lks, lkj, List.getD_cons_zero, List.getD_cons_succ, List.set_cons_zero, List.set_cons_succ, qcat, true_and, and_true, List.map_nil, List.map_cons, List.sum_nil, List.sum_cons, Nat.reduceAdd, Nat.reduceLeDiff, Nat.zero_le, Int.reduceAdd, Int.reduceNeg, Int.reduceEq, or_true, true_or, Decidable.not_not, false_implies, not_false_eq_true, true_implies, not_true_eq_false, Int.reduceLT, Int.reduceLE]
  simp (disch := omega) only [su_k, su_s]
  have e2 : z_add (σ 5 0) 1 = σ 5 0 + 1 := by unfold z_add; exact w32_i _ (by omega) (by omega)
  rw [e2]
  exact ⟨by omega, by omega, hq _ _ ⟨hc, by omega, hb, rfl, rfl⟩⟩
theorem w_M_code {l : Launch} {ad : Nat → Nat} {D : va_G} {cA : Nat → ClassId} {WW : Nat → qP} {QR : Option qA → qS → Prop} (S : qSnd l rm_M_code ad D cA R_M b_M_code 4 WW) (Q : qRet (some .int) b_M_code WW QR) {QT : Nat → qS → Prop} (Th : qThr l rm_M_code ad D cA R_M b_M_code WW QT) (a1 : Int) (a2 : Int) (σ : qS) (ha1 : r32 a1) (ha2 : r64 a2) (hσ : qoS σ) (h : P_M_code a1 a2 σ) (hq : ∀ (r : Int) σ', Q_M_code a1 a2 σ r σ' → QR (some (.inl r)) σ') (ht : ∀ (t : Nat) σ', T_M_code a1 a2 σ t σ' → QT t σ') : WW 0 [] [some (.inr (.inr 900)), some (.inl a1), some (.inr (.inl a2)), none] σ := by
  have yes : codok a1 a2 → WW 56 [] [some (.inr (.inr 900)), some (.inl a1), some (.inr (.inl a2)), none] σ := fun hc => by
    refine s_M_code_56 S Q Th _ _ _ ?_
    simp only [k_M_code_0, k_M_code_12, k_M_code_17, k_M_code_22, k_M_code_33, k_M_code_39, k_M_code_45, k_M_code_56, k_M_code_60, k_M_code_61, k_M_code_64, k_M_code_73, k_M_code_80, k_M_code_84, k_M_code_85, k_M_code_88, oc_M_in, ot_M_may, ot_M_right, o_th, o_c, o_il, o_ll, o_al, o_is, o_as, o_ls, o_inc, o_bi, o_bid, o_bl, o_bld, o_sl, o_i2l, o_l2i, o_dup, o_dup2, o_pop, o_pop2, o_if, o_i2, o_l2, swg, o_sw, o_gI, o_gZ, o_gJ, o_gA, o_gR, o_pI, o_pZ, o_pJ, o_pR, o_ia, o_iak, o_zak, o_ja, o_jak, o_is_, o_isk, o_zsk, o_js_, o_jsk, o_len, o_ri, o_rz, o_rl, o_rv, ls1, ls2, lks, lkj, List.getD_cons_zero, List.getD_cons_succ, List.set_cons_zero, List.set_cons_succ, qcat, true_and, and_true, List.map_nil, List.map_cons, List.sum_nil, List.sum_cons, Nat.reduceAdd, Nat.reduceLeDiff, Nat.zero_le, Int.reduceAdd, Int.reduceNeg, Int.reduceEq, or_true, true_or, Decidable.not_not, false_implies, not_false_eq_true, true_implies, not_true_eq_false, Int.reduceLT, Int.reduceLE]
    exact rightY (v_M_code_64 S Q Th a1 a2 σ h hc hq ht)
  have no : ¬ codok a1 a2 → WW 60 [] [some (.inr (.inr 900)), some (.inl a1), some (.inr (.inl a2)), none] σ := fun hc => by
    refine s_M_code_60 S Q Th _ _ _ ?_
    simp only [k_M_code_0, k_M_code_12, k_M_code_17, k_M_code_22, k_M_code_33, k_M_code_39, k_M_code_45, k_M_code_56, k_M_code_60, k_M_code_61, k_M_code_64, k_M_code_73, k_M_code_80, k_M_code_84, k_M_code_85, k_M_code_88, oc_M_in, ot_M_may, ot_M_right, o_th, o_c, o_il, o_ll, o_al, o_is, o_as, o_ls, o_inc, o_bi, o_bid, o_bl, o_bld, o_sl, o_i2l, o_l2i, o_dup, o_dup2, o_pop, o_pop2, o_if, o_i2, o_l2, swg, o_sw, o_gI, o_gZ, o_gJ, o_gA, o_gR, o_pI, o_pZ, o_pJ, o_pR, o_ia, o_iak, o_zak, o_ja, o_jak, o_is_, o_isk, o_zsk, o_js_, o_jsk, o_len, o_ri, o_rz, o_rl, o_rv, ls1, ls2, lks, lkj, List.getD_cons_zero, List.getD_cons_succ, List.set_cons_zero, List.set_cons_succ, qcat, true_and, and_true, List.map_nil, List.map_cons, List.sum_nil, List.sum_cons, Nat.reduceAdd, Nat.reduceLeDiff, Nat.zero_le, Int.reduceAdd, Int.reduceNeg, Int.reduceEq, or_true, true_or, Decidable.not_not, false_implies, not_false_eq_true, true_implies, not_true_eq_false, Int.reduceLT, Int.reduceLE]
    exact rightN (ht _ _ ⟨rfl, Or.inl ⟨hc, rfl⟩⟩)
  have at33 : (0 ≤ a1 ∧ a1 ≤ 18) → (a1 = 4 ∨ a1 = 5 → 0 ≤ a2 ∧ a2 ≤ 3) → WW 33 [] [some (.inr (.inr 900)), some (.inl a1), some (.inr (.inl a2)), none] σ := fun h1 h2 => by
    refine s_M_code_33 S Q Th _ _ _ ?_
    simp only [k_M_code_0, k_M_code_12, k_M_code_17, k_M_code_22, k_M_code_33, k_M_code_39, k_M_code_45, k_M_code_56, k_M_code_60, k_M_code_61, k_M_code_64, k_M_code_73, k_M_code_80, k_M_code_84, k_M_code_85, k_M_code_88, oc_M_in, ot_M_may, ot_M_right, o_th, o_c, o_il, o_ll, o_al, o_is, o_as, o_ls, o_inc, o_bi, o_bid, o_bl, o_bld, o_sl, o_i2l, o_l2i, o_dup, o_dup2, o_pop, o_pop2, o_if, o_i2, o_l2, swg, o_sw, o_gI, o_gZ, o_gJ, o_gA, o_gR, o_pI, o_pZ, o_pJ, o_pR, o_ia, o_iak, o_zak, o_ja, o_jak, o_is_, o_isk, o_zsk, o_js_, o_jsk, o_len, o_ri, o_rz, o_rl, o_rv, ls1, ls2, lks, lkj, List.getD_cons_zero, List.getD_cons_succ, List.set_cons_zero, List.set_cons_succ, qcat, true_and, and_true, List.map_nil, List.map_cons, List.sum_nil, List.sum_cons, Nat.reduceAdd, Nat.reduceLeDiff, Nat.zero_le, Int.reduceAdd, Int.reduceNeg, Int.reduceEq, or_true, true_or, Decidable.not_not, false_implies, not_false_eq_true, true_implies, not_true_eq_false, Int.reduceLT, Int.reduceLE]
    exact ⟨fun e => inC (fun hi => yes ⟨h1, h2, fun _ => hi⟩) (fun hi => no (fun hc => hi (hc.2.2 (Or.inl e)))), fun n15 => ⟨fun n16 => yes ⟨h1, h2, fun e => by omega⟩, fun e => inC (fun hi => yes ⟨h1, h2, fun _ => hi⟩) (fun hi => no (fun hc => hi (hc.2.2 (Or.inr e))))⟩⟩
  refine s_M_code_0 S Q Th _ _ _ ?_
  simp only [k_M_code_0, k_M_code_12, k_M_code_17, k_M_code_22, k_M_code_33, k_M_code_39, k_M_code_45, k_M_code_56, k_M_code_60, k_M_code_61, k_M_code_64, k_M_code_73, k_M_code_80, k_M_code_84, k_M_code_85, k_M_code_88, oc_M_in, ot_M_may, ot_M_right, o_th, o_c, o_il, o_ll, o_al, o_is, o_as, o_ls, o_inc, o_bi, o_bid, o_bl, o_bld, o_sl, o_i2l, o_l2i, o_dup, o_dup2, o_pop, o_pop2, o_if, o_i2, o_l2, swg, o_sw, o_gI, o_gZ, o_gJ, o_gA, o_gR, o_pI, o_pZ, o_pJ, o_pR, o_ia, o_iak, o_zak, o_ja, o_jak, o_is_, o_isk, o_zsk, o_js_, o_jsk, o_len, o_ri, o_rz, o_rl, o_rv, ls1, ls2, lks, lkj, List.getD_cons_zero, List.getD_cons_succ, List.set_cons_zero, List.set_cons_succ, qcat, true_and, and_true, List.map_nil, List.map_cons, List.sum_nil, List.sum_cons, Nat.reduceAdd, Nat.reduceLeDiff, Nat.zero_le, Int.reduceAdd, Int.reduceNeg, Int.reduceEq, or_true, true_or, Decidable.not_not, false_implies, not_false_eq_true, true_implies, not_true_eq_false, Int.reduceLT, Int.reduceLE]
  exact inC (fun h1 => ⟨fun e => inC (fun hi => at33 h1 (fun _ => hi)) (fun hi => no (fun hc => hi (hc.2.1 (Or.inl e)))), fun n4 => ⟨fun n5 => at33 h1 (fun e => by omega), fun e => inC (fun hi => at33 h1 (fun _ => hi)) (fun hi => no (fun hc => hi (hc.2.1 (Or.inr e))))⟩⟩) (fun h1 => no (fun hc => h1 hc.1))
theorem c_M_code (l : Launch) (ad : Nat → Nat) (D : va_G) (cA : Nat → ClassId) : qT l ad D cA y_M_code (Cond.code y_M_code b_M_code 4 (some .int) :: lw_g) rm_M_code pre_M_code post_M_code pst_M_code := by
  refine qT_of (own := R_M) (by decide) rfl ?_ ?_
  · intro av σ h; unfold pre_M_code at h; split at h
    · simp [qen]
    · exact h.elim
  · intro WW QR QT S Q Th av σ hav hσ h hq ht; unfold pre_M_code at h; split at h
    next o a1 a2 =>
      obtain ⟨rfl, h⟩ := h
      exact w_M_code S Q Th a1 a2 σ (hav _ (List.mem_of_getElem? (i := 1) rfl)) (hav _ (List.mem_of_getElem? (i := 2) rfl)) hσ h (fun r σ' h' => hq _ σ' h') (fun t σ' h' => ht t σ' h')
    next => exact h.elim
def P_M_jobs (_j _a _b _o _n : Int) (_σ : qS) : Prop := True
def jbarg (a b o n : Int) : Prop := (0 ≤ a ∧ a ≤ 15) ∧ (-1 ≤ b ∧ b ≤ 15) ∧ (0 ≤ o ∧ o ≤ 15) ∧ (1 ≤ n ∧ n ≤ 6)
def jbmay (σ : qS) (j : Int) : Prop := 0 < σ 8 (j * 3) ∧ 0 < σ 8 (j * 3 + 2) ∧ σ 26 0 = 0
def Q_M_jobs (j a b o n : Int) (σ σ' : qS) : Prop := (0 ≤ j ∧ j ≤ 7) ∧ jbarg a b o n ∧ jbmay σ j ∧ σ' = su (su (su (su (su σ 9 j 1) 10 j a) 11 j b) 12 j o) 13 j n
def T_M_jobs (j a b o n : Int) (σ : qS) (t : Nat) (σ' : qS) : Prop := σ' = σ ∧ ((¬ (0 ≤ j ∧ j ≤ 7) ∧ t = 2) ∨ ((0 ≤ j ∧ j ≤ 7) ∧ ¬ jbarg a b o n ∧ t = 0) ∨ ((0 ≤ j ∧ j ≤ 7) ∧ jbarg a b o n ∧ ¬ jbmay σ j ∧ t = 1))
def pre_M_jobs (av : List qA) (σ : qS) : Prop := match av with
  | [.inr (.inr o), .inl a1, .inl a2, .inl a3, .inl a4, .inl a5] => o = 900 ∧ P_M_jobs a1 a2 a3 a4 a5 σ
  | _ => False
def post_M_jobs (av : List qA) (σ : qS) (r : Option qA) (σ' : qS) : Prop := match av, r with
  | [_, .inl a1, .inl a2, .inl a3, .inl a4, .inl a5], none => Q_M_jobs a1 a2 a3 a4 a5 σ σ'
  | _, _ => False
def oc_M_jobs (K : qP) : qP := fun st ls σ => match st with
  | .inl a5 :: .inl a4 :: .inl a3 :: .inl a2 :: .inl a1 :: .inr (.inr o) :: st => o = 900 ∧ (st.map qcat).sum ≤ 8 ∧ P_M_jobs a1 a2 a3 a4 a5 σ ∧ ∀ (σ' : qS), Q_M_jobs a1 a2 a3 a4 a5 σ σ' → K st ls σ'
  | _ => False
def pst_M_jobs (av : List qA) (σ : qS) (t : Nat) (σ' : qS) : Prop := match av with
  | [_, .inl a1, .inl a2, .inl a3, .inl a4, .inl a5] => T_M_jobs a1 a2 a3 a4 a5 σ t σ'
  | _ => False
def ot_M_jobs (QT : Nat → qS → Prop) (K : qP) : qP := fun st ls σ => match st with
  | .inl a5 :: .inl a4 :: .inl a3 :: .inl a2 :: .inl a1 :: .inr (.inr o) :: st => o = 900 ∧ (st.map qcat).sum ≤ 8 ∧ P_M_jobs a1 a2 a3 a4 a5 σ ∧ (∀ (σ' : qS), Q_M_jobs a1 a2 a3 a4 a5 σ σ' → K st ls σ') ∧ ∀ (t : Nat) (σ' : qS), T_M_jobs a1 a2 a3 a4 a5 σ t σ' → QT t σ'
  | _ => False
def rm_M_jobs : Room := { frames := 7, cells := 1, slots := 6, locals := 101 }
def k_M_jobs_113 (QR : Option qA → qS → Prop) (QT : Nat → qS → Prop) (H : Nat → qP) : qP :=
  o_al 0 <| o_gA 900 9 <| o_il 1 <| o_c (.inl 1) <| o_zsk 9 8 <| o_al 0 <| o_gA 900 10 <| o_il 1 <| o_il 2 <| o_isk 10 8 <| o_al 0 <| o_gA 900 11 <| o_il 1 <| o_il 3 <| o_isk 11 8 <| o_al 0 <| o_gA 900 12 <| o_il 1 <| o_il 4 <| o_isk 12 8 <| o_al 0 <| o_gA 900 13 <| o_il 1 <| o_il 5 <| o_isk 13 8 <| o_rv QR
def k_M_jobs_110 (QR : Option qA → qS → Prop) (QT : Nat → qS → Prop) (H : Nat → qP) : qP :=
  ot_M_may QT <| H 113
def k_M_jobs_109 (QR : Option qA → qS → Prop) (QT : Nat → qS → Prop) (H : Nat → qP) : qP :=
  o_c (.inl 0) <| k_M_jobs_110 QR QT H
def k_M_jobs_105 (QR : Option qA → qS → Prop) (QT : Nat → qS → Prop) (H : Nat → qP) : qP :=
  o_c (.inl 1) <| k_M_jobs_110 QR QT H
def k_M_jobs_98 (QR : Option qA → qS → Prop) (QT : Nat → qS → Prop) (H : Nat → qP) : qP :=
  o_al 0 <| o_gZ 900 26 <| o_if (fun a => ¬ a = 0) (H 109) (k_M_jobs_105 QR QT H)
def k_M_jobs_85 (QR : Option qA → qS → Prop) (QT : Nat → qS → Prop) (H : Nat → qP) : qP :=
  o_al 0 <| o_gA 900 8 <| o_il 1 <| o_c (.inl 3) <| o_bi z_mul <| o_c (.inl 2) <| o_bi z_add <| o_iak 8 24 <| o_if (fun a => a ≤ 0) (H 109) (k_M_jobs_98 QR QT H)
def k_M_jobs_72 (QR : Option qA → qS → Prop) (QT : Nat → qS → Prop) (H : Nat → qP) : qP :=
  o_al 0 <| o_gA 900 8 <| o_il 1 <| o_c (.inl 3) <| o_bi z_mul <| o_c (.inl 0) <| o_bi z_add <| o_iak 8 24 <| o_if (fun a => a ≤ 0) (H 109) (k_M_jobs_85 QR QT H)
def k_M_jobs_69 (QR : Option qA → qS → Prop) (QT : Nat → qS → Prop) (H : Nat → qP) : qP :=
  ot_M_right QT <| H 72
def k_M_jobs_68 (QR : Option qA → qS → Prop) (QT : Nat → qS → Prop) (H : Nat → qP) : qP :=
  o_c (.inl 0) <| k_M_jobs_69 QR QT H
def k_M_jobs_64 (QR : Option qA → qS → Prop) (QT : Nat → qS → Prop) (H : Nat → qP) : qP :=
  o_c (.inl 1) <| k_M_jobs_69 QR QT H
def k_M_jobs_51 (QR : Option qA → qS → Prop) (QT : Nat → qS → Prop) (H : Nat → qP) : qP :=
  o_il 5 <| o_i2l <| o_c (.inr (.inl 1)) <| o_c (.inr (.inl 6)) <| oc_M_in <| o_if (fun a => a = 0) (H 68) (k_M_jobs_64 QR QT H)
def k_M_jobs_38 (QR : Option qA → qS → Prop) (QT : Nat → qS → Prop) (H : Nat → qP) : qP :=
  o_il 4 <| o_i2l <| o_c (.inr (.inl 0)) <| o_c (.inr (.inl 15)) <| oc_M_in <| o_if (fun a => a = 0) (H 68) (k_M_jobs_51 QR QT H)
def k_M_jobs_24 (QR : Option qA → qS → Prop) (QT : Nat → qS → Prop) (H : Nat → qP) : qP :=
  o_il 3 <| o_i2l <| o_c (.inr (.inl (-1))) <| o_c (.inr (.inl 15)) <| oc_M_in <| o_if (fun a => a = 0) (H 68) (k_M_jobs_38 QR QT H)
def k_M_jobs_0 (QR : Option qA → qS → Prop) (QT : Nat → qS → Prop) (H : Nat → qP) : qP :=
  o_il 1 <| o_i2l <| o_c (.inr (.inl 0)) <| o_c (.inr (.inl 7)) <| oc_M_in <| ot_M_there QT <| o_il 2 <| o_i2l <| o_c (.inr (.inl 0)) <| o_c (.inr (.inl 15)) <| oc_M_in <| o_if (fun a => a = 0) (H 68) (k_M_jobs_24 QR QT H)
set_option maxRecDepth 8000 in
theorem s_M_jobs_113 {l : Launch} {ad : Nat → Nat} {D : va_G} {cA : Nat → ClassId} {WW : Nat → qP} {QR : Option qA → qS → Prop} (S : qSnd l rm_M_jobs ad D cA R_M b_M_jobs 6 WW) (Q : qRet (none) b_M_jobs WW QR) {QT : Nat → qS → Prop} (Th : qThr l rm_M_jobs ad D cA R_M b_M_jobs WW QT) : qle (k_M_jobs_113 QR QT WW) WW 113 :=
  S.aload_n d_M_jobs_113 rfl <| S.gA fl_M_35 (by decide) d_M_jobs_114 <| S.iload_n d_M_jobs_117 rfl <| S.iconst d_M_jobs_118 (by decide) <| S.zast (by decide) d_M_jobs_119 <| S.aload_n d_M_jobs_120 rfl <| S.gA fl_M_39 (by decide) d_M_jobs_121 <| S.iload_n d_M_jobs_124 rfl <| S.iload_n d_M_jobs_125 rfl <| S.isk (by decide) d_M_jobs_126 <| S.aload_n d_M_jobs_127 rfl <| S.gA fl_M_42 (by decide) d_M_jobs_128 <| S.iload_n d_M_jobs_131 rfl <| S.iload_n d_M_jobs_132 rfl <| S.isk (by decide) d_M_jobs_133 <| S.aload_n d_M_jobs_134 rfl <| S.gA fl_M_45 (by decide) d_M_jobs_135 <| S.iload_n d_M_jobs_138 rfl <| S.iload d_M_jobs_139 <| S.isk (by decide) d_M_jobs_141 <| S.aload_n d_M_jobs_142 rfl <| S.gA fl_M_48 (by decide) d_M_jobs_143 <| S.iload_n d_M_jobs_146 rfl <| S.iload d_M_jobs_147 <| S.isk (by decide) d_M_jobs_149 <| Q.2.2.2 rfl _ d_M_jobs_150
set_option maxRecDepth 8000 in
theorem s_M_jobs_110 {l : Launch} {ad : Nat → Nat} {D : va_G} {cA : Nat → ClassId} {WW : Nat → qP} {QR : Option qA → qS → Prop} (S : qSnd l rm_M_jobs ad D cA R_M b_M_jobs 6 WW) (Q : qRet (none) b_M_jobs WW QR) {QT : Nat → qS → Prop} (Th : qThr l rm_M_jobs ad D cA R_M b_M_jobs WW QT) : qle (k_M_jobs_110 QR QT WW) WW 110 :=
  st_M_425 Th (by decide) d_M_jobs_110 <| (fun _ _ _ h => h)
set_option maxRecDepth 8000 in
theorem s_M_jobs_109 {l : Launch} {ad : Nat → Nat} {D : va_G} {cA : Nat → ClassId} {WW : Nat → qP} {QR : Option qA → qS → Prop} (S : qSnd l rm_M_jobs ad D cA R_M b_M_jobs 6 WW) (Q : qRet (none) b_M_jobs WW QR) {QT : Nat → qS → Prop} (Th : qThr l rm_M_jobs ad D cA R_M b_M_jobs WW QT) : qle (k_M_jobs_109 QR QT WW) WW 109 :=
  S.iconst d_M_jobs_109 (by decide) <| (s_M_jobs_110 S Q Th)
set_option maxRecDepth 8000 in
theorem s_M_jobs_105 {l : Launch} {ad : Nat → Nat} {D : va_G} {cA : Nat → ClassId} {WW : Nat → qP} {QR : Option qA → qS → Prop} (S : qSnd l rm_M_jobs ad D cA R_M b_M_jobs 6 WW) (Q : qRet (none) b_M_jobs WW QR) {QT : Nat → qS → Prop} (Th : qThr l rm_M_jobs ad D cA R_M b_M_jobs WW QT) : qle (k_M_jobs_105 QR QT WW) WW 105 :=
  S.iconst d_M_jobs_105 (by decide) <| S.goto d_M_jobs_106 (by decide) (s_M_jobs_110 S Q Th)
set_option maxRecDepth 8000 in
theorem s_M_jobs_98 {l : Launch} {ad : Nat → Nat} {D : va_G} {cA : Nat → ClassId} {WW : Nat → qP} {QR : Option qA → qS → Prop} (S : qSnd l rm_M_jobs ad D cA R_M b_M_jobs 6 WW) (Q : qRet (none) b_M_jobs WW QR) {QT : Nat → qS → Prop} (Th : qThr l rm_M_jobs ad D cA R_M b_M_jobs WW QT) : qle (k_M_jobs_98 QR QT WW) WW 98 :=
  S.aload_n d_M_jobs_98 rfl <| S.gZ fl_M_422 (by decide) d_M_jobs_99 <| S.if_ne d_M_jobs_102 (by decide) (fun _ _ _ h => h) (s_M_jobs_105 S Q Th)
set_option maxRecDepth 8000 in
theorem s_M_jobs_85 {l : Launch} {ad : Nat → Nat} {D : va_G} {cA : Nat → ClassId} {WW : Nat → qP} {QR : Option qA → qS → Prop} (S : qSnd l rm_M_jobs ad D cA R_M b_M_jobs 6 WW) (Q : qRet (none) b_M_jobs WW QR) {QT : Nat → qS → Prop} (Th : qThr l rm_M_jobs ad D cA R_M b_M_jobs WW QT) : qle (k_M_jobs_85 QR QT WW) WW 85 :=
  S.aload_n d_M_jobs_85 rfl <| S.gA fl_M_32 (by decide) d_M_jobs_86 <| S.iload_n d_M_jobs_89 rfl <| S.iconst d_M_jobs_90 (by decide) <| S.imul d_M_jobs_91 <| S.iconst d_M_jobs_92 (by decide) <| S.iadd d_M_jobs_93 <| S.iak (by decide) d_M_jobs_94 <| S.if_le d_M_jobs_95 (by decide) (fun _ _ _ h => h) (s_M_jobs_98 S Q Th)
set_option maxRecDepth 8000 in
theorem s_M_jobs_72 {l : Launch} {ad : Nat → Nat} {D : va_G} {cA : Nat → ClassId} {WW : Nat → qP} {QR : Option qA → qS → Prop} (S : qSnd l rm_M_jobs ad D cA R_M b_M_jobs 6 WW) (Q : qRet (none) b_M_jobs WW QR) {QT : Nat → qS → Prop} (Th : qThr l rm_M_jobs ad D cA R_M b_M_jobs WW QT) : qle (k_M_jobs_72 QR QT WW) WW 72 :=
  S.aload_n d_M_jobs_72 rfl <| S.gA fl_M_32 (by decide) d_M_jobs_73 <| S.iload_n d_M_jobs_76 rfl <| S.iconst d_M_jobs_77 (by decide) <| S.imul d_M_jobs_78 <| S.iconst d_M_jobs_79 (by decide) <| S.iadd d_M_jobs_80 <| S.iak (by decide) d_M_jobs_81 <| S.if_le d_M_jobs_82 (by decide) (fun _ _ _ h => h) (s_M_jobs_85 S Q Th)
set_option maxRecDepth 8000 in
theorem s_M_jobs_69 {l : Launch} {ad : Nat → Nat} {D : va_G} {cA : Nat → ClassId} {WW : Nat → qP} {QR : Option qA → qS → Prop} (S : qSnd l rm_M_jobs ad D cA R_M b_M_jobs 6 WW) (Q : qRet (none) b_M_jobs WW QR) {QT : Nat → qS → Prop} (Th : qThr l rm_M_jobs ad D cA R_M b_M_jobs WW QT) : qle (k_M_jobs_69 QR QT WW) WW 69 :=
  st_M_450 Th (by decide) d_M_jobs_69 <| (fun _ _ _ h => h)
set_option maxRecDepth 8000 in
theorem s_M_jobs_68 {l : Launch} {ad : Nat → Nat} {D : va_G} {cA : Nat → ClassId} {WW : Nat → qP} {QR : Option qA → qS → Prop} (S : qSnd l rm_M_jobs ad D cA R_M b_M_jobs 6 WW) (Q : qRet (none) b_M_jobs WW QR) {QT : Nat → qS → Prop} (Th : qThr l rm_M_jobs ad D cA R_M b_M_jobs WW QT) : qle (k_M_jobs_68 QR QT WW) WW 68 :=
  S.iconst d_M_jobs_68 (by decide) <| (s_M_jobs_69 S Q Th)
set_option maxRecDepth 8000 in
theorem s_M_jobs_64 {l : Launch} {ad : Nat → Nat} {D : va_G} {cA : Nat → ClassId} {WW : Nat → qP} {QR : Option qA → qS → Prop} (S : qSnd l rm_M_jobs ad D cA R_M b_M_jobs 6 WW) (Q : qRet (none) b_M_jobs WW QR) {QT : Nat → qS → Prop} (Th : qThr l rm_M_jobs ad D cA R_M b_M_jobs WW QT) : qle (k_M_jobs_64 QR QT WW) WW 64 :=
  S.iconst d_M_jobs_64 (by decide) <| S.goto d_M_jobs_65 (by decide) (s_M_jobs_69 S Q Th)
set_option maxRecDepth 8000 in
theorem s_M_jobs_51 {l : Launch} {ad : Nat → Nat} {D : va_G} {cA : Nat → ClassId} {WW : Nat → qP} {QR : Option qA → qS → Prop} (S : qSnd l rm_M_jobs ad D cA R_M b_M_jobs 6 WW) (Q : qRet (none) b_M_jobs WW QR) {QT : Nat → qS → Prop} (Th : qThr l rm_M_jobs ad D cA R_M b_M_jobs WW QT) : qle (k_M_jobs_51 QR QT WW) WW 51 :=
  S.iload d_M_jobs_51 <| S.i2l d_M_jobs_53 <| S.lconst d_M_jobs_54 (by decide) <| S.ldc2 d_M_jobs_55 (lw_at 510 (by decide +kernel) rfl) (by decide) <| sc_M_431 S (by decide) d_M_jobs_58 <| S.if_eq d_M_jobs_61 (by decide) (fun _ _ _ h => h) (s_M_jobs_64 S Q Th)
set_option maxRecDepth 8000 in
theorem s_M_jobs_38 {l : Launch} {ad : Nat → Nat} {D : va_G} {cA : Nat → ClassId} {WW : Nat → qP} {QR : Option qA → qS → Prop} (S : qSnd l rm_M_jobs ad D cA R_M b_M_jobs 6 WW) (Q : qRet (none) b_M_jobs WW QR) {QT : Nat → qS → Prop} (Th : qThr l rm_M_jobs ad D cA R_M b_M_jobs WW QT) : qle (k_M_jobs_38 QR QT WW) WW 38 :=
  S.iload d_M_jobs_38 <| S.i2l d_M_jobs_40 <| S.lconst d_M_jobs_41 (by decide) <| S.ldc2 d_M_jobs_42 (lw_at 364 (by decide +kernel) rfl) (by decide) <| sc_M_431 S (by decide) d_M_jobs_45 <| S.if_eq d_M_jobs_48 (by decide) (fun _ _ _ h => h) (s_M_jobs_51 S Q Th)
set_option maxRecDepth 8000 in
theorem s_M_jobs_24 {l : Launch} {ad : Nat → Nat} {D : va_G} {cA : Nat → ClassId} {WW : Nat → qP} {QR : Option qA → qS → Prop} (S : qSnd l rm_M_jobs ad D cA R_M b_M_jobs 6 WW) (Q : qRet (none) b_M_jobs WW QR) {QT : Nat → qS → Prop} (Th : qThr l rm_M_jobs ad D cA R_M b_M_jobs WW QT) : qle (k_M_jobs_24 QR QT WW) WW 24 :=
  S.iload_n d_M_jobs_24 rfl <| S.i2l d_M_jobs_25 <| S.ldc2 d_M_jobs_26 (lw_at 509 (by decide +kernel) rfl) (by decide) <| S.ldc2 d_M_jobs_29 (lw_at 364 (by decide +kernel) rfl) (by decide) <| sc_M_431 S (by decide) d_M_jobs_32 <| S.if_eq d_M_jobs_35 (by decide) (fun _ _ _ h => h) (s_M_jobs_38 S Q Th)
set_option maxRecDepth 8000 in
theorem s_M_jobs_0 {l : Launch} {ad : Nat → Nat} {D : va_G} {cA : Nat → ClassId} {WW : Nat → qP} {QR : Option qA → qS → Prop} (S : qSnd l rm_M_jobs ad D cA R_M b_M_jobs 6 WW) (Q : qRet (none) b_M_jobs WW QR) {QT : Nat → qS → Prop} (Th : qThr l rm_M_jobs ad D cA R_M b_M_jobs WW QT) : qle (k_M_jobs_0 QR QT WW) WW 0 :=
  S.iload_n d_M_jobs_0 rfl <| S.i2l d_M_jobs_1 <| S.lconst d_M_jobs_2 (by decide) <| S.ldc2 d_M_jobs_3 (lw_at 500 (by decide +kernel) rfl) (by decide) <| sc_M_431 S (by decide) d_M_jobs_6 <| st_M_435 Th (by decide) d_M_jobs_9 <| S.iload_n d_M_jobs_12 rfl <| S.i2l d_M_jobs_13 <| S.lconst d_M_jobs_14 (by decide) <| S.ldc2 d_M_jobs_15 (lw_at 364 (by decide +kernel) rfl) (by decide) <| sc_M_431 S (by decide) d_M_jobs_18 <| S.if_eq d_M_jobs_21 (by decide) (fun _ _ _ h => h) (s_M_jobs_24 S Q Th)
theorem w_M_jobs {l : Launch} {ad : Nat → Nat} {D : va_G} {cA : Nat → ClassId} {WW : Nat → qP} {QR : Option qA → qS → Prop} (S : qSnd l rm_M_jobs ad D cA R_M b_M_jobs 6 WW) (Q : qRet (none) b_M_jobs WW QR) {QT : Nat → qS → Prop} (Th : qThr l rm_M_jobs ad D cA R_M b_M_jobs WW QT) (a1 : Int) (a2 : Int) (a3 : Int) (a4 : Int) (a5 : Int) (σ : qS) (ha1 : r32 a1) (ha2 : r32 a2) (ha3 : r32 a3) (ha4 : r32 a4) (ha5 : r32 a5) (hσ : qoS σ) (h : P_M_jobs a1 a2 a3 a4 a5 σ) (hq : ∀ σ', Q_M_jobs a1 a2 a3 a4 a5 σ σ' → QR none σ') (ht : ∀ (t : Nat) σ', T_M_jobs a1 a2 a3 a4 a5 σ t σ' → QT t σ') : WW 0 [] [some (.inr (.inr 900)), some (.inl a1), some (.inl a2), some (.inl a3), some (.inl a4), some (.inl a5)] σ := by
  have no : (0 ≤ a1 ∧ a1 ≤ 7) → ¬ jbarg a2 a3 a4 a5 → WW 68 [] [some (.inr (.inr 900)), some (.inl a1), some (.inl a2), some (.inl a3), some (.inl a4), some (.inl a5)] σ := fun hj hc => by
    refine s_M_jobs_68 S Q Th _ _ _ ?_
    simp only [k_M_jobs_0, k_M_jobs_24, k_M_jobs_38, k_M_jobs_51, k_M_jobs_64, k_M_jobs_68, k_M_jobs_69, k_M_jobs_72, k_M_jobs_85, k_M_jobs_98, k_M_jobs_105, k_M_jobs_109, k_M_jobs_110, k_M_jobs_113, oc_M_in, ot_M_may, ot_M_right, ot_M_there, o_th, o_c, o_il, o_ll, o_al, o_is, o_as, o_ls, o_inc, o_bi, o_bid, o_bl, o_bld, o_sl, o_i2l, o_l2i, o_dup, o_dup2, o_pop, o_pop2, o_if, o_i2, o_l2, swg, o_sw, o_gI, o_gZ, o_gJ, o_gA, o_gR, o_pI, o_pZ, o_pJ, o_pR, o_ia, o_iak, o_zak, o_ja, o_jak, o_is_, o_isk, o_zsk, o_js_, o_jsk, o_len, o_ri, o_rz, o_rl, o_rv, ls1, ls2, lks, lkj, List.getD_cons_zero, List.getD_cons_succ, List.set_cons_zero, List.set_cons_succ, qcat, true_and, and_true, List.map_nil, List.map_cons, List.sum_nil, List.sum_cons, Nat.reduceAdd, Nat.reduceLeDiff, Nat.zero_le, Int.reduceAdd, Int.reduceNeg, Int.reduceEq, or_true, true_or, Decidable.not_not, false_implies, not_false_eq_true, true_implies, not_true_eq_false, Int.reduceLT, Int.reduceLE]
    exact rightN (ht _ _ ⟨rfl, Or.inr (Or.inl ⟨hj, hc, rfl⟩)⟩)
  have nomay : (0 ≤ a1 ∧ a1 ≤ 7) → jbarg a2 a3 a4 a5 → ¬ jbmay σ a1 → WW 109 [] [some (.inr (.inr 900)), some (.inl a1), some (.inl a2), some (.inl a3), some (.inl a4), some (.inl a5)] σ := fun hj hc hm => by
    refine s_M_jobs_109 S Q Th _ _ _ ?_
    simp only [k_M_jobs_0, k_M_jobs_24, k_M_jobs_38, k_M_jobs_51, k_M_jobs_64, k_M_jobs_68, k_M_jobs_69, k_M_jobs_72, k_M_jobs_85, k_M_jobs_98, k_M_jobs_105, k_M_jobs_109, k_M_jobs_110, k_M_jobs_113, oc_M_in, ot_M_may, ot_M_right, ot_M_there, o_th, o_c, o_il, o_ll, o_al, o_is, o_as, o_ls, o_inc, o_bi, o_bid, o_bl, o_bld, o_sl, o_i2l, o_l2i, o_dup, o_dup2, o_pop, o_pop2, o_if, o_i2, o_l2, swg, o_sw, o_gI, o_gZ, o_gJ, o_gA, o_gR, o_pI, o_pZ, o_pJ, o_pR, o_ia, o_iak, o_zak, o_ja, o_jak, o_is_, o_isk, o_zsk, o_js_, o_jsk, o_len, o_ri, o_rz, o_rl, o_rv, ls1, ls2, lks, lkj, List.getD_cons_zero, List.getD_cons_succ, List.set_cons_zero, List.set_cons_succ, qcat, true_and, and_true, List.map_nil, List.map_cons, List.sum_nil, List.sum_cons, Nat.reduceAdd, Nat.reduceLeDiff, Nat.zero_le, Int.reduceAdd, Int.reduceNeg, Int.reduceEq, or_true, true_or, Decidable.not_not, false_implies, not_false_eq_true, true_implies, not_true_eq_false, Int.reduceLT, Int.reduceLE]
    exact mayN (ht _ _ ⟨rfl, Or.inr (Or.inr ⟨hj, hc, hm, rfl⟩)⟩)
  have at72 : (0 ≤ a1 ∧ a1 ≤ 7) → jbarg a2 a3 a4 a5 → WW 72 [] [some (.inr (.inr 900)), some (.inl a1), some (.inl a2), some (.inl a3), some (.inl a4), some (.inl a5)] σ := fun hj hc => by
    refine s_M_jobs_72 S Q Th _ _ _ ?_
    simp only [k_M_jobs_0, k_M_jobs_24, k_M_jobs_38, k_M_jobs_51, k_M_jobs_64, k_M_jobs_68, k_M_jobs_69, k_M_jobs_72, k_M_jobs_85, k_M_jobs_98, k_M_jobs_105, k_M_jobs_109, k_M_jobs_110, k_M_jobs_113, oc_M_in, ot_M_may, ot_M_right, ot_M_there, o_th, o_c, o_il, o_ll, o_al, o_is, o_as, o_ls, o_inc, o_bi, o_bid, o_bl, o_bld, o_sl, o_i2l, o_l2i, o_dup, o_dup2, o_pop, o_pop2, o_if, o_i2, o_l2, swg, o_sw, o_gI, o_gZ, o_gJ, o_gA, o_gR, o_pI, o_pZ, o_pJ, o_pR, o_ia, o_iak, o_zak, o_ja, o_jak, o_is_, o_isk, o_zsk, o_js_, o_jsk, o_len, o_ri, o_rz, o_rl, o_rv, ls1, ls2, lks, lkj, List.getD_cons_zero, List.getD_cons_succ, List.set_cons_zero, List.set_cons_succ, qcat, true_and, and_true, List.map_nil, List.map_cons, List.sum_nil, List.sum_cons, Nat.reduceAdd, Nat.reduceLeDiff, Nat.zero_le, Int.reduceAdd, Int.reduceNeg, Int.reduceEq, or_true, true_or, Decidable.not_not, false_implies, not_false_eq_true, true_implies, not_true_eq_false, Int.reduceLT, Int.reduceLE]
    have e0 : z_add (z_mul a1 3) 0 = a1 * 3 := by unfold z_add z_mul; rw [w32_i (a1 * 3) (by omega) (by omega), w32_i _ (by omega) (by omega)]; omega
    have e2 : z_add (z_mul a1 3) 2 = a1 * 3 + 2 := by unfold z_add z_mul; rw [w32_i (a1 * 3) (by omega) (by omega), w32_i _ (by omega) (by omega)]
    rw [e0, e2]
    refine ⟨by omega, fun h0 => nomay hj hc (fun hm => by have := hm.1; omega), fun h0 => ⟨by omega, fun h2 => nomay hj hc (fun hm => by have := hm.2.1; omega), fun h2 _ => ⟨fun hb => nomay hj hc (fun hm => hb hm.2.2), fun hb => mayY ?_⟩⟩⟩
    refine s_M_jobs_113 S Q Th _ _ _ ?_
    simp only [k_M_jobs_0, k_M_jobs_24, k_M_jobs_38, k_M_jobs_51, k_M_jobs_64, k_M_jobs_68, k_M_jobs_69, k_M_jobs_72, k_M_jobs_85, k_M_jobs_98, k_M_jobs_105, k_M_jobs_109, k_M_jobs_110, k_M_jobs_113, oc_M_in, ot_M_may, ot_M_right, ot_M_there, o_th, o_c, o_il, o_ll, o_al, o_is, o_as, o_ls, o_inc, o_bi, o_bid, o_bl, o_bld, o_sl, o_i2l, o_l2i, o_dup, o_dup2, o_pop, o_pop2, o_if, o_i2, o_l2, swg, o_sw, o_gI, o_gZ, o_gJ, o_gA, o_gR, o_pI, o_pZ, o_pJ, o_pR, o_ia, o_iak, o_zak, o_ja, o_jak, o_is_, o_isk, o_zsk, o_js_, o_jsk, o_len, o_ri, o_rz, o_rl, o_rv, ls1, ls2, lks, lkj, List.getD_cons_zero, List.getD_cons_succ, List.set_cons_zero, List.set_cons_succ, qcat, true_and, and_true, List.map_nil, List.map_cons, List.sum_nil, List.sum_cons, Nat.reduceAdd, Nat.reduceLeDiff, Nat.zero_le, Int.reduceAdd, Int.reduceNeg, Int.reduceEq, or_true, true_or, Decidable.not_not, false_implies, not_false_eq_true, true_implies, not_true_eq_false, Int.reduceLT, Int.reduceLE]
    exact ⟨by omega, by omega, by omega, by omega, by omega, hq _ ⟨hj, hc, ⟨by omega, by omega, hb⟩, rfl⟩⟩
  refine s_M_jobs_0 S Q Th _ _ _ ?_
  simp only [k_M_jobs_0, k_M_jobs_24, k_M_jobs_38, k_M_jobs_51, k_M_jobs_64, k_M_jobs_68, k_M_jobs_69, k_M_jobs_72, k_M_jobs_85, k_M_jobs_98, k_M_jobs_105, k_M_jobs_109, k_M_jobs_110, k_M_jobs_113, oc_M_in, ot_M_may, ot_M_right, ot_M_there, o_th, o_c, o_il, o_ll, o_al, o_is, o_as, o_ls, o_inc, o_bi, o_bid, o_bl, o_bld, o_sl, o_i2l, o_l2i, o_dup, o_dup2, o_pop, o_pop2, o_if, o_i2, o_l2, swg, o_sw, o_gI, o_gZ, o_gJ, o_gA, o_gR, o_pI, o_pZ, o_pJ, o_pR, o_ia, o_iak, o_zak, o_ja, o_jak, o_is_, o_isk, o_zsk, o_js_, o_jsk, o_len, o_ri, o_rz, o_rl, o_rv, ls1, ls2, lks, lkj, List.getD_cons_zero, List.getD_cons_succ, List.set_cons_zero, List.set_cons_succ, qcat, true_and, and_true, List.map_nil, List.map_cons, List.sum_nil, List.sum_cons, Nat.reduceAdd, Nat.reduceLeDiff, Nat.zero_le, Int.reduceAdd, Int.reduceNeg, Int.reduceEq, or_true, true_or, Decidable.not_not, false_implies, not_false_eq_true, true_implies, not_true_eq_false, Int.reduceLT, Int.reduceLE]
  exact inTh (fun hj => inC (fun h1 => inC (fun h2 => inC (fun h3 => inC (fun h4 => rightY (at72 hj ⟨h1, h2, h3, h4⟩)) (fun h4 => no hj (fun hc => h4 hc.2.2.2))) (fun h3 => no hj (fun hc => h3 hc.2.2.1))) (fun h2 => no hj (fun hc => h2 hc.2.1))) (fun h1 => no hj (fun hc => h1 hc.1))) (fun hj => ht _ _ ⟨rfl, Or.inl ⟨hj, rfl⟩⟩)
theorem c_M_jobs (l : Launch) (ad : Nat → Nat) (D : va_G) (cA : Nat → ClassId) : qT l ad D cA y_M_jobs (Cond.code y_M_jobs b_M_jobs 6 (none) :: lw_g) rm_M_jobs pre_M_jobs post_M_jobs pst_M_jobs := by
  refine qT_of (own := R_M) (by decide) rfl ?_ ?_
  · intro av σ h; unfold pre_M_jobs at h; split at h
    · simp [qen]
    · exact h.elim
  · intro WW QR QT S Q Th av σ hav hσ h hq ht; unfold pre_M_jobs at h; split at h
    next o a1 a2 a3 a4 a5 =>
      obtain ⟨rfl, h⟩ := h
      exact w_M_jobs S Q Th a1 a2 a3 a4 a5 σ (hav _ (List.mem_of_getElem? (i := 1) rfl)) (hav _ (List.mem_of_getElem? (i := 2) rfl)) (hav _ (List.mem_of_getElem? (i := 3) rfl)) (hav _ (List.mem_of_getElem? (i := 4) rfl)) (hav _ (List.mem_of_getElem? (i := 5) rfl)) hσ h (fun σ' h' => hq _ σ' h') (fun t σ' h' => ht t σ' h')
    next => exact h.elim

