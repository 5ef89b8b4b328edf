theorem dwo_P {σ σ1 : qS} {f : Int} {O : List Pr} {j : Int} (h : dwo σ f O σ1) (hO : O.length ≤ 300) (hp : P_D_worked j σ) : P_D_worked j σ1 := by
  obtain ⟨h1, h2, h3, h4⟩ := h
  obtain ⟨⟨a1, a2, a3, a4⟩, ⟨b1, b2, b3⟩, c, d⟩ := hp
  have em := h1 104 (by decide)
  have eo := h1 103 (by decide)
  have ea := h1 106 (by decide)
  refine ⟨⟨a1, by rw [h1 108 (by decide)]; exact a2, by rw [h1 109 (by decide)]; exact a3, fun x x0 x1 => ?_⟩, ⟨dprok_keep b1 em eo ea, dprok_keep b2 em eo ea, dprok_keep b3 em eo ea⟩, by rw [h1 111 (by decide)]; exact c, by rw [h1 110 (by decide)]; exact d⟩
  rw [h2]
  split
  · omega
  · exact a4 x x0 x1
def dfr : Nat → Int → qS → Int → qS → Prop
  | 0, _, σ, r, σ' => r = -1 ∧ σ' = σ
  | n + 1, k, σ, r, σ' => (dout σ (σ 112 k) = none ∧ r = σ 112 k ∧ F_dwk σ σ') ∨ (∃ O σ1, dout σ (σ 112 k) = some O ∧ O.length ≤ 300 ∧ dwo σ (σ 110 (σ 112 k)) O σ1 ∧ dfr n (k + 1) σ1 r σ')
def P_D_finish (σ : qS) : Prop := σ 119 0 ≠ 0 → (0 ≤ σ 117 0 ∧ σ 117 0 ≤ 8) ∧ ∀ k, 0 ≤ k → k < σ 117 0 → P_D_worked (σ 112 k) σ
def Q_D_finish (σ : qS) (r : Int) (σ' : qS) : Prop := (σ 119 0 = 0 → r = 0 ∧ σ' = su σ 118 0 1) ∧ (σ 119 0 ≠ 0 → dfr (σ 117 0).toNat 0 (su (su σ 118 0 0) 119 0 0) r σ')
def pre_D_finish (av : List qA) (σ : qS) : Prop := match av with
  | [.inr (.inr o)] => o = 901 ∧ P_D_finish  σ
  | _ => False
def post_D_finish (av : List qA) (σ : qS) (r : Option qA) (σ' : qS) : Prop := match av, r with
  | [_], some (.inl r) => Q_D_finish  σ r σ'
  | _, _ => False
def oc_D_finish (K : qP) : qP := fun st ls σ => match st with
  | .inr (.inr o) :: st => o = 901 ∧ (st.map qcat).sum ≤ 8 ∧ P_D_finish  σ ∧ ∀ (r : Int) (σ' : qS), Q_D_finish  σ r σ' → K (.inl r :: st) ls σ'
  | _ => False
def rm_D_finish : Room := { frames := 3, cells := 0, slots := 0, locals := 94 }
set_option maxRecDepth 100000 in
theorem ic_D_worked : lw_tbl[950]? = some (Cond.code y_D_worked b_D_worked 8 (some .boolean)) := by rfl
theorem sc_D_157 {l : Launch} {R : Room} {ad : Nat → Nat} {D : va_G} {cA : Nat → ClassId} {cc : ByteArray} {nL : Nat} {WW : Nat → qP} (S : qSnd l R ad D cA R_D cc nL WW) (hR : rm_D_worked.frames + 1 ≤ R.frames ∧ 8 + (8 + 11) + rm_D_worked.locals ≤ R.locals) {K : qP} {pc : Nat} (d : decode cc pc = .ok (.invokevirtual 157, 3)) (h : qle K WW (pc + 3)) : qle (oc_D_worked K) WW pc := by
  intro st ls σ k
  refine S.callV (o := 901) (ci := 1) (N := 32) (base := 100) (C := R_D) (T := F_D) (n := 1) (pre := pre_D_worked) (post := post_D_worked) (Or.inr ⟨rfl, rfl, rfl, rfl, rfl, rfl⟩) ⟨lw_at 950 ic_D_worked rfl, lw_at 947 (by decide +kernel) rfl, lw_at 60 (by decide +kernel) rfl, by decide, by decide, by decide +kernel⟩ ⟨lw_at 949 (by decide +kernel) rfl, lw_at 54 (by decide +kernel) rfl⟩ ⟨rfl, rfl⟩ hR (c_D_worked l ad D cA) ?_ d h st ls σ ?_
  · intro av σ h; unfold pre_D_worked at h; split at h
    · obtain ⟨rfl, h⟩ := h; exact ⟨_, rfl⟩
    · exact h.elim
  · unfold oc_D_worked at k
    split at k
    next a1 o st =>
      obtain ⟨rfl, hs, hp, k⟩ := k
      refine ⟨[.inr (.inr 901), .inl a1], st, rfl, rfl, hs, ⟨rfl, hp⟩, fun r σ' hq => ?_⟩
      unfold post_D_worked at hq
      split at hq
      next h1 =>
        cases h1
        exact k _ _ hq
      next => exact hq.elim
    next => exact k.elim
def k_D_finish_66 (QR : Option qA → qS → Prop) (H : Nat → qP) : qP :=
  o_c (.inl (-1)) <| o_ri QR
def k_D_finish_60 (QR : Option qA → qS → Prop) (H : Nat → qP) : qP :=
  o_inc 1 1 <| H 32
def k_D_finish_53 (QR : Option qA → qS → Prop) (H : Nat → qP) : qP :=
  o_al 0 <| o_gA 901 112 <| o_il 1 <| o_iak 112 8 <| o_ri QR
def k_D_finish_40 (QR : Option qA → qS → Prop) (H : Nat → qP) : qP :=
  o_al 0 <| o_al 0 <| o_gA 901 112 <| o_il 1 <| o_iak 112 8 <| oc_D_worked <| o_if (fun a => ¬ a = 0) (k_D_finish_60 QR H) (k_D_finish_53 QR H)
def k_D_finish_32 (QR : Option qA → qS → Prop) (H : Nat → qP) : qP :=
  o_il 1 <| o_al 0 <| o_gI 901 117 <| o_i2 (fun a b => b ≤ a) (k_D_finish_66 QR H) (k_D_finish_40 QR H)
def k_D_finish_25 (QR : Option qA → qS → Prop) (H : Nat → qP) : qP :=
  o_al 0 <| o_c (.inl 0) <| o_pZ 901 119 <| o_c (.inl 0) <| o_is 1 <| H 32
def k_D_finish_23 (QR : Option qA → qS → Prop) (H : Nat → qP) : qP :=
  o_c (.inl 0) <| o_ri QR
def k_D_finish_13 (QR : Option qA → qS → Prop) (H : Nat → qP) : qP :=
  o_pI 901 118 <| o_al 0 <| o_gI 901 118 <| o_if (fun a => a ≤ 0) (k_D_finish_25 QR H) (k_D_finish_23 QR H)
def k_D_finish_12 (QR : Option qA → qS → Prop) (H : Nat → qP) : qP :=
  o_c (.inl 1) <| k_D_finish_13 QR H
def k_D_finish_8 (QR : Option qA → qS → Prop) (H : Nat → qP) : qP :=
  o_c (.inl 0) <| k_D_finish_13 QR H
def k_D_finish_0 (QR : Option qA → qS → Prop) (H : Nat → qP) : qP :=
  o_al 0 <| o_al 0 <| o_gZ 901 119 <| o_if (fun a => a = 0) (k_D_finish_12 QR H) (k_D_finish_8 QR H)
set_option maxRecDepth 8000 in
theorem s_D_finish_66 {l : Launch} {ad : Nat → Nat} {D : va_G} {cA : Nat → ClassId} {WW : Nat → qP} {QR : Option qA → qS → Prop} (S : qSnd l rm_D_finish ad D cA R_D b_D_finish 2 WW) (Q : qRet (some .int) b_D_finish WW QR) : qle (k_D_finish_66 QR WW) WW 66 :=
  S.iconst d_D_finish_66 (by decide) <| Q.1 rfl _ d_D_finish_67
set_option maxRecDepth 8000 in
theorem s_D_finish_60 {l : Launch} {ad : Nat → Nat} {D : va_G} {cA : Nat → ClassId} {WW : Nat → qP} {QR : Option qA → qS → Prop} (S : qSnd l rm_D_finish ad D cA R_D b_D_finish 2 WW) (Q : qRet (some .int) b_D_finish WW QR) : qle (k_D_finish_60 QR WW) WW 60 :=
  S.iinc d_D_finish_60 (by decide) <| S.goto d_D_finish_63 (by decide) (fun _ _ _ h => h)
set_option maxRecDepth 8000 in
theorem s_D_finish_53 {l : Launch} {ad : Nat → Nat} {D : va_G} {cA : Nat → ClassId} {WW : Nat → qP} {QR : Option qA → qS → Prop} (S : qSnd l rm_D_finish ad D cA R_D b_D_finish 2 WW) (Q : qRet (some .int) b_D_finish WW QR) : qle (k_D_finish_53 QR WW) WW 53 :=
  S.aload_n d_D_finish_53 rfl <| S.gA fl_D_47 (by decide) d_D_finish_54 <| S.iload_n d_D_finish_57 rfl <| S.iak (by decide) d_D_finish_58 <| Q.1 rfl _ d_D_finish_59
set_option maxRecDepth 8000 in
theorem s_D_finish_40 {l : Launch} {ad : Nat → Nat} {D : va_G} {cA : Nat → ClassId} {WW : Nat → qP} {QR : Option qA → qS → Prop} (S : qSnd l rm_D_finish ad D cA R_D b_D_finish 2 WW) (Q : qRet (some .int) b_D_finish WW QR) : qle (k_D_finish_40 QR WW) WW 40 :=
  S.aload_n d_D_finish_40 rfl <| S.aload_n d_D_finish_41 rfl <| S.gA fl_D_47 (by decide) d_D_finish_42 <| S.iload_n d_D_finish_45 rfl <| S.iak (by decide) d_D_finish_46 <| sc_D_157 S (by decide) d_D_finish_47 <| S.if_ne d_D_finish_50 (by decide) (s_D_finish_60 S Q) (s_D_finish_53 S Q)
set_option maxRecDepth 8000 in
theorem s_D_finish_32 {l : Launch} {ad : Nat → Nat} {D : va_G} {cA : Nat → ClassId} {WW : Nat → qP} {QR : Option qA → qS → Prop} (S : qSnd l rm_D_finish ad D cA R_D b_D_finish 2 WW) (Q : qRet (some .int) b_D_finish WW QR) : qle (k_D_finish_32 QR WW) WW 32 :=
  S.iload_n d_D_finish_32 rfl <| S.aload_n d_D_finish_33 rfl <| S.gI fl_D_129 (by decide) d_D_finish_34 <| S.icmp_ge d_D_finish_37 (by decide) (s_D_finish_66 S Q) (s_D_finish_40 S Q)
set_option maxRecDepth 8000 in
theorem s_D_finish_25 {l : Launch} {ad : Nat → Nat} {D : va_G} {cA : Nat → ClassId} {WW : Nat → qP} {QR : Option qA → qS → Prop} (S : qSnd l rm_D_finish ad D cA R_D b_D_finish 2 WW) (Q : qRet (some .int) b_D_finish WW QR) : qle (k_D_finish_25 QR WW) WW 25 :=
  S.aload_n d_D_finish_25 rfl <| S.iconst d_D_finish_26 (by decide) <| S.pZ fl_D_139 (by decide) (by decide +kernel) d_D_finish_27 <| S.iconst d_D_finish_30 (by decide) <| S.istore_n d_D_finish_31 rfl (by decide) <| (fun _ _ _ h => h)
set_option maxRecDepth 8000 in
theorem s_D_finish_23 {l : Launch} {ad : Nat → Nat} {D : va_G} {cA : Nat → ClassId} {WW : Nat → qP} {QR : Option qA → qS → Prop} (S : qSnd l rm_D_finish ad D cA R_D b_D_finish 2 WW) (Q : qRet (some .int) b_D_finish WW QR) : qle (k_D_finish_23 QR WW) WW 23 :=
  S.iconst d_D_finish_23 (by decide) <| Q.1 rfl _ d_D_finish_24
set_option maxRecDepth 8000 in
theorem s_D_finish_13 {l : Launch} {ad : Nat → Nat} {D : va_G} {cA : Nat → ClassId} {WW : Nat → qP} {QR : Option qA → qS → Prop} (S : qSnd l rm_D_finish ad D cA R_D b_D_finish 2 WW) (Q : qRet (some .int) b_D_finish WW QR) : qle (k_D_finish_13 QR WW) WW 13 :=
  S.pI fl_D_87 (by decide) (by decide +kernel) d_D_finish_13 <| S.aload_n d_D_finish_16 rfl <| S.gI fl_D_87 (by decide) d_D_finish_17 <| S.if_le d_D_finish_20 (by decide) (s_D_finish_25 S Q) (s_D_finish_23 S Q)
set_option maxRecDepth 8000 in
theorem s_D_finish_12 {l : Launch} {ad : Nat → Nat} {D : va_G} {cA : Nat → ClassId} {WW : Nat → qP} {QR : Option qA → qS → Prop} (S : qSnd l rm_D_finish ad D cA R_D b_D_finish 2 WW) (Q : qRet (some .int) b_D_finish WW QR) : qle (k_D_finish_12 QR WW) WW 12 :=
  S.iconst d_D_finish_12 (by decide) <| (s_D_finish_13 S Q)
set_option maxRecDepth 8000 in
theorem s_D_finish_8 {l : Launch} {ad : Nat → Nat} {D : va_G} {cA : Nat → ClassId} {WW : Nat → qP} {QR : Option qA → qS → Prop} (S : qSnd l rm_D_finish ad D cA R_D b_D_finish 2 WW) (Q : qRet (some .int) b_D_finish WW QR) : qle (k_D_finish_8 QR WW) WW 8 :=
  S.iconst d_D_finish_8 (by decide) <| S.goto d_D_finish_9 (by decide) (s_D_finish_13 S Q)
set_option maxRecDepth 8000 in
theorem s_D_finish_0 {l : Launch} {ad : Nat → Nat} {D : va_G} {cA : Nat → ClassId} {WW : Nat → qP} {QR : Option qA → qS → Prop} (S : qSnd l rm_D_finish ad D cA R_D b_D_finish 2 WW) (Q : qRet (some .int) b_D_finish WW QR) : qle (k_D_finish_0 QR WW) WW 0 :=
  S.aload_n d_D_finish_0 rfl <| S.aload_n d_D_finish_1 rfl <| S.gZ fl_D_139 (by decide) d_D_finish_2 <| S.if_eq d_D_finish_5 (by decide) (s_D_finish_12 S Q) (s_D_finish_8 S Q)
theorem v_D_finish_32 {l : Launch} {ad : Nat → Nat} {D : va_G} {cA : Nat → ClassId} {WW : Nat → qP} {QR : Option qA → qS → Prop} (S : qSnd l rm_D_finish ad D cA R_D b_D_finish 2 WW) (Q : qRet (some .int) b_D_finish WW QR) (c : Int) (hc : 0 ≤ c ∧ c ≤ 8) : ∀ (n : Nat) (k : Int) (σ : qS) (hq : ∀ r σ', dfr n k σ r σ' → QR (some (.inl r)) σ'), n = (c - k).toNat → (0 ≤ k ∧ k ≤ c) → σ 117 0 = c → (∀ x, k ≤ x → x < c → P_D_worked (σ 112 x) σ) → WW 32 [] [some (.inr (.inr 901)), some (.inl k)] σ := by
  intro n
  induction n with
  | zero =>
    intro k σ hq hn hk hch hP
    refine s_D_finish_32 S Q _ _ _ ?_
    simp only [k_D_finish_0, k_D_finish_8, k_D_finish_12, k_D_finish_13, k_D_finish_23, k_D_finish_25, k_D_finish_32, k_D_finish_40, k_D_finish_53, k_D_finish_60, k_D_finish_66, oc_D_worked, o_c, o_il, o_ll, o_al, o_is, o_as, o_ls, o_inc, o_bi, o_bid, o_bl, o_bld, o_sl, o_i2l, o_l2i, o_dup, o_dup2, o_pop, o_pop2, o_if, o_i2, o_l2, swg, o_sw, o_gI, o_gZ, o_gJ, o_gA, o_gR, o_pI, o_pZ, o_pJ, o_pR, o_ia, o_iak, o_zak, o_ja, o_jak, o_is_, o_isk, o_zsk, o_js_, o_jsk, o_len, o_ri, o_rz, o_rl, o_rv, ls1, ls2, lks, lkj, List.getD_cons_zero, List.getD_cons_succ, List.set_cons_zero, List.set_cons_succ, qcat, true_and, and_true, List.map_nil, List.map_cons, List.sum_nil, List.sum_cons, Nat.reduceAdd, Nat.reduceLeDiff, Nat.zero_le, Int.reduceAdd, Int.reduceNeg, Int.reduceEq, or_true, true_or, Decidable.not_not, false_implies, not_false_eq_true, true_implies, not_true_eq_false, Int.reduceLT, Int.reduceLE]
    rw [hch]
    exact ⟨fun _ => hq _ _ ⟨rfl, rfl⟩, fun h => by omega⟩
  | succ n ih =>
    intro k σ hq hn hk hch hP
    refine s_D_finish_32 S Q _ _ _ ?_
    simp only [k_D_finish_0, k_D_finish_8, k_D_finish_12, k_D_finish_13, k_D_finish_23, k_D_finish_25, k_D_finish_32, k_D_finish_40, k_D_finish_53, k_D_finish_60, k_D_finish_66, oc_D_worked, o_c, o_il, o_ll, o_al, o_is, o_as, o_ls, o_inc, o_bi, o_bid, o_bl, o_bld, o_sl, o_i2l, o_l2i, o_dup, o_dup2, o_pop, o_pop2, o_if, o_i2, o_l2, swg, o_sw, o_gI, o_gZ, o_gJ, o_gA, o_gR, o_pI, o_pZ, o_pJ, o_pR, o_ia, o_iak, o_zak, o_ja, o_jak, o_is_, o_isk, o_zsk, o_js_, o_jsk, o_len, o_ri, o_rz, o_rl, o_rv, ls1, ls2, lks, lkj, List.getD_cons_zero, List.getD_cons_succ, List.set_cons_zero, List.set_cons_succ, qcat, true_and, and_true, List.map_nil, List.map_cons, List.sum_nil, List.sum_cons, Nat.reduceAdd, Nat.reduceLeDiff, Nat.zero_le, Int.reduceAdd, Int.reduceNeg, Int.reduceEq, or_true, true_or, Decidable.not_not, false_implies, not_false_eq_true, true_implies, not_true_eq_false, Int.reduceLT, Int.reduceLE]
    rw [hch, w32_i (k + 1) (by omega) (by omega)]
    refine ⟨fun h => by omega, fun _ => ⟨by omega, hP k (by omega) (by omega), fun r σ1 q1 => ?_⟩⟩
    unfold Q_D_worked at q1
    cases hd : dout σ (σ 112 k) with
    | none =>
      rw [hd] at q1
      obtain ⟨rfl, hF⟩ := q1
      refine ⟨fun h => absurd rfl h, fun _ => ⟨by omega, hq _ _ (Or.inl ⟨hd, by rw [hF 112 (by decide)], hF⟩)⟩⟩
    | some O =>
      rw [hd] at q1
      obtain ⟨rfl, hO, hw⟩ := q1
      refine ⟨fun _ => ih (k + 1) σ1 (fun r σ' h => hq r σ' (Or.inr ⟨O, σ1, hd, hO, hw, h⟩)) (by omega) (by omega) (by rw [hw.1 117 (by decide)]; exact hch) (fun x x0 x1 => ?_), fun h => by omega⟩
      rw [hw.1 112 (by decide)]
      exact dwo_P hw hO (hP x (by omega) x1)
theorem dP_keep {σ σ' : qS} {j : Int} (h : P_D_worked j σ) (hk : ∀ q, q ≠ 118 → q ≠ 119 → σ' q = σ q) : P_D_worked j σ' := by
  unfold P_D_worked djbk dprok at *
  rw [hk 108 (by decide) (by decide), hk 109 (by decide) (by decide), hk 102 (by decide) (by decide), hk 104 (by decide) (by decide), hk 103 (by decide) (by decide), hk 106 (by decide) (by decide), hk 111 (by decide) (by decide), hk 110 (by decide) (by decide)]
  exact h
theorem w_D_finish {l : Launch} {ad : Nat → Nat} {D : va_G} {cA : Nat → ClassId} {WW : Nat → qP} {QR : Option qA → qS → Prop} (S : qSnd l rm_D_finish ad D cA R_D b_D_finish 2 WW) (Q : qRet (some .int) b_D_finish WW QR)  (σ : qS)  (hσ : qoS σ) (h : P_D_finish  σ) (hq : ∀ (r : Int) σ', Q_D_finish  σ r σ' → QR (some (.inl r)) σ') : WW 0 [] [some (.inr (.inr 901)), none] σ := by
  refine s_D_finish_0 S Q _ _ _ ?_
  simp only [k_D_finish_0, k_D_finish_8, k_D_finish_12, k_D_finish_13, k_D_finish_23, k_D_finish_25, k_D_finish_32, k_D_finish_40, k_D_finish_53, k_D_finish_60, k_D_finish_66, oc_D_worked, o_c, o_il, o_ll, o_al, o_is, o_as, o_ls, o_inc, o_bi, o_bid, o_bl, o_bld, o_sl, o_i2l, o_l2i, o_dup, o_dup2, o_pop, o_pop2, o_if, o_i2, o_l2, swg, o_sw, o_gI, o_gZ, o_gJ, o_gA, o_gR, o_pI, o_pZ, o_pJ, o_pR, o_ia, o_iak, o_zak, o_ja, o_jak, o_is_, o_isk, o_zsk, o_js_, o_jsk, o_len, o_ri, o_rz, o_rl, o_rv, ls1, ls2, lks, lkj, List.getD_cons_zero, List.getD_cons_succ, List.set_cons_zero, List.set_cons_succ, qcat, true_and, and_true, List.map_nil, List.map_cons, List.sum_nil, List.sum_cons, Nat.reduceAdd, Nat.reduceLeDiff, Nat.zero_le, Int.reduceAdd, Int.reduceNeg, Int.reduceEq, or_true, true_or, Decidable.not_not, false_implies, not_false_eq_true, true_implies, not_true_eq_false, Int.reduceLT, Int.reduceLE, su_s]
  refine fun _ => ⟨fun h0 => ?_, fun h0 => ?_⟩
  · exact hq _ _ ⟨fun _ => ⟨rfl, rfl⟩, fun h1 => absurd h0 h1⟩
  · obtain ⟨h1, h2⟩ := h h0
    have hk : ∀ q, q ≠ 118 → q ≠ 119 → su (su σ 118 0 0) 119 0 0 q = σ q := fun q a b => by rw [su_k b, su_k a]
    refine v_D_finish_32 S Q (σ 117 0) h1 _ 0 _ (fun r σ' hd => hq _ _ ⟨fun h1 => absurd h1 h0, fun _ => hd⟩) (by rw [Int.sub_zero]) (by omega) (by rw [hk _ (by decide) (by decide)]) (fun x x0 x1 => ?_)
    rw [hk 112 (by decide) (by decide)]
    exact dP_keep (h2 x x0 x1) hk
theorem c_D_finish (l : Launch) (ad : Nat → Nat) (D : va_G) (cA : Nat → ClassId) : qC l ad D cA y_D_finish (Cond.code y_D_finish b_D_finish 2 (some .int) :: lw_g) rm_D_finish pre_D_finish post_D_finish := by
  refine qC_of (own := R_D) (by decide) rfl ⟨rfl, rfl⟩ ?_ ?_
  · intro av σ h; unfold pre_D_finish at h; split at h
    · simp [qen]
    · exact h.elim
  · intro WW QR S Q av σ hav hσ h hq; unfold pre_D_finish at h; split at h
    next o =>
      obtain ⟨rfl, h⟩ := h
      exact w_D_finish S Q  σ  hσ h (fun r σ' h' => hq _ σ' h')
    next => exact h.elim

