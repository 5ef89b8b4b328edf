def P_D_begin (_σ : qS) : Prop := True
def Q_D_begin (σ : qS) (r : Int) (σ' : qS) : Prop := (σ 119 0 ≠ 0 ∧ r = 0 ∧ σ' = su σ 118 0 1) ∨ (σ 119 0 = 0 ∧ ∃ b σ1, Q_D_isChain σ b σ1 ∧ ((b = 0 ∧ r = 0 ∧ σ' = su σ1 118 0 2) ∨ (b ≠ 0 ∧ r = σ1 117 0 ∧ σ' = su (su (su σ1 118 0 0) 119 0 1) 116 0 (w32 (σ1 116 0 + 1)))))
def pre_D_begin (av : List qA) (σ : qS) : Prop := match av with
  | [.inr (.inr o)] => o = 901 ∧ P_D_begin  σ
  | _ => False
def post_D_begin (av : List qA) (σ : qS) (r : Option qA) (σ' : qS) : Prop := match av, r with
  | [_], some (.inl r) => Q_D_begin  σ r σ'
  | _, _ => False
def oc_D_begin (K : qP) : qP := fun st ls σ => match st with
  | .inr (.inr o) :: st => o = 901 ∧ (st.map qcat).sum ≤ 8 ∧ P_D_begin  σ ∧ ∀ (r : Int) (σ' : qS), Q_D_begin  σ r σ' → K (.inl r :: st) ls σ'
  | _ => False
def rm_D_begin : Room := { frames := 2, cells := 0, slots := 0, locals := 47 }
set_option maxRecDepth 100000 in
theorem ic_D_isChain : lw_tbl[926]? = some (Cond.code y_D_isChain b_D_isChain 6 (some .boolean)) := by rfl
theorem sc_D_150 {l : Launch} {R : Room} {ad : Nat → Nat} {D : va_G} {cA : Nat → ClassId} {cc : ByteArray} {nL : Nat} {WW : Nat → qP} (S : qSnd l R ad D cA R_D cc nL WW) (hR : rm_D_isChain.frames + 1 ≤ R.frames ∧ 8 + (6 + 11) + rm_D_isChain.locals ≤ R.locals) {K : qP} {pc : Nat} (d : decode cc pc = .ok (.invokevirtual 150, 3)) (h : qle K WW (pc + 3)) : qle (oc_D_isChain K) WW pc := by
  intro st ls σ k
  refine S.callV (o := 901) (ci := 1) (N := 32) (base := 100) (C := R_D) (T := F_D) (n := 0) (pre := pre_D_isChain) (post := post_D_isChain) (Or.inr ⟨rfl, rfl, rfl, rfl, rfl, rfl⟩) ⟨lw_at 926 ic_D_isChain rfl, lw_at 923 (by decide +kernel) rfl, lw_at 60 (by decide +kernel) rfl, by decide, by decide, by decide +kernel⟩ ⟨lw_at 925 (by decide +kernel) rfl, lw_at 52 (by decide +kernel) rfl⟩ ⟨rfl, rfl⟩ hR (c_D_isChain l ad D cA) ?_ d h st ls σ ?_
  · intro av σ h; unfold pre_D_isChain at h; split at h
    · obtain ⟨rfl, h⟩ := h; exact ⟨_, rfl⟩
    · exact h.elim
  · unfold oc_D_isChain at k
    split at k
    next o st =>
      obtain ⟨rfl, hs, hp, k⟩ := k
      refine ⟨[.inr (.inr 901)], st, rfl, rfl, hs, ⟨rfl, hp⟩, fun r σ' hq => ?_⟩
      unfold post_D_isChain at hq
      split at hq
      next h1 =>
        cases h1
        exact k _ _ hq
      next => exact hq.elim
    next => exact k.elim
def k_D_begin_36 (QR : Option qA → qS → Prop) (H : Nat → qP) : qP :=
  o_al 0 <| o_c (.inl 1) <| o_pZ 901 119 <| o_al 0 <| o_dup <| o_gI 901 116 <| o_c (.inl 1) <| o_bi z_add <| o_pI 901 116 <| o_al 0 <| o_gI 901 117 <| o_ri QR
def k_D_begin_34 (QR : Option qA → qS → Prop) (H : Nat → qP) : qP :=
  o_c (.inl 0) <| o_ri QR
def k_D_begin_24 (QR : Option qA → qS → Prop) (H : Nat → qP) : qP :=
  o_pI 901 118 <| o_al 0 <| o_gI 901 118 <| o_if (fun a => a ≤ 0) (k_D_begin_36 QR H) (k_D_begin_34 QR H)
def k_D_begin_23 (QR : Option qA → qS → Prop) (H : Nat → qP) : qP :=
  o_c (.inl 0) <| k_D_begin_24 QR H
def k_D_begin_19 (QR : Option qA → qS → Prop) (H : Nat → qP) : qP :=
  o_c (.inl 2) <| k_D_begin_24 QR H
def k_D_begin_12 (QR : Option qA → qS → Prop) (H : Nat → qP) : qP :=
  o_al 0 <| oc_D_isChain <| o_if (fun a => ¬ a = 0) (k_D_begin_23 QR H) (k_D_begin_19 QR H)
def k_D_begin_8 (QR : Option qA → qS → Prop) (H : Nat → qP) : qP :=
  o_c (.inl 1) <| k_D_begin_24 QR H
def k_D_begin_0 (QR : Option qA → qS → Prop) (H : Nat → qP) : qP :=
  o_al 0 <| o_al 0 <| o_gZ 901 119 <| o_if (fun a => a = 0) (k_D_begin_12 QR H) (k_D_begin_8 QR H)
set_option maxRecDepth 8000 in
theorem s_D_begin_36 {l : Launch} {ad : Nat → Nat} {D : va_G} {cA : Nat → ClassId} {WW : Nat → qP} {QR : Option qA → qS → Prop} (S : qSnd l rm_D_begin ad D cA R_D b_D_begin 1 WW) (Q : qRet (some .int) b_D_begin WW QR) : qle (k_D_begin_36 QR WW) WW 36 :=
  S.aload_n d_D_begin_36 rfl <| S.iconst d_D_begin_37 (by decide) <| S.pZ fl_D_139 (by decide) (by decide +kernel) d_D_begin_38 <| S.aload_n d_D_begin_41 rfl <| S.dup d_D_begin_42 <| S.gI fl_D_154 (by decide) d_D_begin_43 <| S.iconst d_D_begin_46 (by decide) <| S.iadd d_D_begin_47 <| S.pI fl_D_154 (by decide) (by decide +kernel) d_D_begin_48 <| S.aload_n d_D_begin_51 rfl <| S.gI fl_D_129 (by decide) d_D_begin_52 <| Q.1 rfl _ d_D_begin_55
set_option maxRecDepth 8000 in
theorem s_D_begin_34 {l : Launch} {ad : Nat → Nat} {D : va_G} {cA : Nat → ClassId} {WW : Nat → qP} {QR : Option qA → qS → Prop} (S : qSnd l rm_D_begin ad D cA R_D b_D_begin 1 WW) (Q : qRet (some .int) b_D_begin WW QR) : qle (k_D_begin_34 QR WW) WW 34 :=
  S.iconst d_D_begin_34 (by decide) <| Q.1 rfl _ d_D_begin_35
set_option maxRecDepth 8000 in
theorem s_D_begin_24 {l : Launch} {ad : Nat → Nat} {D : va_G} {cA : Nat → ClassId} {WW : Nat → qP} {QR : Option qA → qS → Prop} (S : qSnd l rm_D_begin ad D cA R_D b_D_begin 1 WW) (Q : qRet (some .int) b_D_begin WW QR) : qle (k_D_begin_24 QR WW) WW 24 :=
  S.pI fl_D_87 (by decide) (by decide +kernel) d_D_begin_24 <| S.aload_n d_D_begin_27 rfl <| S.gI fl_D_87 (by decide) d_D_begin_28 <| S.if_le d_D_begin_31 (by decide) (s_D_begin_36 S Q) (s_D_begin_34 S Q)
set_option maxRecDepth 8000 in
theorem s_D_begin_23 {l : Launch} {ad : Nat → Nat} {D : va_G} {cA : Nat → ClassId} {WW : Nat → qP} {QR : Option qA → qS → Prop} (S : qSnd l rm_D_begin ad D cA R_D b_D_begin 1 WW) (Q : qRet (some .int) b_D_begin WW QR) : qle (k_D_begin_23 QR WW) WW 23 :=
  S.iconst d_D_begin_23 (by decide) <| (s_D_begin_24 S Q)
set_option maxRecDepth 8000 in
theorem s_D_begin_19 {l : Launch} {ad : Nat → Nat} {D : va_G} {cA : Nat → ClassId} {WW : Nat → qP} {QR : Option qA → qS → Prop} (S : qSnd l rm_D_begin ad D cA R_D b_D_begin 1 WW) (Q : qRet (some .int) b_D_begin WW QR) : qle (k_D_begin_19 QR WW) WW 19 :=
  S.iconst d_D_begin_19 (by decide) <| S.goto d_D_begin_20 (by decide) (s_D_begin_24 S Q)
set_option maxRecDepth 8000 in
theorem s_D_begin_12 {l : Launch} {ad : Nat → Nat} {D : va_G} {cA : Nat → ClassId} {WW : Nat → qP} {QR : Option qA → qS → Prop} (S : qSnd l rm_D_begin ad D cA R_D b_D_begin 1 WW) (Q : qRet (some .int) b_D_begin WW QR) : qle (k_D_begin_12 QR WW) WW 12 :=
  S.aload_n d_D_begin_12 rfl <| sc_D_150 S (by decide) d_D_begin_13 <| S.if_ne d_D_begin_16 (by decide) (s_D_begin_23 S Q) (s_D_begin_19 S Q)
set_option maxRecDepth 8000 in
theorem s_D_begin_8 {l : Launch} {ad : Nat → Nat} {D : va_G} {cA : Nat → ClassId} {WW : Nat → qP} {QR : Option qA → qS → Prop} (S : qSnd l rm_D_begin ad D cA R_D b_D_begin 1 WW) (Q : qRet (some .int) b_D_begin WW QR) : qle (k_D_begin_8 QR WW) WW 8 :=
  S.iconst d_D_begin_8 (by decide) <| S.goto d_D_begin_9 (by decide) (s_D_begin_24 S Q)
set_option maxRecDepth 8000 in
theorem s_D_begin_0 {l : Launch} {ad : Nat → Nat} {D : va_G} {cA : Nat → ClassId} {WW : Nat → qP} {QR : Option qA → qS → Prop} (S : qSnd l rm_D_begin ad D cA R_D b_D_begin 1 WW) (Q : qRet (some .int) b_D_begin WW QR) : qle (k_D_begin_0 QR WW) WW 0 :=
  S.aload_n d_D_begin_0 rfl <| S.aload_n d_D_begin_1 rfl <| S.gZ fl_D_139 (by decide) d_D_begin_2 <| S.if_eq d_D_begin_5 (by decide) (s_D_begin_12 S Q) (s_D_begin_8 S Q)
theorem w_D_begin {l : Launch} {ad : Nat → Nat} {D : va_G} {cA : Nat → ClassId} {WW : Nat → qP} {QR : Option qA → qS → Prop} (S : qSnd l rm_D_begin ad D cA R_D b_D_begin 1 WW) (Q : qRet (some .int) b_D_begin WW QR)  (σ : qS)  (hσ : qoS σ) (h : P_D_begin  σ) (hq : ∀ (r : Int) σ', Q_D_begin  σ r σ' → QR (some (.inl r)) σ') : WW 0 [] [some (.inr (.inr 901))] σ := by
  refine s_D_begin_0 S Q _ _ _ ?_
  simp only [k_D_begin_0, k_D_begin_8, k_D_begin_12, k_D_begin_19, k_D_begin_23, k_D_begin_24, k_D_begin_34, k_D_begin_36, oc_D_isChain, o_c, o_il, o_ll, o_al, o_is, o_as, o_ls, o_inc, o_bi, o_bid, o_bl, o_bld, o_sl, o_i2l, o_l2i, o_dup, o_dup2, o_pop, o_pop2, o_if, o_i2, o_l2, swg, o_sw, o_gI, o_gZ, o_gJ, o_gA, o_gR, o_pI, o_pZ, o_pJ, o_pR, o_ia, o_iak, o_zak, o_ja, o_jak, o_is_, o_isk, o_zsk, o_js_, o_jsk, o_len, o_ri, o_rz, o_rl, o_rv, ls1, ls2, lks, lkj, List.getD_cons_zero, List.getD_cons_succ, List.set_cons_zero, List.set_cons_succ, qcat, true_and, and_true, List.map_nil, List.map_cons, List.sum_nil, List.sum_cons, Nat.reduceAdd, Nat.reduceLeDiff, Nat.zero_le, Int.reduceAdd, Int.reduceNeg, Int.reduceEq, or_true, true_or, Decidable.not_not, false_implies, not_false_eq_true, true_implies, not_true_eq_false, Int.reduceLT, Int.reduceLE, su_s]
  refine fun _ => ⟨fun h0 => ?_, fun h0 => ?_⟩
  · refine ⟨trivial, fun b σ1 q1 => ⟨fun hb => ?_, fun hb => ?_⟩⟩
    · first | exact hq _ _ (Or.inr ⟨h0, b, σ1, q1, Or.inl ⟨hb, rfl, rfl⟩⟩) | (simp (disch := omega) only [su_k]; exact hq _ _ (Or.inr ⟨h0, b, σ1, q1, Or.inr ⟨hb, rfl, rfl⟩⟩))
    · first | exact hq _ _ (Or.inr ⟨h0, b, σ1, q1, Or.inl ⟨hb, rfl, rfl⟩⟩) | (simp (disch := omega) only [su_k]; exact hq _ _ (Or.inr ⟨h0, b, σ1, q1, Or.inr ⟨hb, rfl, rfl⟩⟩))
  · exact hq _ _ (Or.inl ⟨h0, rfl, rfl⟩)
theorem c_D_begin (l : Launch) (ad : Nat → Nat) (D : va_G) (cA : Nat → ClassId) : qC l ad D cA y_D_begin (Cond.code y_D_begin b_D_begin 1 (some .int) :: lw_g) rm_D_begin pre_D_begin post_D_begin := by
  refine qC_of (own := R_D) (by decide) rfl ⟨rfl, rfl⟩ ?_ ?_
  · intro av σ h; unfold pre_D_begin at h; split at h
    · simp [qen]
    · exact h.elim
  · intro WW QR S Q av σ hav hσ h hq; unfold pre_D_begin at h; split at h
    next o =>
      obtain ⟨rfl, h⟩ := h
      exact w_D_begin S Q  σ  hσ h (fun r σ' h' => hq _ σ' h')
    next => exact h.elim

