def P_M_whenMapped (σ : qS) : Prop := jobok σ ∧ (∀ k, 0 ≤ k → k < spl σ → 0 ≤ σ 34 k ∧ σ 34 k ≤ 1000) ∧ (ssum (σ 34) (spl σ).toNat ≤ 1000 → (∀ k, 0 ≤ k → k < σ 13 (jb σ) → σ 35 k ≠ 0) → P_M_commit σ)
def Q_M_whenMapped (σ σ' : qS) : Prop := (1000 < ssum (σ 34) (spl σ).toNat ∧ Q_M_fail σ σ') ∨ (ssum (σ 34) (spl σ).toNat ≤ 1000 ∧ (∃ k, 0 ≤ k ∧ k < σ 13 (jb σ) ∧ σ 35 k = 0) ∧ σ' = σ) ∨ (ssum (σ 34) (spl σ).toNat ≤ 1000 ∧ (∀ k, 0 ≤ k → k < σ 13 (jb σ) → σ 35 k ≠ 0) ∧ Q_M_commit σ σ')
def pre_M_whenMapped (av : List qA) (σ : qS) : Prop := match av with
  | [.inr (.inr o)] => o = 900 ∧ P_M_whenMapped  σ
  | _ => False
def post_M_whenMapped (av : List qA) (σ : qS) (r : Option qA) (σ' : qS) : Prop := match av, r with
  | [_], none => Q_M_whenMapped  σ σ'
  | _, _ => False
def oc_M_whenMapped (K : qP) : qP := fun st ls σ => match st with
  | .inr (.inr o) :: st => o = 900 ∧ (st.map qcat).sum ≤ 8 ∧ P_M_whenMapped  σ ∧ ∀ (σ' : qS), Q_M_whenMapped  σ σ' → K st ls σ'
  | _ => False
def rm_M_whenMapped : Room := { frames := 3, cells := 0, slots := 0, locals := 64 }
theorem sc_M_332 {l : Launch} {R : Room} {ad : Nat → Nat} {D : va_G} {cA : Nat → ClassId} {cc : ByteArray} {nL : Nat} {WW : Nat → qP} (S : qSnd l R ad D cA R_M cc nL WW) (hR : rm_M_commit.frames + 1 ≤ R.frames ∧ 8 + (5 + 11) + rm_M_commit.locals ≤ R.locals) {K : qP} {pc : Nat} (d : decode cc pc = .ok (.invokevirtual 332, 3)) (h : qle K WW (pc + 3)) : qle (oc_M_commit K) WW pc := by
  intro st ls σ k
  refine S.callV (o := 900) (ci := 0) (N := 82) (base := 0) (C := R_M) (T := F_M) (n := 0) (pre := pre_M_commit) (post := post_M_commit) (Or.inl ⟨rfl, rfl, rfl, rfl, rfl, rfl⟩) ⟨lw_at 624 (by decide +kernel) rfl, lw_at 621 (by decide +kernel) rfl, lw_at 59 (by decide +kernel) rfl, by decide, by decide, by decide +kernel⟩ ⟨lw_at 623 (by decide +kernel) rfl, lw_at 24 (by decide +kernel) rfl⟩ ⟨rfl, rfl⟩ hR (c_M_commit l ad D cA) ?_ d h st ls σ ?_
  · intro av σ h; unfold pre_M_commit at h; split at h
    · obtain ⟨rfl, h⟩ := h; exact ⟨_, rfl⟩
    · exact h.elim
  · unfold oc_M_commit at k
    split at k
    next o st =>
      obtain ⟨rfl, hs, hp, k⟩ := k
      refine ⟨[.inr (.inr 900)], st, rfl, rfl, hs, ⟨rfl, hp⟩, fun r σ' hq => ?_⟩
      unfold post_M_commit at hq
      split at hq
      next h1 =>
        cases h1
        exact k _ hq
      next => exact hq.elim
    next => exact k.elim
def k_M_whenMapped_72 (QR : Option qA → qS → Prop) (H : Nat → qP) : qP :=
  o_al 0 <| oc_M_commit <| o_rv QR
def k_M_whenMapped_66 (QR : Option qA → qS → Prop) (H : Nat → qP) : qP :=
  o_inc 3 1 <| H 43
def k_M_whenMapped_65 (QR : Option qA → qS → Prop) (H : Nat → qP) : qP :=
  o_rv QR
def k_M_whenMapped_56 (QR : Option qA → qS → Prop) (H : Nat → qP) : qP :=
  o_al 0 <| o_gA 900 35 <| o_il 3 <| o_zak 35 6 <| o_if (fun a => ¬ a = 0) (k_M_whenMapped_66 QR H) (k_M_whenMapped_65 QR H)
def k_M_whenMapped_43 (QR : Option qA → qS → Prop) (H : Nat → qP) : qP :=
  o_il 3 <| o_al 0 <| o_gA 900 13 <| o_al 0 <| oc_M_job <| o_iak 13 8 <| o_i2 (fun a b => b ≤ a) (k_M_whenMapped_72 QR H) (k_M_whenMapped_56 QR H)
def k_M_whenMapped_41 (QR : Option qA → qS → Prop) (H : Nat → qP) : qP :=
  o_c (.inl 0) <| o_is 3 <| H 43
def k_M_whenMapped_36 (QR : Option qA → qS → Prop) (H : Nat → qP) : qP :=
  o_al 0 <| oc_M_fail <| o_rv QR
def k_M_whenMapped_29 (QR : Option qA → qS → Prop) (H : Nat → qP) : qP :=
  o_il 1 <| o_c (.inl 1000) <| o_i2 (fun a b => a ≤ b) (k_M_whenMapped_41 QR H) (k_M_whenMapped_36 QR H)
def k_M_whenMapped_14 (QR : Option qA → qS → Prop) (H : Nat → qP) : qP :=
  o_il 1 <| o_al 0 <| o_gA 900 34 <| o_il 3 <| o_iak 34 38 <| o_bi z_add <| o_is 1 <| o_inc 3 1 <| H 9
def k_M_whenMapped_9 (QR : Option qA → qS → Prop) (H : Nat → qP) : qP :=
  o_il 3 <| o_il 2 <| o_i2 (fun a b => b ≤ a) (H 29) (k_M_whenMapped_14 QR H)
def k_M_whenMapped_0 (QR : Option qA → qS → Prop) (H : Nat → qP) : qP :=
  o_c (.inl 0) <| o_is 1 <| o_al 0 <| oc_M_splits <| o_is 2 <| o_c (.inl 0) <| o_is 3 <| H 9
set_option maxRecDepth 8000 in
theorem s_M_whenMapped_72 {l : Launch} {ad : Nat → Nat} {D : va_G} {cA : Nat → ClassId} {WW : Nat → qP} {QR : Option qA → qS → Prop} (S : qSnd l rm_M_whenMapped ad D cA R_M b_M_whenMapped 4 WW) (Q : qRet (none) b_M_whenMapped WW QR) : qle (k_M_whenMapped_72 QR WW) WW 72 :=
  S.aload_n d_M_whenMapped_72 rfl <| sc_M_332 S (by decide) d_M_whenMapped_73 <| Q.2.2.2 rfl _ d_M_whenMapped_76
set_option maxRecDepth 8000 in
theorem s_M_whenMapped_66 {l : Launch} {ad : Nat → Nat} {D : va_G} {cA : Nat → ClassId} {WW : Nat → qP} {QR : Option qA → qS → Prop} (S : qSnd l rm_M_whenMapped ad D cA R_M b_M_whenMapped 4 WW) (Q : qRet (none) b_M_whenMapped WW QR) : qle (k_M_whenMapped_66 QR WW) WW 66 :=
  S.iinc d_M_whenMapped_66 (by decide) <| S.goto d_M_whenMapped_69 (by decide) (fun _ _ _ h => h)
set_option maxRecDepth 8000 in
theorem s_M_whenMapped_65 {l : Launch} {ad : Nat → Nat} {D : va_G} {cA : Nat → ClassId} {WW : Nat → qP} {QR : Option qA → qS → Prop} (S : qSnd l rm_M_whenMapped ad D cA R_M b_M_whenMapped 4 WW) (Q : qRet (none) b_M_whenMapped WW QR) : qle (k_M_whenMapped_65 QR WW) WW 65 :=
  Q.2.2.2 rfl _ d_M_whenMapped_65
set_option maxRecDepth 8000 in
theorem s_M_whenMapped_56 {l : Launch} {ad : Nat → Nat} {D : va_G} {cA : Nat → ClassId} {WW : Nat → qP} {QR : Option qA → qS → Prop} (S : qSnd l rm_M_whenMapped ad D cA R_M b_M_whenMapped 4 WW) (Q : qRet (none) b_M_whenMapped WW QR) : qle (k_M_whenMapped_56 QR WW) WW 56 :=
  S.aload_n d_M_whenMapped_56 rfl <| S.gA fl_M_72 (by decide) d_M_whenMapped_57 <| S.iload_n d_M_whenMapped_60 rfl <| S.zak (by decide) d_M_whenMapped_61 <| S.if_ne d_M_whenMapped_62 (by decide) (s_M_whenMapped_66 S Q) (s_M_whenMapped_65 S Q)
set_option maxRecDepth 8000 in
theorem s_M_whenMapped_43 {l : Launch} {ad : Nat → Nat} {D : va_G} {cA : Nat → ClassId} {WW : Nat → qP} {QR : Option qA → qS → Prop} (S : qSnd l rm_M_whenMapped ad D cA R_M b_M_whenMapped 4 WW) (Q : qRet (none) b_M_whenMapped WW QR) : qle (k_M_whenMapped_43 QR WW) WW 43 :=
  S.iload_n d_M_whenMapped_43 rfl <| S.aload_n d_M_whenMapped_44 rfl <| S.gA fl_M_48 (by decide) d_M_whenMapped_45 <| S.aload_n d_M_whenMapped_48 rfl <| sc_M_256 S (by decide) d_M_whenMapped_49 <| S.iak (by decide) d_M_whenMapped_52 <| S.icmp_ge d_M_whenMapped_53 (by decide) (s_M_whenMapped_72 S Q) (s_M_whenMapped_56 S Q)
set_option maxRecDepth 8000 in
theorem s_M_whenMapped_41 {l : Launch} {ad : Nat → Nat} {D : va_G} {cA : Nat → ClassId} {WW : Nat → qP} {QR : Option qA → qS → Prop} (S : qSnd l rm_M_whenMapped ad D cA R_M b_M_whenMapped 4 WW) (Q : qRet (none) b_M_whenMapped WW QR) : qle (k_M_whenMapped_41 QR WW) WW 41 :=
  S.iconst d_M_whenMapped_41 (by decide) <| S.istore_n d_M_whenMapped_42 rfl (by decide) <| (fun _ _ _ h => h)
set_option maxRecDepth 8000 in
theorem s_M_whenMapped_36 {l : Launch} {ad : Nat → Nat} {D : va_G} {cA : Nat → ClassId} {WW : Nat → qP} {QR : Option qA → qS → Prop} (S : qSnd l rm_M_whenMapped ad D cA R_M b_M_whenMapped 4 WW) (Q : qRet (none) b_M_whenMapped WW QR) : qle (k_M_whenMapped_36 QR WW) WW 36 :=
  S.aload_n d_M_whenMapped_36 rfl <| sc_M_326 S (by decide) d_M_whenMapped_37 <| Q.2.2.2 rfl _ d_M_whenMapped_40
set_option maxRecDepth 8000 in
theorem s_M_whenMapped_29 {l : Launch} {ad : Nat → Nat} {D : va_G} {cA : Nat → ClassId} {WW : Nat → qP} {QR : Option qA → qS → Prop} (S : qSnd l rm_M_whenMapped ad D cA R_M b_M_whenMapped 4 WW) (Q : qRet (none) b_M_whenMapped WW QR) : qle (k_M_whenMapped_29 QR WW) WW 29 :=
  S.iload_n d_M_whenMapped_29 rfl <| S.sipush d_M_whenMapped_30 (by decide) <| S.icmp_le d_M_whenMapped_33 (by decide) (s_M_whenMapped_41 S Q) (s_M_whenMapped_36 S Q)
set_option maxRecDepth 8000 in
theorem s_M_whenMapped_14 {l : Launch} {ad : Nat → Nat} {D : va_G} {cA : Nat → ClassId} {WW : Nat → qP} {QR : Option qA → qS → Prop} (S : qSnd l rm_M_whenMapped ad D cA R_M b_M_whenMapped 4 WW) (Q : qRet (none) b_M_whenMapped WW QR) : qle (k_M_whenMapped_14 QR WW) WW 14 :=
  S.iload_n d_M_whenMapped_14 rfl <| S.aload_n d_M_whenMapped_15 rfl <| S.gA fl_M_69 (by decide) d_M_whenMapped_16 <| S.iload_n d_M_whenMapped_19 rfl <| S.iak (by decide) d_M_whenMapped_20 <| S.iadd d_M_whenMapped_21 <| S.istore_n d_M_whenMapped_22 rfl (by decide) <| S.iinc d_M_whenMapped_23 (by decide) <| S.goto d_M_whenMapped_26 (by decide) (fun _ _ _ h => h)
set_option maxRecDepth 8000 in
theorem s_M_whenMapped_9 {l : Launch} {ad : Nat → Nat} {D : va_G} {cA : Nat → ClassId} {WW : Nat → qP} {QR : Option qA → qS → Prop} (S : qSnd l rm_M_whenMapped ad D cA R_M b_M_whenMapped 4 WW) (Q : qRet (none) b_M_whenMapped WW QR) : qle (k_M_whenMapped_9 QR WW) WW 9 :=
  S.iload_n d_M_whenMapped_9 rfl <| S.iload_n d_M_whenMapped_10 rfl <| S.icmp_ge d_M_whenMapped_11 (by decide) (fun _ _ _ h => h) (s_M_whenMapped_14 S Q)
set_option maxRecDepth 8000 in
theorem s_M_whenMapped_0 {l : Launch} {ad : Nat → Nat} {D : va_G} {cA : Nat → ClassId} {WW : Nat → qP} {QR : Option qA → qS → Prop} (S : qSnd l rm_M_whenMapped ad D cA R_M b_M_whenMapped 4 WW) (Q : qRet (none) b_M_whenMapped WW QR) : qle (k_M_whenMapped_0 QR WW) WW 0 :=
  S.iconst d_M_whenMapped_0 (by decide) <| S.istore_n d_M_whenMapped_1 rfl (by decide) <| S.aload_n d_M_whenMapped_2 rfl <| sc_M_329 S (by decide) d_M_whenMapped_3 <| S.istore_n d_M_whenMapped_6 rfl (by decide) <| S.iconst d_M_whenMapped_7 (by decide) <| S.istore_n d_M_whenMapped_8 rfl (by decide) <| (fun _ _ _ h => h)
theorem v_M_whenMapped_43 {l : Launch} {ad : Nat → Nat} {D : va_G} {cA : Nat → ClassId} {WW : Nat → qP} {QR : Option qA → qS → Prop} (S : qSnd l rm_M_whenMapped ad D cA R_M b_M_whenMapped 4 WW) (Q : qRet (none) b_M_whenMapped WW QR) (σ : qS) (hp : P_M_whenMapped σ) (hs : ssum (σ 34) (spl σ).toNat ≤ 1000) (hq : ∀ σ', Q_M_whenMapped σ σ' → QR none σ') :
    ∀ (m k : Nat), ((k + m : Nat) : Int) = σ 13 (jb σ) → (∀ i, 0 ≤ i → i < (k : Int) → σ 35 i ≠ 0) → WW 43 [] [some (.inr (.inr 900)), none, none, some (.inl (k : Int))] σ := by
  have hj := hp.1
  have hpar := hj.2.2.2.2.2.1
  intro m
  induction m with
  | zero =>
    intro k hk hd
    refine s_M_whenMapped_43 S Q _ _ _ ?_
    simp only [k_M_whenMapped_0, k_M_whenMapped_9, k_M_whenMapped_14, k_M_whenMapped_29, k_M_whenMapped_36, k_M_whenMapped_41, k_M_whenMapped_43, k_M_whenMapped_56, k_M_whenMapped_65, k_M_whenMapped_66, k_M_whenMapped_72, oc_M_commit, oc_M_fail, oc_M_job, oc_M_splits, o_c, o_il, o_ll, o_al, o_is, o_as, o_ls, o_inc, o_bi, o_bid, o_bl, o_bld, o_sl, o_i2l, o_l2i, o_dup, o_dup2, o_pop, o_pop2, o_if, o_i2, o_l2, swg, o_sw, o_gI, o_gZ, o_gJ, o_gA, o_gR, o_pI, o_pZ, o_pJ, o_pR, o_ia, o_iak, o_zak, o_ja, o_jak, o_is_, o_isk, o_zsk, o_js_, o_jsk, o_len, o_ri, o_rz, o_rl, o_rv, ls1, ls2, lks, lkj, List.getD_cons_zero, List.getD_cons_succ, List.set_cons_zero, List.set_cons_succ, qcat, true_and, and_true, List.map_nil, List.map_cons, List.sum_nil, List.sum_cons, Nat.reduceAdd, Nat.reduceLeDiff, Nat.zero_le, Int.reduceAdd, Int.reduceNeg, Int.reduceEq, or_true, true_or, Decidable.not_not, false_implies, not_false_eq_true, true_implies, not_true_eq_false, Int.reduceLT, Int.reduceLE]
    refine ⟨hj.1, fun r σ1 q1 => ?_⟩
    obtain ⟨e9, rfl⟩ := q1; replace e9 := e9.symm; subst e9
    have hd' : ∀ i, 0 ≤ i → i < σ 13 (jb σ) → σ 35 i ≠ 0 := fun i h0 h1 => hd i h0 (by omega)
    exact ⟨hj.2.1, fun _ => ⟨hp.2.2 hs hd', fun σ' q => hq _ (Or.inr (Or.inr ⟨hs, hd', q⟩))⟩, fun h => by omega⟩
  | succ m ih =>
    intro k hk hd
    refine s_M_whenMapped_43 S Q _ _ _ ?_
    simp only [k_M_whenMapped_0, k_M_whenMapped_9, k_M_whenMapped_14, k_M_whenMapped_29, k_M_whenMapped_36, k_M_whenMapped_41, k_M_whenMapped_43, k_M_whenMapped_56, k_M_whenMapped_65, k_M_whenMapped_66, k_M_whenMapped_72, oc_M_commit, oc_M_fail, oc_M_job, oc_M_splits, o_c, o_il, o_ll, o_al, o_is, o_as, o_ls, o_inc, o_bi, o_bid, o_bl, o_bld, o_sl, o_i2l, o_l2i, o_dup, o_dup2, o_pop, o_pop2, o_if, o_i2, o_l2, swg, o_sw, o_gI, o_gZ, o_gJ, o_gA, o_gR, o_pI, o_pZ, o_pJ, o_pR, o_ia, o_iak, o_zak, o_ja, o_jak, o_is_, o_isk, o_zsk, o_js_, o_jsk, o_len, o_ri, o_rz, o_rl, o_rv, ls1, ls2, lks, lkj, List.getD_cons_zero, List.getD_cons_succ, List.set_cons_zero, List.set_cons_succ, qcat, true_and, and_true, List.map_nil, List.map_cons, List.sum_nil, List.sum_cons, Nat.reduceAdd, Nat.reduceLeDiff, Nat.zero_le, Int.reduceAdd, Int.reduceNeg, Int.reduceEq, or_true, true_or, Decidable.not_not, false_implies, not_false_eq_true, true_implies, not_true_eq_false, Int.reduceLT, Int.reduceLE]
    refine ⟨hj.1, fun r σ1 q1 => ?_⟩
    obtain ⟨e9, rfl⟩ := q1; replace e9 := e9.symm; subst e9
    rw [w32_i _ (by omega) (by omega)]
    refine ⟨hj.2.1, fun h => by omega, fun _ => ⟨by omega, fun _ => ⟨fun h0 => ?_, fun h0 => ?_⟩⟩⟩
    · first | exact ih (k + 1) (by omega) (fun i i0 i1 => by by_cases e : i = (k : Int); rw [e]; exact h0; exact hd i i0 (by omega)) | exact hq _ (Or.inr (Or.inl ⟨hs, ⟨k, by omega, by omega, h0⟩, rfl⟩))
    · first | exact ih (k + 1) (by omega) (fun i i0 i1 => by by_cases e : i = (k : Int); rw [e]; exact h0; exact hd i i0 (by omega)) | exact hq _ (Or.inr (Or.inl ⟨hs, ⟨k, by omega, by omega, h0⟩, rfl⟩))
theorem v_M_whenMapped_9 {l : Launch} {ad : Nat → Nat} {D : va_G} {cA : Nat → ClassId} {WW : Nat → qP} {QR : Option qA → qS → Prop} (S : qSnd l rm_M_whenMapped ad D cA R_M b_M_whenMapped 4 WW) (Q : qRet (none) b_M_whenMapped WW QR) (σ : qS) (hp : P_M_whenMapped σ) (hq : ∀ σ', Q_M_whenMapped σ σ' → QR none σ') :
    ∀ (m k : Nat), ((k + m : Nat) : Int) = spl σ → WW 9 [] [some (.inr (.inr 900)), some (.inl (ssum (σ 34) k)), some (.inl (spl σ)), some (.inl (k : Int))] σ := by
  have hj := hp.1
  have hpar := hj.2.2.2.2.2.1
  have sb := spl_b hj
  intro m
  induction m with
  | zero =>
    intro k hk
    refine s_M_whenMapped_9 S Q _ _ _ ?_
    simp only [k_M_whenMapped_0, k_M_whenMapped_9, k_M_whenMapped_14, k_M_whenMapped_29, k_M_whenMapped_36, k_M_whenMapped_41, k_M_whenMapped_43, k_M_whenMapped_56, k_M_whenMapped_65, k_M_whenMapped_66, k_M_whenMapped_72, oc_M_commit, oc_M_fail, oc_M_job, oc_M_splits, o_c, o_il, o_ll, o_al, o_is, o_as, o_ls, o_inc, o_bi, o_bid, o_bl, o_bld, o_sl, o_i2l, o_l2i, o_dup, o_dup2, o_pop, o_pop2, o_if, o_i2, o_l2, swg, o_sw, o_gI, o_gZ, o_gJ, o_gA, o_gR, o_pI, o_pZ, o_pJ, o_pR, o_ia, o_iak, o_zak, o_ja, o_jak, o_is_, o_isk, o_zsk, o_js_, o_jsk, o_len, o_ri, o_rz, o_rl, o_rv, ls1, ls2, lks, lkj, List.getD_cons_zero, List.getD_cons_succ, List.set_cons_zero, List.set_cons_succ, qcat, true_and, and_true, List.map_nil, List.map_cons, List.sum_nil, List.sum_cons, Nat.reduceAdd, Nat.reduceLeDiff, Nat.zero_le, Int.reduceAdd, Int.reduceNeg, Int.reduceEq, or_true, true_or, Decidable.not_not, false_implies, not_false_eq_true, true_implies, not_true_eq_false, Int.reduceLT, Int.reduceLE]
    refine ⟨fun _ => ?_, fun h => by omega⟩
    have ek : (spl σ).toNat = k := by omega
    refine S.fg (ls' := [some (.inr (.inr 900)), some (.inl (ssum (σ 34) k)), none, none]) ⟨rfl, rfl, trivial⟩ ?_
    refine s_M_whenMapped_29 S Q _ _ _ ?_
    simp only [k_M_whenMapped_0, k_M_whenMapped_9, k_M_whenMapped_14, k_M_whenMapped_29, k_M_whenMapped_36, k_M_whenMapped_41, k_M_whenMapped_43, k_M_whenMapped_56, k_M_whenMapped_65, k_M_whenMapped_66, k_M_whenMapped_72, oc_M_commit, oc_M_fail, oc_M_job, oc_M_splits, o_c, o_il, o_ll, o_al, o_is, o_as, o_ls, o_inc, o_bi, o_bid, o_bl, o_bld, o_sl, o_i2l, o_l2i, o_dup, o_dup2, o_pop, o_pop2, o_if, o_i2, o_l2, swg, o_sw, o_gI, o_gZ, o_gJ, o_gA, o_gR, o_pI, o_pZ, o_pJ, o_pR, o_ia, o_iak, o_zak, o_ja, o_jak, o_is_, o_isk, o_zsk, o_js_, o_jsk, o_len, o_ri, o_rz, o_rl, o_rv, ls1, ls2, lks, lkj, List.getD_cons_zero, List.getD_cons_succ, List.set_cons_zero, List.set_cons_succ, qcat, true_and, and_true, List.map_nil, List.map_cons, List.sum_nil, List.sum_cons, Nat.reduceAdd, Nat.reduceLeDiff, Nat.zero_le, Int.reduceAdd, Int.reduceNeg, Int.reduceEq, or_true, true_or, Decidable.not_not, false_implies, not_false_eq_true, true_implies, not_true_eq_false, Int.reduceLT, Int.reduceLE]
    refine ⟨fun hle => S.fg (ls' := [some (.inr (.inr 900)), none, none, some (.inl 0)]) ⟨rfl, rfl, trivial⟩ ?_, fun hgt => ⟨hj.1, fun σ' q => hq _ (Or.inl ⟨by rw [ek]; omega, q⟩)⟩⟩
    exact v_M_whenMapped_43 S Q σ hp (by rw [ek]; exact hle) hq (σ 13 (jb σ)).toNat 0 (by omega) (fun i h0 h1 => by omega)
  | succ m ih =>
    intro k hk
    refine s_M_whenMapped_9 S Q _ _ _ ?_
    simp only [k_M_whenMapped_0, k_M_whenMapped_9, k_M_whenMapped_14, k_M_whenMapped_29, k_M_whenMapped_36, k_M_whenMapped_41, k_M_whenMapped_43, k_M_whenMapped_56, k_M_whenMapped_65, k_M_whenMapped_66, k_M_whenMapped_72, oc_M_commit, oc_M_fail, oc_M_job, oc_M_splits, o_c, o_il, o_ll, o_al, o_is, o_as, o_ls, o_inc, o_bi, o_bid, o_bl, o_bld, o_sl, o_i2l, o_l2i, o_dup, o_dup2, o_pop, o_pop2, o_if, o_i2, o_l2, swg, o_sw, o_gI, o_gZ, o_gJ, o_gA, o_gR, o_pI, o_pZ, o_pJ, o_pR, o_ia, o_iak, o_zak, o_ja, o_jak, o_is_, o_isk, o_zsk, o_js_, o_jsk, o_len, o_ri, o_rz, o_rl, o_rv, ls1, ls2, lks, lkj, List.getD_cons_zero, List.getD_cons_succ, List.set_cons_zero, List.set_cons_succ, qcat, true_and, and_true, List.map_nil, List.map_cons, List.sum_nil, List.sum_cons, Nat.reduceAdd, Nat.reduceLeDiff, Nat.zero_le, Int.reduceAdd, Int.reduceNeg, Int.reduceEq, or_true, true_or, Decidable.not_not, false_implies, not_false_eq_true, true_implies, not_true_eq_false, Int.reduceLT, Int.reduceLE]
    have hb := ssum_b (f := σ 34) (B := 1000) k (fun i h0 h1 => hp.2.1 i h0 (by omega))
    have hb2 := hp.2.1 k (by omega) (by omega)
    have e1 : z_add (ssum (σ 34) k) (σ 34 k) = ssum (σ 34) (k + 1) := by unfold z_add; rw [w32_i _ (by omega) (by omega)]; rfl
    rw [e1, w32_i _ (by omega) (by omega)]
    exact ⟨fun h => by omega, fun _ => ⟨by omega, ih (k + 1) (by omega)⟩⟩
theorem w_M_whenMapped {l : Launch} {ad : Nat → Nat} {D : va_G} {cA : Nat → ClassId} {WW : Nat → qP} {QR : Option qA → qS → Prop} (S : qSnd l rm_M_whenMapped ad D cA R_M b_M_whenMapped 4 WW) (Q : qRet (none) b_M_whenMapped WW QR)  (σ : qS)  (hσ : qoS σ) (h : P_M_whenMapped  σ) (hq : ∀ σ', Q_M_whenMapped  σ σ' → QR none σ') : WW 0 [] [some (.inr (.inr 900)), none, none, none] σ := by
  refine s_M_whenMapped_0 S Q _ _ _ ?_
  simp only [k_M_whenMapped_0, k_M_whenMapped_9, k_M_whenMapped_14, k_M_whenMapped_29, k_M_whenMapped_36, k_M_whenMapped_41, k_M_whenMapped_43, k_M_whenMapped_56, k_M_whenMapped_65, k_M_whenMapped_66, k_M_whenMapped_72, oc_M_commit, oc_M_fail, oc_M_job, oc_M_splits, o_c, o_il, o_ll, o_al, o_is, o_as, o_ls, o_inc, o_bi, o_bid, o_bl, o_bld, o_sl, o_i2l, o_l2i, o_dup, o_dup2, o_pop, o_pop2, o_if, o_i2, o_l2, swg, o_sw, o_gI, o_gZ, o_gJ, o_gA, o_gR, o_pI, o_pZ, o_pJ, o_pR, o_ia, o_iak, o_zak, o_ja, o_jak, o_is_, o_isk, o_zsk, o_js_, o_jsk, o_len, o_ri, o_rz, o_rl, o_rv, ls1, ls2, lks, lkj, List.getD_cons_zero, List.getD_cons_succ, List.set_cons_zero, List.set_cons_succ, qcat, true_and, and_true, List.map_nil, List.map_cons, List.sum_nil, List.sum_cons, Nat.reduceAdd, Nat.reduceLeDiff, Nat.zero_le, Int.reduceAdd, Int.reduceNeg, Int.reduceEq, or_true, true_or, Decidable.not_not, false_implies, not_false_eq_true, true_implies, not_true_eq_false, Int.reduceLT, Int.reduceLE]
  have sb := spl_b h.1
  refine ⟨h.1, fun r σ1 q1 => ?_⟩
  obtain ⟨e9, rfl⟩ := q1; replace e9 := e9.symm; subst e9
  exact v_M_whenMapped_9 S Q σ h hq (spl σ).toNat 0 (by omega)
theorem c_M_whenMapped (l : Launch) (ad : Nat → Nat) (D : va_G) (cA : Nat → ClassId) : qC l ad D cA y_M_whenMapped (Cond.code y_M_whenMapped b_M_whenMapped 4 (none) :: lw_g) rm_M_whenMapped pre_M_whenMapped post_M_whenMapped := by
  refine qC_of (own := R_M) (by decide) rfl ⟨rfl, rfl⟩ ?_ ?_
  · intro av σ h; unfold pre_M_whenMapped at h; split at h
    · simp [qen]
    · exact h.elim
  · intro WW QR S Q av σ hav hσ h hq; unfold pre_M_whenMapped at h; split at h
    next o =>
      obtain ⟨rfl, h⟩ := h
      exact w_M_whenMapped S Q  σ  hσ h (fun σ' h' => hq _ σ' h')
    next => exact h.elim
def ms0 (σ : qS) : qS := if σ 36 0 = 0 then su (ra σ 37 0 44 (fun _ => -1)) 36 0 1 else σ
def ms1 (σ : qS) : qS := su (ms0 σ) 39 0 (z_add (σ 39 0) 1)
def Mtr (σ σ' : qS) : Prop := (σ 27 0 = 0 ∧ σ' = σ) ∨ (σ 27 0 ≠ 0 ∧ ∃ r σ1, Q_M_opens 6 σ r σ1 ∧ ((r = 0 ∧ σ' = σ1) ∨ (r ≠ 0 ∧ Q_M_hears (σ1 51 0) (σ1 51 2) (σ1 51 3) (σ1 51 4) σ1 σ')))
def Mpr (σ : qS) : Prop := σ 27 0 ≠ 0 → lok σ ∧ ∀ r σ1, Q_M_opens 6 σ r σ1 → r ≠ 0 → P_M_hears (σ1 51 0) (σ1 51 2) (σ1 51 3) (σ1 51 4) σ1
def meP (σ : qS) : Prop := σ 27 0 ≠ 0 → jobok σ ∧ (mapd σ → P_M_whenMapped σ)
def meQ (σ σ' : qS) : Prop := (σ 27 0 = 0 ∧ σ' = σ) ∨ (σ 27 0 ≠ 0 ∧ ¬ mapd σ ∧ σ' = σ) ∨ (σ 27 0 ≠ 0 ∧ mapd σ ∧ Q_M_whenMapped σ σ')
def P_M_master (σ : qS) : Prop := Mpr (ms1 σ) ∧ ∀ σ1, Mtr (ms1 σ) σ1 → Mpr σ1 ∧ ∀ σ2, Mtr σ1 σ2 → Mpr σ2 ∧ ∀ σ3, Mtr σ2 σ3 → meP σ3
def Q_M_master (σ σ' : qS) : Prop := ∃ σ1 σ2 σ3, Mtr (ms1 σ) σ1 ∧ Mtr σ1 σ2 ∧ Mtr σ2 σ3 ∧ meQ σ3 σ'
def pre_M_master (av : List qA) (σ : qS) : Prop := match av with
  | [.inr (.inr o)] => o = 900 ∧ P_M_master  σ
  | _ => False
def post_M_master (av : List qA) (σ : qS) (r : Option qA) (σ' : qS) : Prop := match av, r with
  | [_], none => Q_M_master  σ σ'
  | _, _ => False
def oc_M_master (K : qP) : qP := fun st ls σ => match st with
  | .inr (.inr o) :: st => o = 900 ∧ (st.map qcat).sum ≤ 8 ∧ P_M_master  σ ∧ ∀ (σ' : qS), Q_M_master  σ σ' → K st ls σ'
  | _ => False
def rm_M_master : Room := { frames := 6, cells := 0, slots := 0, locals := 149 }
theorem sc_M_312 {l : Launch} {R : Room} {ad : Nat → Nat} {D : va_G} {cA : Nat → ClassId} {cc : ByteArray} {nL : Nat} {WW : Nat → qP} (S : qSnd l R ad D cA R_M cc nL WW) (hR : rm_M_hears.frames + 1 ≤ R.frames ∧ 8 + (5 + 11) + rm_M_hears.locals ≤ R.locals) {K : qP} {pc : Nat} (d : decode cc pc = .ok (.invokevirtual 312, 3)) (h : qle K WW (pc + 3)) : qle (oc_M_hears K) WW pc := by
  intro st ls σ k
  refine S.callV (o := 900) (ci := 0) (N := 82) (base := 0) (C := R_M) (T := F_M) (n := 4) (pre := pre_M_hears) (post := post_M_hears) (Or.inl ⟨rfl, rfl, rfl, rfl, rfl, rfl⟩) ⟨lw_at 588 (by decide +kernel) rfl, lw_at 585 (by decide +kernel) rfl, lw_at 59 (by decide +kernel) rfl, by decide, by decide, by decide +kernel⟩ ⟨lw_at 587 (by decide +kernel) rfl, lw_at 15 (by decide +kernel) rfl⟩ ⟨rfl, rfl⟩ hR (c_M_hears l ad D cA) ?_ d h st ls σ ?_
  · intro av σ h; unfold pre_M_hears at h; split at h
    · obtain ⟨rfl, h⟩ := h; exact ⟨_, rfl⟩
    · exact h.elim
  · unfold oc_M_hears at k
    split at k
    next a4 a3 a2 a1 o st =>
      obtain ⟨rfl, hs, hp, k⟩ := k
      refine ⟨[.inr (.inr 900), .inl a1, .inl a2, .inl a3, .inl a4], st, rfl, rfl, hs, ⟨rfl, hp⟩, fun r σ' hq => ?_⟩
      unfold post_M_hears at hq
      split at hq
      next h1 =>
        cases h1
        exact k _ hq
      next => exact hq.elim
    next => exact k.elim
theorem sc_M_320 {l : Launch} {R : Room} {ad : Nat → Nat} {D : va_G} {cA : Nat → ClassId} {cc : ByteArray} {nL : Nat} {WW : Nat → qP} (S : qSnd l R ad D cA R_M cc nL WW) (hR : rm_M_whenMapped.frames + 1 ≤ R.frames ∧ 8 + (4 + 11) + rm_M_whenMapped.locals ≤ R.locals) {K : qP} {pc : Nat} (d : decode cc pc = .ok (.invokevirtual 320, 3)) (h : qle K WW (pc + 3)) : qle (oc_M_whenMapped K) WW pc := by
  intro st ls σ k
  refine S.callV (o := 900) (ci := 0) (N := 82) (base := 0) (C := R_M) (T := F_M) (n := 0) (pre := pre_M_whenMapped) (post := post_M_whenMapped) (Or.inl ⟨rfl, rfl, rfl, rfl, rfl, rfl⟩) ⟨lw_at 620 (by decide +kernel) rfl, lw_at 617 (by decide +kernel) rfl, lw_at 59 (by decide +kernel) rfl, by decide, by decide, by decide +kernel⟩ ⟨lw_at 619 (by decide +kernel) rfl, lw_at 23 (by decide +kernel) rfl⟩ ⟨rfl, rfl⟩ hR (c_M_whenMapped l ad D cA) ?_ d h st ls σ ?_
  · intro av σ h; unfold pre_M_whenMapped at h; split at h
    · obtain ⟨rfl, h⟩ := h; exact ⟨_, rfl⟩
    · exact h.elim
  · unfold oc_M_whenMapped at k
    split at k
    next o st =>
      obtain ⟨rfl, hs, hp, k⟩ := k
      refine ⟨[.inr (.inr 900)], st, rfl, rfl, hs, ⟨rfl, hp⟩, fun r σ' hq => ?_⟩
      unfold post_M_whenMapped at hq
      split at hq
      next h1 =>
        cases h1
        exact k _ hq
      next => exact hq.elim
    next => exact k.elim
def k_M_master_118 (QR : Option qA → qS → Prop) (H : Nat → qP) : qP :=
  o_rv QR
def k_M_master_114 (QR : Option qA → qS → Prop) (H : Nat → qP) : qP :=
  o_al 0 <| oc_M_whenMapped <| k_M_master_118 QR H
def k_M_master_107 (QR : Option qA → qS → Prop) (H : Nat → qP) : qP :=
  o_al 0 <| oc_M_isMapped <| o_if (fun a => a = 0) (k_M_master_118 QR H) (k_M_master_114 QR H)
def k_M_master_100 (QR : Option qA → qS → Prop) (H : Nat → qP) : qP :=
  o_al 0 <| o_gZ 900 27 <| o_if (fun a => a = 0) (k_M_master_118 QR H) (k_M_master_107 QR H)
def k_M_master_94 (QR : Option qA → qS → Prop) (H : Nat → qP) : qP :=
  o_inc 1 1 <| H 45
def k_M_master_66 (QR : Option qA → qS → Prop) (H : Nat → qP) : qP :=
  o_al 0 <| o_al 0 <| o_gA 900 51 <| o_c (.inl 0) <| o_iak 51 6 <| o_al 0 <| o_gA 900 51 <| o_c (.inl 2) <| o_iak 51 6 <| o_al 0 <| o_gA 900 51 <| o_c (.inl 3) <| o_iak 51 6 <| o_al 0 <| o_gA 900 51 <| o_c (.inl 4) <| o_iak 51 6 <| oc_M_hears <| k_M_master_94 QR H
def k_M_master_57 (QR : Option qA → qS → Prop) (H : Nat → qP) : qP :=
  o_al 0 <| o_c (.inl 6) <| oc_M_opens <| o_if (fun a => a = 0) (k_M_master_94 QR H) (k_M_master_66 QR H)
def k_M_master_50 (QR : Option qA → qS → Prop) (H : Nat → qP) : qP :=
  o_al 0 <| o_gZ 900 27 <| o_if (fun a => a = 0) (H 100) (k_M_master_57 QR H)
def k_M_master_45 (QR : Option qA → qS → Prop) (H : Nat → qP) : qP :=
  o_il 1 <| o_c (.inl 3) <| o_i2 (fun a b => b ≤ a) (H 100) (k_M_master_50 QR H)
def k_M_master_33 (QR : Option qA → qS → Prop) (H : Nat → qP) : qP :=
  o_al 0 <| o_dup <| o_gI 900 39 <| o_c (.inl 1) <| o_bi z_add <| o_pI 900 39 <| o_c (.inl 0) <| o_is 1 <| H 45
def k_M_master_28 (QR : Option qA → qS → Prop) (H : Nat → qP) : qP :=
  o_al 0 <| o_c (.inl 1) <| o_pZ 900 36 <| H 33
def k_M_master_15 (QR : Option qA → qS → Prop) (H : Nat → qP) : qP :=
  o_al 0 <| o_gA 900 37 <| o_il 1 <| o_c (.inl (-1)) <| o_isk 37 44 <| o_inc 1 1 <| H 9
def k_M_master_9 (QR : Option qA → qS → Prop) (H : Nat → qP) : qP :=
  o_il 1 <| o_c (.inl 44) <| o_i2 (fun a b => b ≤ a) (k_M_master_28 QR H) (k_M_master_15 QR H)
def k_M_master_7 (QR : Option qA → qS → Prop) (H : Nat → qP) : qP :=
  o_c (.inl 0) <| o_is 1 <| H 9
def k_M_master_0 (QR : Option qA → qS → Prop) (H : Nat → qP) : qP :=
  o_al 0 <| o_gZ 900 36 <| o_if (fun a => ¬ a = 0) (H 33) (k_M_master_7 QR H)
set_option maxRecDepth 8000 in
theorem s_M_master_118 {l : Launch} {ad : Nat → Nat} {D : va_G} {cA : Nat → ClassId} {WW : Nat → qP} {QR : Option qA → qS → Prop} (S : qSnd l rm_M_master ad D cA R_M b_M_master 2 WW) (Q : qRet (none) b_M_master WW QR) : qle (k_M_master_118 QR WW) WW 118 :=
  Q.2.2.2 rfl _ d_M_master_118
set_option maxRecDepth 8000 in
theorem s_M_master_114 {l : Launch} {ad : Nat → Nat} {D : va_G} {cA : Nat → ClassId} {WW : Nat → qP} {QR : Option qA → qS → Prop} (S : qSnd l rm_M_master ad D cA R_M b_M_master 2 WW) (Q : qRet (none) b_M_master WW QR) : qle (k_M_master_114 QR WW) WW 114 :=
  S.aload_n d_M_master_114 rfl <| sc_M_320 S (by decide) d_M_master_115 <| (s_M_master_118 S Q)
set_option maxRecDepth 8000 in
theorem s_M_master_107 {l : Launch} {ad : Nat → Nat} {D : va_G} {cA : Nat → ClassId} {WW : Nat → qP} {QR : Option qA → qS → Prop} (S : qSnd l rm_M_master ad D cA R_M b_M_master 2 WW) (Q : qRet (none) b_M_master WW QR) : qle (k_M_master_107 QR WW) WW 107 :=
  S.aload_n d_M_master_107 rfl <| sc_M_316 S (by decide) d_M_master_108 <| S.if_eq d_M_master_111 (by decide) (s_M_master_118 S Q) (s_M_master_114 S Q)
set_option maxRecDepth 8000 in
theorem s_M_master_100 {l : Launch} {ad : Nat → Nat} {D : va_G} {cA : Nat → ClassId} {WW : Nat → qP} {QR : Option qA → qS → Prop} (S : qSnd l rm_M_master ad D cA R_M b_M_master 2 WW) (Q : qRet (none) b_M_master WW QR) : qle (k_M_master_100 QR WW) WW 100 :=
  S.aload_n d_M_master_100 rfl <| S.gZ fl_M_267 (by decide) d_M_master_101 <| S.if_eq d_M_master_104 (by decide) (s_M_master_118 S Q) (s_M_master_107 S Q)
set_option maxRecDepth 8000 in
theorem s_M_master_94 {l : Launch} {ad : Nat → Nat} {D : va_G} {cA : Nat → ClassId} {WW : Nat → qP} {QR : Option qA → qS → Prop} (S : qSnd l rm_M_master ad D cA R_M b_M_master 2 WW) (Q : qRet (none) b_M_master WW QR) : qle (k_M_master_94 QR WW) WW 94 :=
  S.iinc d_M_master_94 (by decide) <| S.goto d_M_master_97 (by decide) (fun _ _ _ h => h)
set_option maxRecDepth 8000 in
theorem s_M_master_66 {l : Launch} {ad : Nat → Nat} {D : va_G} {cA : Nat → ClassId} {WW : Nat → qP} {QR : Option qA → qS → Prop} (S : qSnd l rm_M_master ad D cA R_M b_M_master 2 WW) (Q : qRet (none) b_M_master WW QR) : qle (k_M_master_66 QR WW) WW 66 :=
  S.aload_n d_M_master_66 rfl <| S.aload_n d_M_master_67 rfl <| S.gA fl_M_105 (by decide) d_M_master_68 <| S.iconst d_M_master_71 (by decide) <| S.iak (by decide) d_M_master_72 <| S.aload_n d_M_master_73 rfl <| S.gA fl_M_105 (by decide) d_M_master_74 <| S.iconst d_M_master_77 (by decide) <| S.iak (by decide) d_M_master_78 <| S.aload_n d_M_master_79 rfl <| S.gA fl_M_105 (by decide) d_M_master_80 <| S.iconst d_M_master_83 (by decide) <| S.iak (by decide) d_M_master_84 <| S.aload_n d_M_master_85 rfl <| S.gA fl_M_105 (by decide) d_M_master_86 <| S.iconst d_M_master_89 (by decide) <| S.iak (by decide) d_M_master_90 <| sc_M_312 S (by decide) d_M_master_91 <| (s_M_master_94 S Q)
set_option maxRecDepth 8000 in
theorem s_M_master_57 {l : Launch} {ad : Nat → Nat} {D : va_G} {cA : Nat → ClassId} {WW : Nat → qP} {QR : Option qA → qS → Prop} (S : qSnd l rm_M_master ad D cA R_M b_M_master 2 WW) (Q : qRet (none) b_M_master WW QR) : qle (k_M_master_57 QR WW) WW 57 :=
  S.aload_n d_M_master_57 rfl <| S.bipush d_M_master_58 (by decide) <| sc_M_308 S (by decide) d_M_master_60 <| S.if_eq d_M_master_63 (by decide) (s_M_master_94 S Q) (s_M_master_66 S Q)
set_option maxRecDepth 8000 in
theorem s_M_master_50 {l : Launch} {ad : Nat → Nat} {D : va_G} {cA : Nat → ClassId} {WW : Nat → qP} {QR : Option qA → qS → Prop} (S : qSnd l rm_M_master ad D cA R_M b_M_master 2 WW) (Q : qRet (none) b_M_master WW QR) : qle (k_M_master_50 QR WW) WW 50 :=
  S.aload_n d_M_master_50 rfl <| S.gZ fl_M_267 (by decide) d_M_master_51 <| S.if_eq d_M_master_54 (by decide) (fun _ _ _ h => h) (s_M_master_57 S Q)
set_option maxRecDepth 8000 in
theorem s_M_master_45 {l : Launch} {ad : Nat → Nat} {D : va_G} {cA : Nat → ClassId} {WW : Nat → qP} {QR : Option qA → qS → Prop} (S : qSnd l rm_M_master ad D cA R_M b_M_master 2 WW) (Q : qRet (none) b_M_master WW QR) : qle (k_M_master_45 QR WW) WW 45 :=
  S.iload_n d_M_master_45 rfl <| S.iconst d_M_master_46 (by decide) <| S.icmp_ge d_M_master_47 (by decide) (fun _ _ _ h => h) (s_M_master_50 S Q)
set_option maxRecDepth 8000 in
theorem s_M_master_33 {l : Launch} {ad : Nat → Nat} {D : va_G} {cA : Nat → ClassId} {WW : Nat → qP} {QR : Option qA → qS → Prop} (S : qSnd l rm_M_master ad D cA R_M b_M_master 2 WW) (Q : qRet (none) b_M_master WW QR) : qle (k_M_master_33 QR WW) WW 33 :=
  S.aload_n d_M_master_33 rfl <| S.dup d_M_master_34 <| S.gI fl_M_305 (by decide) d_M_master_35 <| S.iconst d_M_master_38 (by decide) <| S.iadd d_M_master_39 <| S.pI fl_M_305 (by decide) (by decide +kernel) d_M_master_40 <| S.iconst d_M_master_43 (by decide) <| S.istore_n d_M_master_44 rfl (by decide) <| (fun _ _ _ h => h)
set_option maxRecDepth 8000 in
theorem s_M_master_28 {l : Launch} {ad : Nat → Nat} {D : va_G} {cA : Nat → ClassId} {WW : Nat → qP} {QR : Option qA → qS → Prop} (S : qSnd l rm_M_master ad D cA R_M b_M_master 2 WW) (Q : qRet (none) b_M_master WW QR) : qle (k_M_master_28 QR WW) WW 28 :=
  S.aload_n d_M_master_28 rfl <| S.iconst d_M_master_29 (by decide) <| S.pZ fl_M_273 (by decide) (by decide +kernel) d_M_master_30 <| (fun _ _ _ h => h)
set_option maxRecDepth 8000 in
theorem s_M_master_15 {l : Launch} {ad : Nat → Nat} {D : va_G} {cA : Nat → ClassId} {WW : Nat → qP} {QR : Option qA → qS → Prop} (S : qSnd l rm_M_master ad D cA R_M b_M_master 2 WW) (Q : qRet (none) b_M_master WW QR) : qle (k_M_master_15 QR WW) WW 15 :=
  S.aload_n d_M_master_15 rfl <| S.gA fl_M_75 (by decide) d_M_master_16 <| S.iload_n d_M_master_19 rfl <| S.iconst d_M_master_20 (by decide) <| S.isk (by decide) d_M_master_21 <| S.iinc d_M_master_22 (by decide) <| S.goto d_M_master_25 (by decide) (fun _ _ _ h => h)
set_option maxRecDepth 8000 in
theorem s_M_master_9 {l : Launch} {ad : Nat → Nat} {D : va_G} {cA : Nat → ClassId} {WW : Nat → qP} {QR : Option qA → qS → Prop} (S : qSnd l rm_M_master ad D cA R_M b_M_master 2 WW) (Q : qRet (none) b_M_master WW QR) : qle (k_M_master_9 QR WW) WW 9 :=
  S.iload_n d_M_master_9 rfl <| S.bipush d_M_master_10 (by decide) <| S.icmp_ge d_M_master_12 (by decide) (s_M_master_28 S Q) (s_M_master_15 S Q)
set_option maxRecDepth 8000 in
theorem s_M_master_7 {l : Launch} {ad : Nat → Nat} {D : va_G} {cA : Nat → ClassId} {WW : Nat → qP} {QR : Option qA → qS → Prop} (S : qSnd l rm_M_master ad D cA R_M b_M_master 2 WW) (Q : qRet (none) b_M_master WW QR) : qle (k_M_master_7 QR WW) WW 7 :=
  S.iconst d_M_master_7 (by decide) <| S.istore_n d_M_master_8 rfl (by decide) <| (fun _ _ _ h => h)
set_option maxRecDepth 8000 in
theorem s_M_master_0 {l : Launch} {ad : Nat → Nat} {D : va_G} {cA : Nat → ClassId} {WW : Nat → qP} {QR : Option qA → qS → Prop} (S : qSnd l rm_M_master ad D cA R_M b_M_master 2 WW) (Q : qRet (none) b_M_master WW QR) : qle (k_M_master_0 QR WW) WW 0 :=
  S.aload_n d_M_master_0 rfl <| S.gZ fl_M_273 (by decide) d_M_master_1 <| S.if_ne d_M_master_4 (by decide) (fun _ _ _ h => h) (s_M_master_7 S Q)
theorem v_M_master_100 {l : Launch} {ad : Nat → Nat} {D : va_G} {cA : Nat → ClassId} {WW : Nat → qP} {QR : Option qA → qS → Prop} (S : qSnd l rm_M_master ad D cA R_M b_M_master 2 WW) (Q : qRet (none) b_M_master WW QR) (σ : qS) (h : meP σ) (hq : ∀ σ', meQ σ σ' → QR none σ') : WW 100 [] [some (.inr (.inr 900)), none] σ := by
  refine s_M_master_100 S Q _ _ _ ?_
  simp only [k_M_master_0, k_M_master_7, k_M_master_9, k_M_master_15, k_M_master_28, k_M_master_33, k_M_master_45, k_M_master_50, k_M_master_57, k_M_master_66, k_M_master_94, k_M_master_100, k_M_master_107, k_M_master_114, k_M_master_118, oc_M_hears, oc_M_isMapped, oc_M_opens, oc_M_whenMapped, o_c, o_il, o_ll, o_al, o_is, o_as, o_ls, o_inc, o_bi, o_bid, o_bl, o_bld, o_sl, o_i2l, o_l2i, o_dup, o_dup2, o_pop, o_pop2, o_if, o_i2, o_l2, swg, o_sw, o_gI, o_gZ, o_gJ, o_gA, o_gR, o_pI, o_pZ, o_pJ, o_pR, o_ia, o_iak, o_zak, o_ja, o_jak, o_is_, o_isk, o_zsk, o_js_, o_jsk, o_len, o_ri, o_rz, o_rl, o_rv, ls1, ls2, lks, lkj, List.getD_cons_zero, List.getD_cons_succ, List.set_cons_zero, List.set_cons_succ, qcat, true_and, and_true, List.map_nil, List.map_cons, List.sum_nil, List.sum_cons, Nat.reduceAdd, Nat.reduceLeDiff, Nat.zero_le, Int.reduceAdd, Int.reduceNeg, Int.reduceEq, or_true, true_or, Decidable.not_not, false_implies, not_false_eq_true, true_implies, not_true_eq_false, Int.reduceLT, Int.reduceLE]
  refine fun _ => ⟨fun h0 => hq _ (Or.inl ⟨h0, rfl⟩), fun h0 => ⟨(h h0).1, fun r σ1 q1 => ?_⟩⟩
  obtain ⟨e9, hm⟩ := q1; subst e9
  refine ⟨fun hr => hq _ (Or.inr (Or.inl ⟨h0, ?_, rfl⟩)), fun hr => ?_⟩
  · rcases hm with ⟨_, x⟩ | ⟨x, _⟩; exact x; omega
  · have hmp : mapd σ1 := by rcases hm with ⟨x, _⟩ | ⟨_, x⟩; exact absurd x hr; exact x
    exact ⟨(h h0).2 hmp, fun σ' q => hq _ (Or.inr (Or.inr ⟨h0, hmp, q⟩))⟩
theorem v_M_master_45 {l : Launch} {ad : Nat → Nat} {D : va_G} {cA : Nat → ClassId} {WW : Nat → qP} {QR : Option qA → qS → Prop} (S : qSnd l rm_M_master ad D cA R_M b_M_master 2 WW) (Q : qRet (none) b_M_master WW QR) (k : Int) (σ : qS) (hk : 0 ≤ k ∧ k < 3) (h : Mpr σ) (hE : σ 27 0 = 0 → WW 100 [] [some (.inr (.inr 900)), none] σ) (K : ∀ σ', Mtr σ σ' → WW 45 [] [some (.inr (.inr 900)), some (.inl (k + 1))] σ') : WW 45 [] [some (.inr (.inr 900)), some (.inl k)] σ := by
  refine s_M_master_45 S Q _ _ _ ?_
  simp only [k_M_master_0, k_M_master_7, k_M_master_9, k_M_master_15, k_M_master_28, k_M_master_33, k_M_master_45, k_M_master_50, k_M_master_57, k_M_master_66, k_M_master_94, k_M_master_100, k_M_master_107, k_M_master_114, k_M_master_118, oc_M_hears, oc_M_isMapped, oc_M_opens, oc_M_whenMapped, o_c, o_il, o_ll, o_al, o_is, o_as, o_ls, o_inc, o_bi, o_bid, o_bl, o_bld, o_sl, o_i2l, o_l2i, o_dup, o_dup2, o_pop, o_pop2, o_if, o_i2, o_l2, swg, o_sw, o_gI, o_gZ, o_gJ, o_gA, o_gR, o_pI, o_pZ, o_pJ, o_pR, o_ia, o_iak, o_zak, o_ja, o_jak, o_is_, o_isk, o_zsk, o_js_, o_jsk, o_len, o_ri, o_rz, o_rl, o_rv, ls1, ls2, lks, lkj, List.getD_cons_zero, List.getD_cons_succ, List.set_cons_zero, List.set_cons_succ, qcat, true_and, and_true, List.map_nil, List.map_cons, List.sum_nil, List.sum_cons, Nat.reduceAdd, Nat.reduceLeDiff, Nat.zero_le, Int.reduceAdd, Int.reduceNeg, Int.reduceEq, or_true, true_or, Decidable.not_not, false_implies, not_false_eq_true, true_implies, not_true_eq_false, Int.reduceLT, Int.reduceLE]
  rw [w32_i (k + 1) (by omega) (by omega)]
  exact ⟨fun h3 => by omega, fun _ _ => ⟨fun h0 => S.fg (ls' := [some (.inr (.inr 900)), none]) ⟨rfl, trivial⟩ (hE h0), fun h0 => ⟨(h h0).1, fun r σ1 q1 => ⟨fun hr => K _ (Or.inr ⟨h0, r, σ1, q1, Or.inl ⟨hr, rfl⟩⟩), fun hr => ⟨(h h0).2 r σ1 q1 hr, fun σ2 q2 => K _ (Or.inr ⟨h0, r, σ1, q1, Or.inr ⟨hr, q2⟩⟩)⟩⟩⟩⟩⟩
theorem v_M_master_33 {l : Launch} {ad : Nat → Nat} {D : va_G} {cA : Nat → ClassId} {WW : Nat → qP} {QR : Option qA → qS → Prop} (S : qSnd l rm_M_master ad D cA R_M b_M_master 2 WW) (Q : qRet (none) b_M_master WW QR) (σ : qS) (hp : P_M_master σ) (hq : ∀ σ', Q_M_master σ σ' → QR none σ') : WW 33 [] [some (.inr (.inr 900)), none] (ms0 σ) := by
  refine s_M_master_33 S Q _ _ _ ?_
  simp only [k_M_master_0, k_M_master_7, k_M_master_9, k_M_master_15, k_M_master_28, k_M_master_33, k_M_master_45, k_M_master_50, k_M_master_57, k_M_master_66, k_M_master_94, k_M_master_100, k_M_master_107, k_M_master_114, k_M_master_118, oc_M_hears, oc_M_isMapped, oc_M_opens, oc_M_whenMapped, o_c, o_il, o_ll, o_al, o_is, o_as, o_ls, o_inc, o_bi, o_bid, o_bl, o_bld, o_sl, o_i2l, o_l2i, o_dup, o_dup2, o_pop, o_pop2, o_if, o_i2, o_l2, swg, o_sw, o_gI, o_gZ, o_gJ, o_gA, o_gR, o_pI, o_pZ, o_pJ, o_pR, o_ia, o_iak, o_zak, o_ja, o_jak, o_is_, o_isk, o_zsk, o_js_, o_jsk, o_len, o_ri, o_rz, o_rl, o_rv, ls1, ls2, lks, lkj, List.getD_cons_zero, List.getD_cons_succ, List.set_cons_zero, List.set_cons_succ, qcat, true_and, and_true, List.map_nil, List.map_cons, List.sum_nil, List.sum_cons, Nat.reduceAdd, Nat.reduceLeDiff, Nat.zero_le, Int.reduceAdd, Int.reduceNeg, Int.reduceEq, or_true, true_or, Decidable.not_not, false_implies, not_false_eq_true, true_implies, not_true_eq_false, Int.reduceLT, Int.reduceLE]
  obtain ⟨p0, p1⟩ := hp
  have ec : ms0 σ 39 0 = σ 39 0 := by unfold ms0; split; rw [su_k (by decide), ra_k (by decide)]; rfl
  have e1 : z_add (ms0 σ 39 0) 1 = z_add (σ 39 0) 1 := by rw [ec]
  rw [e1]
  show WW 45 [] _ (ms1 σ)
  have st : ∀ σx, σx 27 0 = 0 → Mtr σx σx := fun σx h => Or.inl ⟨h, rfl⟩
  refine v_M_master_45 S Q 0 _ (by omega) p0 (fun h0 => ?_) (fun σ1 q1 => ?_)
  · have a1 := p1 _ (st _ h0)
    have a2 := a1.2 _ (st _ h0)
    exact v_M_master_100 S Q _ (a2.2 _ (st _ h0)) (fun σ' q => hq _ ⟨_, _, _, st _ h0, st _ h0, st _ h0, q⟩)
  have a1 := p1 _ q1
  refine v_M_master_45 S Q 1 _ (by omega) a1.1 (fun h0 => ?_) (fun σ2 q2 => ?_)
  · have a2 := a1.2 _ (st _ h0)
    exact v_M_master_100 S Q _ (a2.2 _ (st _ h0)) (fun σ' q => hq _ ⟨_, _, _, q1, st _ h0, st _ h0, q⟩)
  have a2 := a1.2 _ q2
  refine v_M_master_45 S Q 2 _ (by omega) a2.1 (fun h0 => ?_) (fun σ3 q3 => ?_)
  · exact v_M_master_100 S Q _ (a2.2 _ (st _ h0)) (fun σ' q => hq _ ⟨_, _, _, q1, q2, st _ h0, q⟩)
  refine s_M_master_45 S Q _ _ _ ?_
  simp only [k_M_master_0, k_M_master_7, k_M_master_9, k_M_master_15, k_M_master_28, k_M_master_33, k_M_master_45, k_M_master_50, k_M_master_57, k_M_master_66, k_M_master_94, k_M_master_100, k_M_master_107, k_M_master_114, k_M_master_118, oc_M_hears, oc_M_isMapped, oc_M_opens, oc_M_whenMapped, o_c, o_il, o_ll, o_al, o_is, o_as, o_ls, o_inc, o_bi, o_bid, o_bl, o_bld, o_sl, o_i2l, o_l2i, o_dup, o_dup2, o_pop, o_pop2, o_if, o_i2, o_l2, swg, o_sw, o_gI, o_gZ, o_gJ, o_gA, o_gR, o_pI, o_pZ, o_pJ, o_pR, o_ia, o_iak, o_zak, o_ja, o_jak, o_is_, o_isk, o_zsk, o_js_, o_jsk, o_len, o_ri, o_rz, o_rl, o_rv, ls1, ls2, lks, lkj, List.getD_cons_zero, List.getD_cons_succ, List.set_cons_zero, List.set_cons_succ, qcat, true_and, and_true, List.map_nil, List.map_cons, List.sum_nil, List.sum_cons, Nat.reduceAdd, Nat.reduceLeDiff, Nat.zero_le, Int.reduceAdd, Int.reduceNeg, Int.reduceEq, or_true, true_or, Decidable.not_not, false_implies, not_false_eq_true, true_implies, not_true_eq_false, Int.reduceLT, Int.reduceLE]
  exact S.fg (ls' := [some (.inr (.inr 900)), none]) ⟨rfl, trivial⟩ (v_M_master_100 S Q _ (a2.2 _ q3) (fun σ' q => hq _ ⟨_, _, _, q1, q2, q3, q⟩))
theorem v_M_master_9 {l : Launch} {ad : Nat → Nat} {D : va_G} {cA : Nat → ClassId} {WW : Nat → qP} {QR : Option qA → qS → Prop} (S : qSnd l rm_M_master ad D cA R_M b_M_master 2 WW) (Q : qRet (none) b_M_master WW QR) (σ : qS) (h0 : σ 36 0 = 0) (K : WW 33 [] [some (.inr (.inr 900)), none] (ms0 σ)) : ∀ (m k : Nat), k + m = 44 → WW 9 [] [some (.inr (.inr 900)), some (.inl (k : Int))] (ra σ 37 0 k (fun _ => -1)) := by
  intro m
  induction m with
  | zero =>
    intro k hk
    refine s_M_master_9 S Q _ _ _ ?_
    simp only [k_M_master_0, k_M_master_7, k_M_master_9, k_M_master_15, k_M_master_28, k_M_master_33, k_M_master_45, k_M_master_50, k_M_master_57, k_M_master_66, k_M_master_94, k_M_master_100, k_M_master_107, k_M_master_114, k_M_master_118, oc_M_hears, oc_M_isMapped, oc_M_opens, oc_M_whenMapped, o_c, o_il, o_ll, o_al, o_is, o_as, o_ls, o_inc, o_bi, o_bid, o_bl, o_bld, o_sl, o_i2l, o_l2i, o_dup, o_dup2, o_pop, o_pop2, o_if, o_i2, o_l2, swg, o_sw, o_gI, o_gZ, o_gJ, o_gA, o_gR, o_pI, o_pZ, o_pJ, o_pR, o_ia, o_iak, o_zak, o_ja, o_jak, o_is_, o_isk, o_zsk, o_js_, o_jsk, o_len, o_ri, o_rz, o_rl, o_rv, ls1, ls2, lks, lkj, List.getD_cons_zero, List.getD_cons_succ, List.set_cons_zero, List.set_cons_succ, qcat, true_and, and_true, List.map_nil, List.map_cons, List.sum_nil, List.sum_cons, Nat.reduceAdd, Nat.reduceLeDiff, Nat.zero_le, Int.reduceAdd, Int.reduceNeg, Int.reduceEq, or_true, true_or, Decidable.not_not, false_implies, not_false_eq_true, true_implies, not_true_eq_false, Int.reduceLT, Int.reduceLE]
    unfold ms0 at K; rw [if_pos h0] at K
    rw [show (k : Int) = 44 by omega]
    exact ⟨fun _ => S.fg (ls' := [some (.inr (.inr 900)), none]) ⟨rfl, trivial⟩ K, fun h => by omega⟩
  | succ m ih =>
    intro k hk
    refine s_M_master_9 S Q _ _ _ ?_
    simp only [k_M_master_0, k_M_master_7, k_M_master_9, k_M_master_15, k_M_master_28, k_M_master_33, k_M_master_45, k_M_master_50, k_M_master_57, k_M_master_66, k_M_master_94, k_M_master_100, k_M_master_107, k_M_master_114, k_M_master_118, oc_M_hears, oc_M_isMapped, oc_M_opens, oc_M_whenMapped, o_c, o_il, o_ll, o_al, o_is, o_as, o_ls, o_inc, o_bi, o_bid, o_bl, o_bld, o_sl, o_i2l, o_l2i, o_dup, o_dup2, o_pop, o_pop2, o_if, o_i2, o_l2, swg, o_sw, o_gI, o_gZ, o_gJ, o_gA, o_gR, o_pI, o_pZ, o_pJ, o_pR, o_ia, o_iak, o_zak, o_ja, o_jak, o_is_, o_isk, o_zsk, o_js_, o_jsk, o_len, o_ri, o_rz, o_rl, o_rv, ls1, ls2, lks, lkj, List.getD_cons_zero, List.getD_cons_succ, List.set_cons_zero, List.set_cons_succ, qcat, true_and, and_true, List.map_nil, List.map_cons, List.sum_nil, List.sum_cons, Nat.reduceAdd, Nat.reduceLeDiff, Nat.zero_le, Int.reduceAdd, Int.reduceNeg, Int.reduceEq, or_true, true_or, Decidable.not_not, false_implies, not_false_eq_true, true_implies, not_true_eq_false, Int.reduceLT, Int.reduceLE]
    rw [ra_s (by omega) rfl, w32_i _ (by omega) (by omega)]
    exact ⟨fun h => by omega, fun _ => ⟨by omega, ih (k + 1) (by omega)⟩⟩
theorem w_M_master {l : Launch} {ad : Nat → Nat} {D : va_G} {cA : Nat → ClassId} {WW : Nat → qP} {QR : Option qA → qS → Prop} (S : qSnd l rm_M_master ad D cA R_M b_M_master 2 WW) (Q : qRet (none) b_M_master WW QR)  (σ : qS)  (hσ : qoS σ) (h : P_M_master  σ) (hq : ∀ σ', Q_M_master  σ σ' → QR none σ') : WW 0 [] [some (.inr (.inr 900)), none] σ := by
  refine s_M_master_0 S Q _ _ _ ?_
  simp only [k_M_master_0, k_M_master_7, k_M_master_9, k_M_master_15, k_M_master_28, k_M_master_33, k_M_master_45, k_M_master_50, k_M_master_57, k_M_master_66, k_M_master_94, k_M_master_100, k_M_master_107, k_M_master_114, k_M_master_118, oc_M_hears, oc_M_isMapped, oc_M_opens, oc_M_whenMapped, o_c, o_il, o_ll, o_al, o_is, o_as, o_ls, o_inc, o_bi, o_bid, o_bl, o_bld, o_sl, o_i2l, o_l2i, o_dup, o_dup2, o_pop, o_pop2, o_if, o_i2, o_l2, swg, o_sw, o_gI, o_gZ, o_gJ, o_gA, o_gR, o_pI, o_pZ, o_pJ, o_pR, o_ia, o_iak, o_zak, o_ja, o_jak, o_is_, o_isk, o_zsk, o_js_, o_jsk, o_len, o_ri, o_rz, o_rl, o_rv, ls1, ls2, lks, lkj, List.getD_cons_zero, List.getD_cons_succ, List.set_cons_zero, List.set_cons_succ, qcat, true_and, and_true, List.map_nil, List.map_cons, List.sum_nil, List.sum_cons, Nat.reduceAdd, Nat.reduceLeDiff, Nat.zero_le, Int.reduceAdd, Int.reduceNeg, Int.reduceEq, or_true, true_or, Decidable.not_not, false_implies, not_false_eq_true, true_implies, not_true_eq_false, Int.reduceLT, Int.reduceLE]
  have go := v_M_master_33 S Q σ h hq
  refine fun _ => ⟨fun hk => ?_, fun hk => ?_⟩
  · unfold ms0 at go; rw [if_neg hk] at go; exact go
  · have := v_M_master_9 S Q σ hk go 44 0 (by omega)
    rw [ra_0 (by omega)] at this
    exact this
theorem c_M_master (l : Launch) (ad : Nat → Nat) (D : va_G) (cA : Nat → ClassId) : qC l ad D cA y_M_master (Cond.code y_M_master b_M_master 2 (none) :: lw_g) rm_M_master pre_M_master post_M_master := by
  refine qC_of (own := R_M) (by decide) rfl ⟨rfl, rfl⟩ ?_ ?_
  · intro av σ h; unfold pre_M_master at h; split at h
    · simp [qen]
    · exact h.elim
  · intro WW QR S Q av σ hav hσ h hq; unfold pre_M_master at h; split at h
    next o =>
      obtain ⟨rfl, h⟩ := h
      exact w_M_master S Q  σ  hσ h (fun σ' h' => hq _ σ' h')
    next => exact h.elim
def P_M_one (w : Int) (σ : qS) : Prop := σ 27 0 ≠ 0 → (w = 6 → P_M_master σ) ∧ (w ≠ 6 → P_M_worker w σ)
def Q_M_one (w : Int) (σ σ' : qS) : Prop := (σ 27 0 = 0 ∧ σ' = σ) ∨ (σ 27 0 ≠ 0 ∧ w = 6 ∧ Q_M_master σ σ') ∨ (σ 27 0 ≠ 0 ∧ w ≠ 6 ∧ Q_M_worker w σ σ')
def pre_M_one (av : List qA) (σ : qS) : Prop := match av with
  | [.inr (.inr o), .inl a1] => o = 900 ∧ P_M_one a1 σ
  | _ => False
def post_M_one (av : List qA) (σ : qS) (r : Option qA) (σ' : qS) : Prop := match av, r with
  | [_, .inl a1], none => Q_M_one a1 σ σ'
  | _, _ => False
def oc_M_one (K : qP) : qP := fun st ls σ => match st with
  | .inl a1 :: .inr (.inr o) :: st => o = 900 ∧ (st.map qcat).sum ≤ 8 ∧ P_M_one a1 σ ∧ ∀ (σ' : qS), Q_M_one a1 σ σ' → K st ls σ'
  | _ => False
def rm_M_one : Room := { frames := 8, cells := 0, slots := 0, locals := 199 }
theorem sc_M_476 {l : Launch} {R : Room} {ad : Nat → Nat} {D : va_G} {cA : Nat → ClassId} {cc : ByteArray} {nL : Nat} {WW : Nat → qP} (S : qSnd l R ad D cA R_M cc nL WW) (hR : rm_M_master.frames + 1 ≤ R.frames ∧ 8 + (2 + 11) + rm_M_master.locals ≤ R.locals) {K : qP} {pc : Nat} (d : decode cc pc = .ok (.invokevirtual 476, 3)) (h : qle K WW (pc + 3)) : qle (oc_M_master K) WW pc := by
  intro st ls σ k
  refine S.callV (o := 900) (ci := 0) (N := 82) (base := 0) (C := R_M) (T := F_M) (n := 0) (pre := pre_M_master) (post := post_M_master) (Or.inl ⟨rfl, rfl, rfl, rfl, rfl, rfl⟩) ⟨lw_at 568 (by decide +kernel) rfl, lw_at 565 (by decide +kernel) rfl, lw_at 59 (by decide +kernel) rfl, by decide, by decide, by decide +kernel⟩ ⟨lw_at 567 (by decide +kernel) rfl, lw_at 10 (by decide +kernel) rfl⟩ ⟨rfl, rfl⟩ hR (c_M_master l ad D cA) ?_ d h st ls σ ?_
  · intro av σ h; unfold pre_M_master at h; split at h
    · obtain ⟨rfl, h⟩ := h; exact ⟨_, rfl⟩
    · exact h.elim
  · unfold oc_M_master at k
    split at k
    next o st =>
      obtain ⟨rfl, hs, hp, k⟩ := k
      refine ⟨[.inr (.inr 900)], st, rfl, rfl, hs, ⟨rfl, hp⟩, fun r σ' hq => ?_⟩
      unfold post_M_master at hq
      split at hq
      next h1 =>
        cases h1
        exact k _ hq
      next => exact hq.elim
    next => exact k.elim
theorem sc_M_479 {l : Launch} {R : Room} {ad : Nat → Nat} {D : va_G} {cA : Nat → ClassId} {cc : ByteArray} {nL : Nat} {WW : Nat → qP} (S : qSnd l R ad D cA R_M cc nL WW) (hR : rm_M_worker.frames + 1 ≤ R.frames ∧ 8 + (3 + 11) + rm_M_worker.locals ≤ R.locals) {K : qP} {pc : Nat} (d : decode cc pc = .ok (.invokevirtual 479, 3)) (h : qle K WW (pc + 3)) : qle (oc_M_worker K) WW pc := by
  intro st ls σ k
  refine S.callV (o := 900) (ci := 0) (N := 82) (base := 0) (C := R_M) (T := F_M) (n := 1) (pre := pre_M_worker) (post := post_M_worker) (Or.inl ⟨rfl, rfl, rfl, rfl, rfl, rfl⟩) ⟨lw_at 628 (by decide +kernel) rfl, lw_at 625 (by decide +kernel) rfl, lw_at 59 (by decide +kernel) rfl, by decide, by decide, by decide +kernel⟩ ⟨lw_at 627 (by decide +kernel) rfl, lw_at 25 (by decide +kernel) rfl⟩ ⟨rfl, rfl⟩ hR (c_M_worker l ad D cA) ?_ d h st ls σ ?_
  · intro av σ h; unfold pre_M_worker at h; split at h
    · obtain ⟨rfl, h⟩ := h; exact ⟨_, rfl⟩
    · exact h.elim
  · unfold oc_M_worker at k
    split at k
    next a1 o st =>
      obtain ⟨rfl, hs, hp, k⟩ := k
      refine ⟨[.inr (.inr 900), .inl a1], st, rfl, rfl, hs, ⟨rfl, hp⟩, fun r σ' hq => ?_⟩
      unfold post_M_worker at hq
      split at hq
      next h1 =>
        cases h1
        exact k _ hq
      next => exact hq.elim
    next => exact k.elim
def k_M_one_26 (QR : Option qA → qS → Prop) (H : Nat → qP) : qP :=
  o_rv QR
def k_M_one_21 (QR : Option qA → qS → Prop) (H : Nat → qP) : qP :=
  o_al 0 <| o_il 1 <| oc_M_worker <| k_M_one_26 QR H
def k_M_one_14 (QR : Option qA → qS → Prop) (H : Nat → qP) : qP :=
  o_al 0 <| oc_M_master <| k_M_one_26 QR H
def k_M_one_8 (QR : Option qA → qS → Prop) (H : Nat → qP) : qP :=
  o_il 1 <| o_c (.inl 6) <| o_i2 (fun a b => ¬ a = b) (k_M_one_21 QR H) (k_M_one_14 QR H)
def k_M_one_7 (QR : Option qA → qS → Prop) (H : Nat → qP) : qP :=
  o_rv QR
def k_M_one_0 (QR : Option qA → qS → Prop) (H : Nat → qP) : qP :=
  o_al 0 <| o_gZ 900 27 <| o_if (fun a => ¬ a = 0) (k_M_one_8 QR H) (k_M_one_7 QR H)
set_option maxRecDepth 8000 in
theorem s_M_one_26 {l : Launch} {ad : Nat → Nat} {D : va_G} {cA : Nat → ClassId} {WW : Nat → qP} {QR : Option qA → qS → Prop} (S : qSnd l rm_M_one ad D cA R_M b_M_one 2 WW) (Q : qRet (none) b_M_one WW QR) : qle (k_M_one_26 QR WW) WW 26 :=
  Q.2.2.2 rfl _ d_M_one_26
set_option maxRecDepth 8000 in
theorem s_M_one_21 {l : Launch} {ad : Nat → Nat} {D : va_G} {cA : Nat → ClassId} {WW : Nat → qP} {QR : Option qA → qS → Prop} (S : qSnd l rm_M_one ad D cA R_M b_M_one 2 WW) (Q : qRet (none) b_M_one WW QR) : qle (k_M_one_21 QR WW) WW 21 :=
  S.aload_n d_M_one_21 rfl <| S.iload_n d_M_one_22 rfl <| sc_M_479 S (by decide) d_M_one_23 <| (s_M_one_26 S Q)
set_option maxRecDepth 8000 in
theorem s_M_one_14 {l : Launch} {ad : Nat → Nat} {D : va_G} {cA : Nat → ClassId} {WW : Nat → qP} {QR : Option qA → qS → Prop} (S : qSnd l rm_M_one ad D cA R_M b_M_one 2 WW) (Q : qRet (none) b_M_one WW QR) : qle (k_M_one_14 QR WW) WW 14 :=
  S.aload_n d_M_one_14 rfl <| sc_M_476 S (by decide) d_M_one_15 <| S.goto d_M_one_18 (by decide) (s_M_one_26 S Q)
set_option maxRecDepth 8000 in
theorem s_M_one_8 {l : Launch} {ad : Nat → Nat} {D : va_G} {cA : Nat → ClassId} {WW : Nat → qP} {QR : Option qA → qS → Prop} (S : qSnd l rm_M_one ad D cA R_M b_M_one 2 WW) (Q : qRet (none) b_M_one WW QR) : qle (k_M_one_8 QR WW) WW 8 :=
  S.iload_n d_M_one_8 rfl <| S.bipush d_M_one_9 (by decide) <| S.icmp_ne d_M_one_11 (by decide) (s_M_one_21 S Q) (s_M_one_14 S Q)
set_option maxRecDepth 8000 in
theorem s_M_one_7 {l : Launch} {ad : Nat → Nat} {D : va_G} {cA : Nat → ClassId} {WW : Nat → qP} {QR : Option qA → qS → Prop} (S : qSnd l rm_M_one ad D cA R_M b_M_one 2 WW) (Q : qRet (none) b_M_one WW QR) : qle (k_M_one_7 QR WW) WW 7 :=
  Q.2.2.2 rfl _ d_M_one_7
set_option maxRecDepth 8000 in
theorem s_M_one_0 {l : Launch} {ad : Nat → Nat} {D : va_G} {cA : Nat → ClassId} {WW : Nat → qP} {QR : Option qA → qS → Prop} (S : qSnd l rm_M_one ad D cA R_M b_M_one 2 WW) (Q : qRet (none) b_M_one WW QR) : qle (k_M_one_0 QR WW) WW 0 :=
  S.aload_n d_M_one_0 rfl <| S.gZ fl_M_267 (by decide) d_M_one_1 <| S.if_ne d_M_one_4 (by decide) (s_M_one_8 S Q) (s_M_one_7 S Q)
theorem w_M_one {l : Launch} {ad : Nat → Nat} {D : va_G} {cA : Nat → ClassId} {WW : Nat → qP} {QR : Option qA → qS → Prop} (S : qSnd l rm_M_one ad D cA R_M b_M_one 2 WW) (Q : qRet (none) b_M_one WW QR) (a1 : Int) (σ : qS) (ha1 : r32 a1) (hσ : qoS σ) (h : P_M_one a1 σ) (hq : ∀ σ', Q_M_one a1 σ σ' → QR none σ') : WW 0 [] [some (.inr (.inr 900)), some (.inl a1)] σ := by
  refine s_M_one_0 S Q _ _ _ ?_
  simp only [k_M_one_0, k_M_one_7, k_M_one_8, k_M_one_14, k_M_one_21, k_M_one_26, oc_M_master, oc_M_worker, o_c, o_il, o_ll, o_al, o_is, o_as, o_ls, o_inc, o_bi, o_bid, o_bl, o_bld, o_sl, o_i2l, o_l2i, o_dup, o_dup2, o_pop, o_pop2, o_if, o_i2, o_l2, swg, o_sw, o_gI, o_gZ, o_gJ, o_gA, o_gR, o_pI, o_pZ, o_pJ, o_pR, o_ia, o_iak, o_zak, o_ja, o_jak, o_is_, o_isk, o_zsk, o_js_, o_jsk, o_len, o_ri, o_rz, o_rl, o_rv, ls1, ls2, lks, lkj, List.getD_cons_zero, List.getD_cons_succ, List.set_cons_zero, List.set_cons_succ, qcat, true_and, and_true, List.map_nil, List.map_cons, List.sum_nil, List.sum_cons, Nat.reduceAdd, Nat.reduceLeDiff, Nat.zero_le, Int.reduceAdd, Int.reduceNeg, Int.reduceEq, or_true, true_or, Decidable.not_not, false_implies, not_false_eq_true, true_implies, not_true_eq_false, Int.reduceLT, Int.reduceLE]
  refine fun _ => ⟨fun h0 => ⟨fun h6 => ?_, fun h6 => ?_⟩, fun h0 => hq _ (Or.inl ⟨h0, rfl⟩)⟩
  · first | exact ⟨(h h0).2 h6, fun σ' q => hq _ (Or.inr (Or.inr ⟨h0, h6, q⟩))⟩ | exact ⟨(h h0).1 h6, fun σ' q => hq _ (Or.inr (Or.inl ⟨h0, h6, q⟩))⟩
  · first | exact ⟨(h h0).1 h6, fun σ' q => hq _ (Or.inr (Or.inl ⟨h0, h6, q⟩))⟩ | exact ⟨(h h0).2 h6, fun σ' q => hq _ (Or.inr (Or.inr ⟨h0, h6, q⟩))⟩
theorem c_M_one (l : Launch) (ad : Nat → Nat) (D : va_G) (cA : Nat → ClassId) : qC l ad D cA y_M_one (Cond.code y_M_one b_M_one 2 (none) :: lw_g) rm_M_one pre_M_one post_M_one := by
  refine qC_of (own := R_M) (by decide) rfl ⟨rfl, rfl⟩ ?_ ?_
  · intro av σ h; unfold pre_M_one at h; split at h
    · simp [qen]
    · exact h.elim
  · intro WW QR S Q av σ hav hσ h hq; unfold pre_M_one at h; split at h
    next o a1 =>
      obtain ⟨rfl, h⟩ := h
      exact w_M_one S Q a1 σ (hav _ (List.mem_of_getElem? (i := 1) rfl)) hσ h (fun σ' h' => hq _ σ' h')
    next => exact h.elim
def chd (σ : qS) (j : Int) : Prop := ∃ c, 0 ≤ c ∧ c < σ 30 0 ∧ σ 29 c = j
def P_M_isChained (j : Int) (σ : qS) : Prop := 0 ≤ σ 30 0 ∧ σ 30 0 ≤ 8
def Q_M_isChained (j : Int) (σ : qS) (r : Int) (σ' : qS) : Prop := σ' = σ ∧ (r = 0 ∧ ¬ chd σ j ∨ r = 1 ∧ chd σ j)
def pre_M_isChained (av : List qA) (σ : qS) : Prop := match av with
  | [.inr (.inr o), .inl a1] => o = 900 ∧ P_M_isChained a1 σ
  | _ => False
def post_M_isChained (av : List qA) (σ : qS) (r : Option qA) (σ' : qS) : Prop := match av, r with
  | [_, .inl a1], some (.inl r) => Q_M_isChained a1 σ r σ'
  | _, _ => False
def oc_M_isChained (K : qP) : qP := fun st ls σ => match st with
  | .inl a1 :: .inr (.inr o) :: st => o = 900 ∧ (st.map qcat).sum ≤ 8 ∧ P_M_isChained a1 σ ∧ ∀ (r : Int) (σ' : qS), Q_M_isChained a1 σ r σ' → K (.inl r :: st) ls σ'
  | _ => False
def rm_M_isChained : Room := { frames := 0, cells := 0, slots := 0, locals := 0 }
def k_M_isChained_28 (QR : Option qA → qS → Prop) (H : Nat → qP) : qP :=
  o_c (.inl 0) <| o_rz QR
def k_M_isChained_22 (QR : Option qA → qS → Prop) (H : Nat → qP) : qP :=
  o_inc 2 1 <| H 2
def k_M_isChained_20 (QR : Option qA → qS → Prop) (H : Nat → qP) : qP :=
  o_c (.inl 1) <| o_rz QR
def k_M_isChained_10 (QR : Option qA → qS → Prop) (H : Nat → qP) : qP :=
  o_al 0 <| o_gA 900 29 <| o_il 2 <| o_iak 29 8 <| o_il 1 <| o_i2 (fun a b => ¬ a = b) (k_M_isChained_22 QR H) (k_M_isChained_20 QR H)
def k_M_isChained_2 (QR : Option qA → qS → Prop) (H : Nat → qP) : qP :=
  o_il 2 <| o_al 0 <| o_gI 900 30 <| o_i2 (fun a b => b ≤ a) (k_M_isChained_28 QR H) (k_M_isChained_10 QR H)
def k_M_isChained_0 (QR : Option qA → qS → Prop) (H : Nat → qP) : qP :=
  o_c (.inl 0) <| o_is 2 <| H 2
set_option maxRecDepth 8000 in
theorem s_M_isChained_28 {l : Launch} {ad : Nat → Nat} {D : va_G} {cA : Nat → ClassId} {WW : Nat → qP} {QR : Option qA → qS → Prop} (S : qSnd l rm_M_isChained ad D cA R_M b_M_isChained 3 WW) (Q : qRet (some .boolean) b_M_isChained WW QR) : qle (k_M_isChained_28 QR WW) WW 28 :=
  S.iconst d_M_isChained_28 (by decide) <| Q.2.1 rfl _ d_M_isChained_29
set_option maxRecDepth 8000 in
theorem s_M_isChained_22 {l : Launch} {ad : Nat → Nat} {D : va_G} {cA : Nat → ClassId} {WW : Nat → qP} {QR : Option qA → qS → Prop} (S : qSnd l rm_M_isChained ad D cA R_M b_M_isChained 3 WW) (Q : qRet (some .boolean) b_M_isChained WW QR) : qle (k_M_isChained_22 QR WW) WW 22 :=
  S.iinc d_M_isChained_22 (by decide) <| S.goto d_M_isChained_25 (by decide) (fun _ _ _ h => h)
set_option maxRecDepth 8000 in
theorem s_M_isChained_20 {l : Launch} {ad : Nat → Nat} {D : va_G} {cA : Nat → ClassId} {WW : Nat → qP} {QR : Option qA → qS → Prop} (S : qSnd l rm_M_isChained ad D cA R_M b_M_isChained 3 WW) (Q : qRet (some .boolean) b_M_isChained WW QR) : qle (k_M_isChained_20 QR WW) WW 20 :=
  S.iconst d_M_isChained_20 (by decide) <| Q.2.1 rfl _ d_M_isChained_21
set_option maxRecDepth 8000 in
theorem s_M_isChained_10 {l : Launch} {ad : Nat → Nat} {D : va_G} {cA : Nat → ClassId} {WW : Nat → qP} {QR : Option qA → qS → Prop} (S : qSnd l rm_M_isChained ad D cA R_M b_M_isChained 3 WW) (Q : qRet (some .boolean) b_M_isChained WW QR) : qle (k_M_isChained_10 QR WW) WW 10 :=
  S.aload_n d_M_isChained_10 rfl <| S.gA fl_M_63 (by decide) d_M_isChained_11 <| S.iload_n d_M_isChained_14 rfl <| S.iak (by decide) d_M_isChained_15 <| S.iload_n d_M_isChained_16 rfl <| S.icmp_ne d_M_isChained_17 (by decide) (s_M_isChained_22 S Q) (s_M_isChained_20 S Q)
set_option maxRecDepth 8000 in
theorem s_M_isChained_2 {l : Launch} {ad : Nat → Nat} {D : va_G} {cA : Nat → ClassId} {WW : Nat → qP} {QR : Option qA → qS → Prop} (S : qSnd l rm_M_isChained ad D cA R_M b_M_isChained 3 WW) (Q : qRet (some .boolean) b_M_isChained WW QR) : qle (k_M_isChained_2 QR WW) WW 2 :=
  S.iload_n d_M_isChained_2 rfl <| S.aload_n d_M_isChained_3 rfl <| S.gI fl_M_264 (by decide) d_M_isChained_4 <| S.icmp_ge d_M_isChained_7 (by decide) (s_M_isChained_28 S Q) (s_M_isChained_10 S Q)
set_option maxRecDepth 8000 in
theorem s_M_isChained_0 {l : Launch} {ad : Nat → Nat} {D : va_G} {cA : Nat → ClassId} {WW : Nat → qP} {QR : Option qA → qS → Prop} (S : qSnd l rm_M_isChained ad D cA R_M b_M_isChained 3 WW) (Q : qRet (some .boolean) b_M_isChained WW QR) : qle (k_M_isChained_0 QR WW) WW 0 :=
  S.iconst d_M_isChained_0 (by decide) <| S.istore_n d_M_isChained_1 rfl (by decide) <| (fun _ _ _ h => h)
theorem v_M_isChained_2 {l : Launch} {ad : Nat → Nat} {D : va_G} {cA : Nat → ClassId} {WW : Nat → qP} {QR : Option qA → qS → Prop} (S : qSnd l rm_M_isChained ad D cA R_M b_M_isChained 3 WW) (Q : qRet (some .boolean) b_M_isChained WW QR) (σ : qS) (j : Int) (hp : P_M_isChained j σ) (hq : ∀ r σ', Q_M_isChained j σ r σ' → QR (some (.inl r)) σ') : ∀ (m k : Nat), ((k + m : Nat) : Int) = σ 30 0 → (∀ c, 0 ≤ c → c < (k : Int) → σ 29 c ≠ j) → WW 2 [] [some (.inr (.inr 900)), some (.inl j), some (.inl (k : Int))] σ := by
  unfold P_M_isChained at hp
  intro m
  induction m with
  | zero =>
    intro k hk hn
    refine s_M_isChained_2 S Q _ _ _ ?_
    simp only [k_M_isChained_0, k_M_isChained_2, k_M_isChained_10, k_M_isChained_20, k_M_isChained_22, k_M_isChained_28, o_c, o_il, o_ll, o_al, o_is, o_as, o_ls, o_inc, o_bi, o_bid, o_bl, o_bld, o_sl, o_i2l, o_l2i, o_dup, o_dup2, o_pop, o_pop2, o_if, o_i2, o_l2, swg, o_sw, o_gI, o_gZ, o_gJ, o_gA, o_gR, o_pI, o_pZ, o_pJ, o_pR, o_ia, o_iak, o_zak, o_ja, o_jak, o_is_, o_isk, o_zsk, o_js_, o_jsk, o_len, o_ri, o_rz, o_rl, o_rv, ls1, ls2, lks, lkj, List.getD_cons_zero, List.getD_cons_succ, List.set_cons_zero, List.set_cons_succ, qcat, true_and, and_true, List.map_nil, List.map_cons, List.sum_nil, List.sum_cons, Nat.reduceAdd, Nat.reduceLeDiff, Nat.zero_le, Int.reduceAdd, Int.reduceNeg, Int.reduceEq, or_true, true_or, Decidable.not_not, false_implies, not_false_eq_true, true_implies, not_true_eq_false, Int.reduceLT, Int.reduceLE]
    exact ⟨fun _ => hq _ _ ⟨rfl, Or.inl ⟨rfl, fun ⟨c, c0, c1, c2⟩ => hn c c0 (by omega) c2⟩⟩, fun h => by omega⟩
  | succ m ih =>
    intro k hk hn
    refine s_M_isChained_2 S Q _ _ _ ?_
    simp only [k_M_isChained_0, k_M_isChained_2, k_M_isChained_10, k_M_isChained_20, k_M_isChained_22, k_M_isChained_28, o_c, o_il, o_ll, o_al, o_is, o_as, o_ls, o_inc, o_bi, o_bid, o_bl, o_bld, o_sl, o_i2l, o_l2i, o_dup, o_dup2, o_pop, o_pop2, o_if, o_i2, o_l2, swg, o_sw, o_gI, o_gZ, o_gJ, o_gA, o_gR, o_pI, o_pZ, o_pJ, o_pR, o_ia, o_iak, o_zak, o_ja, o_jak, o_is_, o_isk, o_zsk, o_js_, o_jsk, o_len, o_ri, o_rz, o_rl, o_rv, ls1, ls2, lks, lkj, List.getD_cons_zero, List.getD_cons_succ, List.set_cons_zero, List.set_cons_succ, qcat, true_and, and_true, List.map_nil, List.map_cons, List.sum_nil, List.sum_cons, Nat.reduceAdd, Nat.reduceLeDiff, Nat.zero_le, Int.reduceAdd, Int.reduceNeg, Int.reduceEq, or_true, true_or, Decidable.not_not, false_implies, not_false_eq_true, true_implies, not_true_eq_false, Int.reduceLT, Int.reduceLE]
    rw [w32_i _ (by omega) (by omega)]
    refine ⟨fun h => by omega, fun _ => ⟨by omega, fun he => ?_, fun he => ?_⟩⟩
    · first | exact hq _ _ ⟨rfl, Or.inr ⟨rfl, k, by omega, by omega, he⟩⟩ | exact ih (k + 1) (by omega) (fun c c0 c1 => by by_cases e : c = (k : Int); rw [e]; exact he; exact hn c c0 (by omega))
    · first | exact hq _ _ ⟨rfl, Or.inr ⟨rfl, k, by omega, by omega, he⟩⟩ | exact ih (k + 1) (by omega) (fun c c0 c1 => by by_cases e : c = (k : Int); rw [e]; exact he; exact hn c c0 (by omega))
theorem w_M_isChained {l : Launch} {ad : Nat → Nat} {D : va_G} {cA : Nat → ClassId} {WW : Nat → qP} {QR : Option qA → qS → Prop} (S : qSnd l rm_M_isChained ad D cA R_M b_M_isChained 3 WW) (Q : qRet (some .boolean) b_M_isChained WW QR) (a1 : Int) (σ : qS) (ha1 : r32 a1) (hσ : qoS σ) (h : P_M_isChained a1 σ) (hq : ∀ (r : Int) σ', Q_M_isChained a1 σ r σ' → QR (some (.inl r)) σ') : WW 0 [] [some (.inr (.inr 900)), some (.inl a1), none] σ := by
  refine s_M_isChained_0 S Q _ _ _ ?_
  simp only [k_M_isChained_0, k_M_isChained_2, k_M_isChained_10, k_M_isChained_20, k_M_isChained_22, k_M_isChained_28, o_c, o_il, o_ll, o_al, o_is, o_as, o_ls, o_inc, o_bi, o_bid, o_bl, o_bld, o_sl, o_i2l, o_l2i, o_dup, o_dup2, o_pop, o_pop2, o_if, o_i2, o_l2, swg, o_sw, o_gI, o_gZ, o_gJ, o_gA, o_gR, o_pI, o_pZ, o_pJ, o_pR, o_ia, o_iak, o_zak, o_ja, o_jak, o_is_, o_isk, o_zsk, o_js_, o_jsk, o_len, o_ri, o_rz, o_rl, o_rv, ls1, ls2, lks, lkj, List.getD_cons_zero, List.getD_cons_succ, List.set_cons_zero, List.set_cons_succ, qcat, true_and, and_true, List.map_nil, List.map_cons, List.sum_nil, List.sum_cons, Nat.reduceAdd, Nat.reduceLeDiff, Nat.zero_le, Int.reduceAdd, Int.reduceNeg, Int.reduceEq, or_true, true_or, Decidable.not_not, false_implies, not_false_eq_true, true_implies, not_true_eq_false, Int.reduceLT, Int.reduceLE]
  have hp : 0 ≤ σ 30 0 ∧ σ 30 0 ≤ 8 := h
  exact v_M_isChained_2 S Q σ a1 h hq (σ 30 0).toNat 0 (by omega) (fun c c0 c1 => by omega)
theorem c_M_isChained (l : Launch) (ad : Nat → Nat) (D : va_G) (cA : Nat → ClassId) : qC l ad D cA y_M_isChained (Cond.code y_M_isChained b_M_isChained 3 (some .boolean) :: lw_g) rm_M_isChained pre_M_isChained post_M_isChained := by
  refine qC_of (own := R_M) (by decide) rfl ⟨rfl, rfl⟩ ?_ ?_
  · intro av σ h; unfold pre_M_isChained at h; split at h
    · simp [qen]
    · exact h.elim
  · intro WW QR S Q av σ hav hσ h hq; unfold pre_M_isChained at h; split at h
    next o a1 =>
      obtain ⟨rfl, h⟩ := h
      exact w_M_isChained S Q a1 σ (hav _ (List.mem_of_getElem? (i := 1) rfl)) hσ h (fun r σ' h' => hq _ σ' h')
    next => exact h.elim

