def P_M_reads (w : Int) (σ : qS) : Prop := (0 ≤ w ∧ w < 6) ∧ (σ 51 0 = 5 → P_M_answers w (σ 51 2) (σ 51 3) (σ 51 4) (σ 51 5) σ) ∧ (σ 51 0 = 6 → P_M_gets w σ)
def Q_M_reads (w : Int) (σ σ' : qS) : Prop := (σ 51 0 = 2 ∧ σ' = if σ 62 w = -1 then su (su (fgt σ w) 62 w (σ 51 2)) 63 w (σ 31 0) else σ) ∨ (σ 51 0 = 5 ∧ Q_M_answers w (σ 51 2) (σ 51 3) (σ 51 4) (σ 51 5) σ σ') ∨ (σ 51 0 = 6 ∧ Q_M_gets w σ σ') ∨ ((σ 51 0 ≠ 2 ∧ σ 51 0 ≠ 5 ∧ σ 51 0 ≠ 6) ∧ σ' = σ)
def pre_M_reads (av : List qA) (σ : qS) : Prop := match av with
  | [.inr (.inr o), .inl a1] => o = 900 ∧ P_M_reads a1 σ
  | _ => False
def post_M_reads (av : List qA) (σ : qS) (r : Option qA) (σ' : qS) : Prop := match av, r with
  | [_, .inl a1], none => Q_M_reads a1 σ σ'
  | _, _ => False
def oc_M_reads (K : qP) : qP := fun st ls σ => match st with
  | .inl a1 :: .inr (.inr o) :: st => o = 900 ∧ (st.map qcat).sum ≤ 8 ∧ P_M_reads a1 σ ∧ ∀ (σ' : qS), Q_M_reads a1 σ σ' → K st ls σ'
  | _ => False
def rm_M_reads : Room := { frames := 4, cells := 0, slots := 0, locals := 103 }
theorem fl_M_141 : qF R_M 900 0 82 0 R_M F_M 141 63 := ⟨Or.inl ⟨rfl, rfl, rfl, rfl, rfl, rfl⟩, by decide, lw_at 141 (by decide +kernel) rfl⟩
theorem sc_M_365 {l : Launch} {R : Room} {ad : Nat → Nat} {D : va_G} {cA : Nat → ClassId} {cc : ByteArray} {nL : Nat} {WW : Nat → qP} (S : qSnd l R ad D cA R_M cc nL WW) (hR : rm_M_answers.frames + 1 ≤ R.frames ∧ 8 + (12 + 11) + rm_M_answers.locals ≤ R.locals) {K : qP} {pc : Nat} (d : decode cc pc = .ok (.invokevirtual 365, 3)) (h : qle K WW (pc + 3)) : qle (oc_M_answers K) WW pc := by
  intro st ls σ k
  refine S.callV (o := 900) (ci := 0) (N := 82) (base := 0) (C := R_M) (T := F_M) (n := 5) (pre := pre_M_answers) (post := post_M_answers) (Or.inl ⟨rfl, rfl, rfl, rfl, rfl, rfl⟩) ⟨lw_at 644 (by decide +kernel) rfl, lw_at 641 (by decide +kernel) rfl, lw_at 59 (by decide +kernel) rfl, by decide, by decide, by decide +kernel⟩ ⟨lw_at 643 (by decide +kernel) rfl, lw_at 29 (by decide +kernel) rfl⟩ ⟨rfl, rfl⟩ hR (c_M_answers l ad D cA) ?_ d h st ls σ ?_
  · intro av σ h; unfold pre_M_answers at h; split at h
    · obtain ⟨rfl, h⟩ := h; exact ⟨_, rfl⟩
    · exact h.elim
  · unfold oc_M_answers at k
    split at k
    next a5 a4 a3 a2 a1 o st =>
      obtain ⟨rfl, hs, hp, k⟩ := k
      refine ⟨[.inr (.inr 900), .inl a1, .inl a2, .inl a3, .inl a4, .inl a5], st, rfl, rfl, hs, ⟨rfl, hp⟩, fun r σ' hq => ?_⟩
      unfold post_M_answers at hq
      split at hq
      next h1 =>
        cases h1
        exact k _ hq
      next => exact hq.elim
    next => exact k.elim
theorem sc_M_369 {l : Launch} {R : Room} {ad : Nat → Nat} {D : va_G} {cA : Nat → ClassId} {cc : ByteArray} {nL : Nat} {WW : Nat → qP} (S : qSnd l R ad D cA R_M cc nL WW) (hR : rm_M_gets.frames + 1 ≤ R.frames ∧ 8 + (5 + 11) + rm_M_gets.locals ≤ R.locals) {K : qP} {pc : Nat} (d : decode cc pc = .ok (.invokevirtual 369, 3)) (h : qle K WW (pc + 3)) : qle (oc_M_gets K) WW pc := by
  intro st ls σ k
  refine S.callV (o := 900) (ci := 0) (N := 82) (base := 0) (C := R_M) (T := F_M) (n := 1) (pre := pre_M_gets) (post := post_M_gets) (Or.inl ⟨rfl, rfl, rfl, rfl, rfl, rfl⟩) ⟨lw_at 652 (by decide +kernel) rfl, lw_at 649 (by decide +kernel) rfl, lw_at 59 (by decide +kernel) rfl, by decide, by decide, by decide +kernel⟩ ⟨lw_at 651 (by decide +kernel) rfl, lw_at 31 (by decide +kernel) rfl⟩ ⟨rfl, rfl⟩ hR (c_M_gets l ad D cA) ?_ d h st ls σ ?_
  · intro av σ h; unfold pre_M_gets at h; split at h
    · obtain ⟨rfl, h⟩ := h; exact ⟨_, rfl⟩
    · exact h.elim
  · unfold oc_M_gets at k
    split at k
    next a1 o st =>
      obtain ⟨rfl, hs, hp, k⟩ := k
      refine ⟨[.inr (.inr 900), .inl a1], st, rfl, rfl, hs, ⟨rfl, hp⟩, fun r σ' hq => ?_⟩
      unfold post_M_gets at hq
      split at hq
      next h1 =>
        cases h1
        exact k _ hq
      next => exact hq.elim
    next => exact k.elim
def k_M_reads_121 (QR : Option qA → qS → Prop) (H : Nat → qP) : qP :=
  o_rv QR
def k_M_reads_113 (QR : Option qA → qS → Prop) (H : Nat → qP) : qP :=
  o_al 0 <| o_il 1 <| oc_M_gets <| k_M_reads_121 QR H
def k_M_reads_86 (QR : Option qA → qS → Prop) (H : Nat → qP) : qP :=
  o_al 0 <| o_il 1 <| o_il 2 <| o_al 0 <| o_gA 900 51 <| o_c (.inl 3) <| o_iak 51 6 <| o_al 0 <| o_gA 900 51 <| o_c (.inl 4) <| o_iak 51 6 <| o_al 0 <| o_gA 900 51 <| o_c (.inl 5) <| o_iak 51 6 <| oc_M_answers <| k_M_reads_121 QR H
def k_M_reads_61 (QR : Option qA → qS → Prop) (H : Nat → qP) : qP :=
  o_al 0 <| o_il 1 <| oc_M_forget <| o_al 0 <| o_gA 900 62 <| o_il 1 <| o_il 2 <| o_isk 62 6 <| o_al 0 <| o_gA 900 63 <| o_il 1 <| o_al 0 <| o_gI 900 31 <| o_isk 63 6 <| k_M_reads_121 QR H
def k_M_reads_58 (QR : Option qA → qS → Prop) (H : Nat → qP) : qP :=
  k_M_reads_121 QR H
def k_M_reads_48 (QR : Option qA → qS → Prop) (H : Nat → qP) : qP :=
  o_al 0 <| o_gA 900 62 <| o_il 1 <| o_iak 62 6 <| o_c (.inl (-1)) <| o_i2 (fun a b => a = b) (k_M_reads_61 QR H) (k_M_reads_58 QR H)
def k_M_reads_0 (QR : Option qA → qS → Prop) (H : Nat → qP) : qP :=
  o_al 0 <| o_gA 900 51 <| o_c (.inl 2) <| o_iak 51 6 <| o_is 2 <| o_al 0 <| o_gA 900 51 <| o_c (.inl 0) <| o_iak 51 6 <| o_sw 2 [k_M_reads_48 QR H, k_M_reads_121 QR H, k_M_reads_121 QR H, k_M_reads_86 QR H, k_M_reads_113 QR H] (k_M_reads_121 QR H)
set_option maxRecDepth 8000 in
theorem s_M_reads_121 {l : Launch} {ad : Nat → Nat} {D : va_G} {cA : Nat → ClassId} {WW : Nat → qP} {QR : Option qA → qS → Prop} (S : qSnd l rm_M_reads ad D cA R_M b_M_reads 3 WW) (Q : qRet (none) b_M_reads WW QR) : qle (k_M_reads_121 QR WW) WW 121 :=
  Q.2.2.2 rfl _ d_M_reads_121
set_option maxRecDepth 8000 in
theorem s_M_reads_113 {l : Launch} {ad : Nat → Nat} {D : va_G} {cA : Nat → ClassId} {WW : Nat → qP} {QR : Option qA → qS → Prop} (S : qSnd l rm_M_reads ad D cA R_M b_M_reads 3 WW) (Q : qRet (none) b_M_reads WW QR) : qle (k_M_reads_113 QR WW) WW 113 :=
  S.aload_n d_M_reads_113 rfl <| S.iload_n d_M_reads_114 rfl <| sc_M_369 S (by decide) d_M_reads_115 <| S.goto d_M_reads_118 (by decide) (s_M_reads_121 S Q)
set_option maxRecDepth 8000 in
theorem s_M_reads_86 {l : Launch} {ad : Nat → Nat} {D : va_G} {cA : Nat → ClassId} {WW : Nat → qP} {QR : Option qA → qS → Prop} (S : qSnd l rm_M_reads ad D cA R_M b_M_reads 3 WW) (Q : qRet (none) b_M_reads WW QR) : qle (k_M_reads_86 QR WW) WW 86 :=
  S.aload_n d_M_reads_86 rfl <| S.iload_n d_M_reads_87 rfl <| S.iload_n d_M_reads_88 rfl <| S.aload_n d_M_reads_89 rfl <| S.gA fl_M_105 (by decide) d_M_reads_90 <| S.iconst d_M_reads_93 (by decide) <| S.iak (by decide) d_M_reads_94 <| S.aload_n d_M_reads_95 rfl <| S.gA fl_M_105 (by decide) d_M_reads_96 <| S.iconst d_M_reads_99 (by decide) <| S.iak (by decide) d_M_reads_100 <| S.aload_n d_M_reads_101 rfl <| S.gA fl_M_105 (by decide) d_M_reads_102 <| S.iconst d_M_reads_105 (by decide) <| S.iak (by decide) d_M_reads_106 <| sc_M_365 S (by decide) d_M_reads_107 <| S.goto d_M_reads_110 (by decide) (s_M_reads_121 S Q)
set_option maxRecDepth 8000 in
theorem s_M_reads_61 {l : Launch} {ad : Nat → Nat} {D : va_G} {cA : Nat → ClassId} {WW : Nat → qP} {QR : Option qA → qS → Prop} (S : qSnd l rm_M_reads ad D cA R_M b_M_reads 3 WW) (Q : qRet (none) b_M_reads WW QR) : qle (k_M_reads_61 QR WW) WW 61 :=
  S.aload_n d_M_reads_61 rfl <| S.iload_n d_M_reads_62 rfl <| sc_M_347 S (by decide) d_M_reads_63 <| S.aload_n d_M_reads_66 rfl <| S.gA fl_M_138 (by decide) d_M_reads_67 <| S.iload_n d_M_reads_70 rfl <| S.iload_n d_M_reads_71 rfl <| S.isk (by decide) d_M_reads_72 <| S.aload_n d_M_reads_73 rfl <| S.gA fl_M_141 (by decide) d_M_reads_74 <| S.iload_n d_M_reads_77 rfl <| S.aload_n d_M_reads_78 rfl <| S.gI fl_M_270 (by decide) d_M_reads_79 <| S.isk (by decide) d_M_reads_82 <| S.goto d_M_reads_83 (by decide) (s_M_reads_121 S Q)
set_option maxRecDepth 8000 in
theorem s_M_reads_58 {l : Launch} {ad : Nat → Nat} {D : va_G} {cA : Nat → ClassId} {WW : Nat → qP} {QR : Option qA → qS → Prop} (S : qSnd l rm_M_reads ad D cA R_M b_M_reads 3 WW) (Q : qRet (none) b_M_reads WW QR) : qle (k_M_reads_58 QR WW) WW 58 :=
  S.goto d_M_reads_58 (by decide) (s_M_reads_121 S Q)
set_option maxRecDepth 8000 in
theorem s_M_reads_48 {l : Launch} {ad : Nat → Nat} {D : va_G} {cA : Nat → ClassId} {WW : Nat → qP} {QR : Option qA → qS → Prop} (S : qSnd l rm_M_reads ad D cA R_M b_M_reads 3 WW) (Q : qRet (none) b_M_reads WW QR) : qle (k_M_reads_48 QR WW) WW 48 :=
  S.aload_n d_M_reads_48 rfl <| S.gA fl_M_138 (by decide) d_M_reads_49 <| S.iload_n d_M_reads_52 rfl <| S.iak (by decide) d_M_reads_53 <| S.iconst d_M_reads_54 (by decide) <| S.icmp_eq d_M_reads_55 (by decide) (s_M_reads_61 S Q) (s_M_reads_58 S Q)
set_option maxRecDepth 8000 in
theorem s_M_reads_0 {l : Launch} {ad : Nat → Nat} {D : va_G} {cA : Nat → ClassId} {WW : Nat → qP} {QR : Option qA → qS → Prop} (S : qSnd l rm_M_reads ad D cA R_M b_M_reads 3 WW) (Q : qRet (none) b_M_reads WW QR) : qle (k_M_reads_0 QR WW) WW 0 :=
  S.aload_n d_M_reads_0 rfl <| S.gA fl_M_105 (by decide) d_M_reads_1 <| S.iconst d_M_reads_4 (by decide) <| S.iak (by decide) d_M_reads_5 <| S.istore_n d_M_reads_6 rfl (by decide) <| S.aload_n d_M_reads_7 rfl <| S.gA fl_M_105 (by decide) d_M_reads_8 <| S.iconst d_M_reads_11 (by decide) <| S.iak (by decide) d_M_reads_12 <| S.sw d_M_reads_13 (by decide) (⟨⟨48, by decide, (s_M_reads_48 S Q)⟩, ⟨⟨121, by decide, (s_M_reads_121 S Q)⟩, ⟨⟨121, by decide, (s_M_reads_121 S Q)⟩, ⟨⟨86, by decide, (s_M_reads_86 S Q)⟩, ⟨⟨113, by decide, (s_M_reads_113 S Q)⟩, trivial⟩⟩⟩⟩⟩) (by decide) (s_M_reads_121 S Q)
theorem fgt_F {σ : qS} {w : Int} {q : Nat} (h : q ∉ [62, 64, 65, 66, 67, 70, 73, 75]) : fgt σ w q = σ q := by
  simp only [List.mem_cons, List.not_mem_nil, or_false, not_or] at h
  unfold fgt; simp (disch := omega) only [su_k]
theorem w_M_reads {l : Launch} {ad : Nat → Nat} {D : va_G} {cA : Nat → ClassId} {WW : Nat → qP} {QR : Option qA → qS → Prop} (S : qSnd l rm_M_reads ad D cA R_M b_M_reads 3 WW) (Q : qRet (none) b_M_reads WW QR) (a1 : Int) (σ : qS) (ha1 : r32 a1) (hσ : qoS σ) (h : P_M_reads a1 σ) (hq : ∀ σ', Q_M_reads a1 σ σ' → QR none σ') : WW 0 [] [some (.inr (.inr 900)), some (.inl a1), none] σ := by
  refine s_M_reads_0 S Q _ _ _ ?_
  simp only [k_M_reads_0, k_M_reads_48, k_M_reads_58, k_M_reads_61, k_M_reads_86, k_M_reads_113, k_M_reads_121, oc_M_answers, oc_M_forget, oc_M_gets, o_c, o_il, o_ll, o_al, o_is, o_as, o_ls, o_inc, o_bi, o_bid, o_bl, o_bld, o_sl, o_i2l, o_l2i, o_dup, o_dup2, o_pop, o_pop2, o_if, o_i2, o_l2, swg, o_sw, o_gI, o_gZ, o_gJ, o_gA, o_gR, o_pI, o_pZ, o_pJ, o_pR, o_ia, o_iak, o_zak, o_ja, o_jak, o_is_, o_isk, o_zsk, o_js_, o_jsk, o_len, o_ri, o_rz, o_rl, o_rv, ls1, ls2, lks, lkj, List.getD_cons_zero, List.getD_cons_succ, List.set_cons_zero, List.set_cons_succ, qcat, true_and, and_true, List.map_nil, List.map_cons, List.sum_nil, List.sum_cons, Nat.reduceAdd, Nat.reduceLeDiff, Nat.zero_le, Int.reduceAdd, Int.reduceNeg, Int.reduceEq, or_true, true_or, Decidable.not_not, false_implies, not_false_eq_true, true_implies, not_true_eq_false, Int.reduceLT, Int.reduceLE]
  obtain ⟨hw, h5, h6⟩ := h
  have other : σ 51 0 ≠ 2 → σ 51 0 ≠ 5 → σ 51 0 ≠ 6 → QR none σ := fun a b c => hq _ (Or.inr (Or.inr (Or.inr ⟨⟨a, b, c⟩, rfl⟩)))
  refine ⟨fun e2 => ⟨hw, fun et => ⟨hw, fun σ' q => ⟨hw, hw, ?_⟩⟩, fun et => hq _ (Or.inl ⟨e2, by rw [if_neg et]⟩)⟩, fun n2 => ⟨fun e => other (by omega) (by omega) (by omega), fun n3 => ⟨fun e => other (by omega) (by omega) (by omega), fun n4 => ⟨fun e => ⟨h5 e, fun σ' q => hq _ (Or.inr (Or.inl ⟨e, q⟩))⟩, fun n5 => ⟨fun e => ⟨h6 e, fun σ' q => hq _ (Or.inr (Or.inr (Or.inl ⟨e, q⟩)))⟩, fun n6 => other n2 n5 n6⟩⟩⟩⟩⟩
  have q' : σ' = fgt σ a1 := q
  subst q'
  rw [su_k (by decide), fgt_F (q := 31) (by decide)]
  exact hq _ (Or.inl ⟨e2, by rw [if_pos et]⟩)
theorem c_M_reads (l : Launch) (ad : Nat → Nat) (D : va_G) (cA : Nat → ClassId) : qC l ad D cA y_M_reads (Cond.code y_M_reads b_M_reads 3 (none) :: lw_g) rm_M_reads pre_M_reads post_M_reads := by
  refine qC_of (own := R_M) (by decide) rfl ⟨rfl, rfl⟩ ?_ ?_
  · intro av σ h; unfold pre_M_reads at h; split at h
    · simp [qen]
    · exact h.elim
  · intro WW QR S Q av σ hav hσ h hq; unfold pre_M_reads at h; split at h
    next o a1 =>
      obtain ⟨rfl, h⟩ := h
      exact w_M_reads S Q a1 σ (hav _ (List.mem_of_getElem? (i := 1) rfl)) hσ h (fun σ' h' => hq _ σ' h')
    next => exact h.elim
def P_M_reduces (w : Int) (σ : qS) : Prop := (0 ≤ w ∧ w < 6) ∧ (38 ≤ σ 62 w ∧ σ 62 w < 44) ∧ lok σ ∧ jobok σ ∧ (0 ≤ σ 64 w ∧ σ 64 w ≤ 38) ∧ σ 76 (w * 39) = 0 ∧ (0 ≤ σ 65 w ∧ σ 65 w < 100) ∧ (0 ≤ σ 66 w ∧ σ 66 w < 12) ∧ (σ 64 w < spl σ → 0 ≤ σ 76 (w * 39 + σ 64 w) ∧ σ 76 (w * 39 + σ 64 w) ≤ 1000 ∧ 0 ≤ σ 75 w ∧ σ 75 w ≤ 1000) ∧ (spl σ ≤ σ 64 w → progok σ (jb σ * 3 + 2) ∧ FP σ w)
def Q_M_reduces (w : Int) (σ σ' : qS) : Prop :=
  (σ 40 (σ 62 w - 38) = σ 31 0 ∧ Q_M_done w (σ 62 w) 0 σ σ') ∨
  (σ 40 (σ 62 w - 38) ≠ σ 31 0 ∧ σ 64 w < spl σ ∧ σ 33 (σ 64 w) = -1 ∧ σ' = fgt σ w) ∨
  (σ 40 (σ 62 w - 38) ≠ σ 31 0 ∧ σ 64 w < spl σ ∧ σ 33 (σ 64 w) ≠ -1 ∧ (σ 65 w ≠ 0 ∧ σ 65 w ≤ 12) ∧ σ' = su σ 65 w (σ 65 w + 1)) ∨
  (σ 40 (σ 62 w - 38) ≠ σ 31 0 ∧ σ 64 w < spl σ ∧ σ 33 (σ 64 w) ≠ -1 ∧ (σ 65 w = 0 ∨ 12 < σ 65 w) ∧ ∃ σ1, Q_M_tell (σ 33 (σ 64 w)) 5 (σ 64 w) (σ 62 w - 38) (σ 75 w - σ 76 (w * 39 + σ 64 w)) w σ σ1 ∧
    ((σ 66 w + 1 ≠ 12 ∧ σ' = su (su σ1 66 w (σ 66 w + 1)) 65 w 1) ∨ (σ 66 w + 1 = 12 ∧ ∃ σ2, Q_M_tell 6 7 (σ 64 w) (σ 33 (σ 64 w)) 0 0 (su (su σ1 65 w 0) 66 w 12) σ2 ∧ σ' = su (su σ2 66 w 0) 65 w 1))) ∨
  (σ 40 (σ 62 w - 38) ≠ σ 31 0 ∧ spl σ ≤ σ 64 w ∧ Q_M_write w (σ 62 w - 38) σ σ')
def pre_M_reduces (av : List qA) (σ : qS) : Prop := match av with
  | [.inr (.inr o), .inl a1] => o = 900 ∧ P_M_reduces a1 σ
  | _ => False
def post_M_reduces (av : List qA) (σ : qS) (r : Option qA) (σ' : qS) : Prop := match av, r with
  | [_, .inl a1], none => Q_M_reduces a1 σ σ'
  | _, _ => False
def oc_M_reduces (K : qP) : qP := fun st ls σ => match st with
  | .inl a1 :: .inr (.inr o) :: st => o = 900 ∧ (st.map qcat).sum ≤ 8 ∧ P_M_reduces a1 σ ∧ ∀ (σ' : qS), Q_M_reduces a1 σ σ' → K st ls σ'
  | _ => False
def rm_M_reduces : Room := { frames := 6, cells := 0, slots := 0, locals := 149 }
theorem sc_M_419 {l : Launch} {R : Room} {ad : Nat → Nat} {D : va_G} {cA : Nat → ClassId} {cc : ByteArray} {nL : Nat} {WW : Nat → qP} (S : qSnd l R ad D cA R_M cc nL WW) (hR : rm_M_write.frames + 1 ≤ R.frames ∧ 8 + (8 + 11) + rm_M_write.locals ≤ R.locals) {K : qP} {pc : Nat} (d : decode cc pc = .ok (.invokevirtual 419, 3)) (h : qle K WW (pc + 3)) : qle (oc_M_write K) WW pc := by
  intro st ls σ k
  refine S.callV (o := 900) (ci := 0) (N := 82) (base := 0) (C := R_M) (T := F_M) (n := 2) (pre := pre_M_write) (post := post_M_write) (Or.inl ⟨rfl, rfl, rfl, rfl, rfl, rfl⟩) ⟨lw_at 732 (by decide +kernel) rfl, lw_at 729 (by decide +kernel) rfl, lw_at 59 (by decide +kernel) rfl, by decide, by decide, by decide +kernel⟩ ⟨lw_at 731 (by decide +kernel) rfl, lw_at 51 (by decide +kernel) rfl⟩ ⟨rfl, rfl⟩ hR (c_M_write l ad D cA) ?_ d h st ls σ ?_
  · intro av σ h; unfold pre_M_write at h; split at h
    · obtain ⟨rfl, h⟩ := h; exact ⟨_, rfl⟩
    · exact h.elim
  · unfold oc_M_write at k
    split at k
    next a2 a1 o st =>
      obtain ⟨rfl, hs, hp, k⟩ := k
      refine ⟨[.inr (.inr 900), .inl a1, .inl a2], st, rfl, rfl, hs, ⟨rfl, hp⟩, fun r σ' hq => ?_⟩
      unfold post_M_write at hq
      split at hq
      next h1 =>
        cases h1
        exact k _ hq
      next => exact hq.elim
    next => exact k.elim
def k_M_reduces_211 (QR : Option qA → qS → Prop) (H : Nat → qP) : qP :=
  o_al 0 <| o_il 1 <| o_il 2 <| oc_M_write <| o_rv QR
def k_M_reduces_200 (QR : Option qA → qS → Prop) (H : Nat → qP) : qP :=
  o_al 0 <| o_gA 900 65 <| o_il 1 <| o_dup2 <| o_iak 65 6 <| o_c (.inl 1) <| o_bi z_add <| o_isk 65 6 <| o_rv QR
def k_M_reduces_176 (QR : Option qA → qS → Prop) (H : Nat → qP) : qP :=
  o_al 0 <| o_c (.inl 6) <| o_c (.inl 7) <| o_al 0 <| o_gA 900 64 <| o_il 1 <| o_iak 64 6 <| o_il 3 <| o_c (.inl 0) <| o_c (.inl 0) <| oc_M_tell <| o_al 0 <| o_gA 900 66 <| o_il 1 <| o_c (.inl 0) <| o_isk 66 6 <| k_M_reduces_200 QR H
def k_M_reduces_111 (QR : Option qA → qS → Prop) (H : Nat → qP) : qP :=
  o_al 0 <| o_il 3 <| o_c (.inl 5) <| o_al 0 <| o_gA 900 64 <| o_il 1 <| o_iak 64 6 <| o_il 2 <| o_al 0 <| o_gA 900 75 <| o_il 1 <| o_iak 75 6 <| o_al 0 <| o_gA 900 76 <| o_il 1 <| o_c (.inl 39) <| o_bi z_mul <| o_al 0 <| o_gA 900 64 <| o_il 1 <| o_iak 64 6 <| o_bi z_add <| o_iak 76 234 <| o_bi z_sub <| o_il 1 <| oc_M_tell <| o_al 0 <| o_gA 900 65 <| o_il 1 <| o_c (.inl 0) <| o_isk 65 6 <| o_al 0 <| o_gA 900 66 <| o_il 1 <| o_dup2 <| o_iak 66 6 <| o_c (.inl 1) <| o_bi z_add <| o_isk 66 6 <| o_al 0 <| o_gA 900 66 <| o_il 1 <| o_iak 66 6 <| o_c (.inl 12) <| o_i2 (fun a b => ¬ a = b) (k_M_reduces_200 QR H) (k_M_reduces_176 QR H)
def k_M_reduces_100 (QR : Option qA → qS → Prop) (H : Nat → qP) : qP :=
  o_al 0 <| o_gA 900 65 <| o_il 1 <| o_iak 65 6 <| o_c (.inl 12) <| o_i2 (fun a b => a ≤ b) (k_M_reduces_200 QR H) (H 111)
def k_M_reduces_91 (QR : Option qA → qS → Prop) (H : Nat → qP) : qP :=
  o_al 0 <| o_gA 900 65 <| o_il 1 <| o_iak 65 6 <| o_if (fun a => a = 0) (H 111) (k_M_reduces_100 QR H)
def k_M_reduces_85 (QR : Option qA → qS → Prop) (H : Nat → qP) : qP :=
  o_al 0 <| o_il 1 <| oc_M_forget <| o_rv QR
def k_M_reduces_68 (QR : Option qA → qS → Prop) (H : Nat → qP) : qP :=
  o_al 0 <| o_gA 900 33 <| o_al 0 <| o_gA 900 64 <| o_il 1 <| o_iak 64 6 <| o_iak 33 38 <| o_is 3 <| o_il 3 <| o_c (.inl (-1)) <| o_i2 (fun a b => ¬ a = b) (k_M_reduces_91 QR H) (k_M_reduces_85 QR H)
def k_M_reduces_55 (QR : Option qA → qS → Prop) (H : Nat → qP) : qP :=
  o_al 0 <| o_gA 900 64 <| o_il 1 <| o_iak 64 6 <| o_al 0 <| oc_M_splits <| o_i2 (fun a b => b ≤ a) (k_M_reduces_211 QR H) (k_M_reduces_68 QR H)
def k_M_reduces_45 (QR : Option qA → qS → Prop) (H : Nat → qP) : qP :=
  o_al 0 <| o_gA 900 76 <| o_il 1 <| o_c (.inl 39) <| o_bi z_mul <| o_c (.inl 0) <| o_isk 76 234 <| H 55
def k_M_reduces_36 (QR : Option qA → qS → Prop) (H : Nat → qP) : qP :=
  o_al 0 <| o_gA 900 64 <| o_il 1 <| o_iak 64 6 <| o_if (fun a => ¬ a = 0) (H 55) (k_M_reduces_45 QR H)
def k_M_reduces_23 (QR : Option qA → qS → Prop) (H : Nat → qP) : qP :=
  o_al 0 <| o_il 1 <| o_al 0 <| o_gA 900 62 <| o_il 1 <| o_iak 62 6 <| o_c (.inl 0) <| oc_M_done <| o_rv QR
def k_M_reduces_0 (QR : Option qA → qS → Prop) (H : Nat → qP) : qP :=
  o_al 0 <| o_gA 900 62 <| o_il 1 <| o_iak 62 6 <| o_c (.inl 38) <| o_bi z_sub <| o_is 2 <| o_al 0 <| o_gA 900 40 <| o_il 2 <| o_iak 40 6 <| o_al 0 <| o_gI 900 31 <| o_i2 (fun a b => ¬ a = b) (k_M_reduces_36 QR H) (k_M_reduces_23 QR H)
set_option maxRecDepth 8000 in
theorem s_M_reduces_211 {l : Launch} {ad : Nat → Nat} {D : va_G} {cA : Nat → ClassId} {WW : Nat → qP} {QR : Option qA → qS → Prop} (S : qSnd l rm_M_reduces ad D cA R_M b_M_reduces 4 WW) (Q : qRet (none) b_M_reduces WW QR) : qle (k_M_reduces_211 QR WW) WW 211 :=
  S.aload_n d_M_reduces_211 rfl <| S.iload_n d_M_reduces_212 rfl <| S.iload_n d_M_reduces_213 rfl <| sc_M_419 S (by decide) d_M_reduces_214 <| Q.2.2.2 rfl _ d_M_reduces_217
set_option maxRecDepth 8000 in
theorem s_M_reduces_200 {l : Launch} {ad : Nat → Nat} {D : va_G} {cA : Nat → ClassId} {WW : Nat → qP} {QR : Option qA → qS → Prop} (S : qSnd l rm_M_reduces ad D cA R_M b_M_reduces 4 WW) (Q : qRet (none) b_M_reduces WW QR) : qle (k_M_reduces_200 QR WW) WW 200 :=
  S.aload_n d_M_reduces_200 rfl <| S.gA fl_M_147 (by decide) d_M_reduces_201 <| S.iload_n d_M_reduces_204 rfl <| S.dup2 d_M_reduces_205 <| S.iak (by decide) d_M_reduces_206 <| S.iconst d_M_reduces_207 (by decide) <| S.iadd d_M_reduces_208 <| S.isk (by decide) d_M_reduces_209 <| Q.2.2.2 rfl _ d_M_reduces_210
set_option maxRecDepth 8000 in
theorem s_M_reduces_176 {l : Launch} {ad : Nat → Nat} {D : va_G} {cA : Nat → ClassId} {WW : Nat → qP} {QR : Option qA → qS → Prop} (S : qSnd l rm_M_reduces ad D cA R_M b_M_reduces 4 WW) (Q : qRet (none) b_M_reduces WW QR) : qle (k_M_reduces_176 QR WW) WW 176 :=
  S.aload_n d_M_reduces_176 rfl <| S.bipush d_M_reduces_177 (by decide) <| S.bipush d_M_reduces_179 (by decide) <| S.aload_n d_M_reduces_181 rfl <| S.gA fl_M_144 (by decide) d_M_reduces_182 <| S.iload_n d_M_reduces_185 rfl <| S.iak (by decide) d_M_reduces_186 <| S.iload_n d_M_reduces_187 rfl <| S.iconst d_M_reduces_188 (by decide) <| S.iconst d_M_reduces_189 (by decide) <| sc_M_341 S (by decide) d_M_reduces_190 <| S.aload_n d_M_reduces_193 rfl <| S.gA fl_M_150 (by decide) d_M_reduces_194 <| S.iload_n d_M_reduces_197 rfl <| S.iconst d_M_reduces_198 (by decide) <| S.isk (by decide) d_M_reduces_199 <| (s_M_reduces_200 S Q)
set_option maxRecDepth 8000 in
theorem s_M_reduces_111 {l : Launch} {ad : Nat → Nat} {D : va_G} {cA : Nat → ClassId} {WW : Nat → qP} {QR : Option qA → qS → Prop} (S : qSnd l rm_M_reduces ad D cA R_M b_M_reduces 4 WW) (Q : qRet (none) b_M_reduces WW QR) : qle (k_M_reduces_111 QR WW) WW 111 :=
  S.aload_n d_M_reduces_111 rfl <| S.iload_n d_M_reduces_112 rfl <| S.iconst d_M_reduces_113 (by decide) <| S.aload_n d_M_reduces_114 rfl <| S.gA fl_M_144 (by decide) d_M_reduces_115 <| S.iload_n d_M_reduces_118 rfl <| S.iak (by decide) d_M_reduces_119 <| S.iload_n d_M_reduces_120 rfl <| S.aload_n d_M_reduces_121 rfl <| S.gA fl_M_177 (by decide) d_M_reduces_122 <| S.iload_n d_M_reduces_125 rfl <| S.iak (by decide) d_M_reduces_126 <| S.aload_n d_M_reduces_127 rfl <| S.gA fl_M_180 (by decide) d_M_reduces_128 <| S.iload_n d_M_reduces_131 rfl <| S.bipush d_M_reduces_132 (by decide) <| S.imul d_M_reduces_134 <| S.aload_n d_M_reduces_135 rfl <| S.gA fl_M_144 (by decide) d_M_reduces_136 <| S.iload_n d_M_reduces_139 rfl <| S.iak (by decide) d_M_reduces_140 <| S.iadd d_M_reduces_141 <| S.iak (by decide) d_M_reduces_142 <| S.isub d_M_reduces_143 <| S.iload_n d_M_reduces_144 rfl <| sc_M_341 S (by decide) d_M_reduces_145 <| S.aload_n d_M_reduces_148 rfl <| S.gA fl_M_147 (by decide) d_M_reduces_149 <| S.iload_n d_M_reduces_152 rfl <| S.iconst d_M_reduces_153 (by decide) <| S.isk (by decide) d_M_reduces_154 <| S.aload_n d_M_reduces_155 rfl <| S.gA fl_M_150 (by decide) d_M_reduces_156 <| S.iload_n d_M_reduces_159 rfl <| S.dup2 d_M_reduces_160 <| S.iak (by decide) d_M_reduces_161 <| S.iconst d_M_reduces_162 (by decide) <| S.iadd d_M_reduces_163 <| S.isk (by decide) d_M_reduces_164 <| S.aload_n d_M_reduces_165 rfl <| S.gA fl_M_150 (by decide) d_M_reduces_166 <| S.iload_n d_M_reduces_169 rfl <| S.iak (by decide) d_M_reduces_170 <| S.bipush d_M_reduces_171 (by decide) <| S.icmp_ne d_M_reduces_173 (by decide) (s_M_reduces_200 S Q) (s_M_reduces_176 S Q)
set_option maxRecDepth 8000 in
theorem s_M_reduces_100 {l : Launch} {ad : Nat → Nat} {D : va_G} {cA : Nat → ClassId} {WW : Nat → qP} {QR : Option qA → qS → Prop} (S : qSnd l rm_M_reduces ad D cA R_M b_M_reduces 4 WW) (Q : qRet (none) b_M_reduces WW QR) : qle (k_M_reduces_100 QR WW) WW 100 :=
  S.aload_n d_M_reduces_100 rfl <| S.gA fl_M_147 (by decide) d_M_reduces_101 <| S.iload_n d_M_reduces_104 rfl <| S.iak (by decide) d_M_reduces_105 <| S.bipush d_M_reduces_106 (by decide) <| S.icmp_le d_M_reduces_108 (by decide) (s_M_reduces_200 S Q) (fun _ _ _ h => h)
set_option maxRecDepth 8000 in
theorem s_M_reduces_91 {l : Launch} {ad : Nat → Nat} {D : va_G} {cA : Nat → ClassId} {WW : Nat → qP} {QR : Option qA → qS → Prop} (S : qSnd l rm_M_reduces ad D cA R_M b_M_reduces 4 WW) (Q : qRet (none) b_M_reduces WW QR) : qle (k_M_reduces_91 QR WW) WW 91 :=
  S.aload_n d_M_reduces_91 rfl <| S.gA fl_M_147 (by decide) d_M_reduces_92 <| S.iload_n d_M_reduces_95 rfl <| S.iak (by decide) d_M_reduces_96 <| S.if_eq d_M_reduces_97 (by decide) (fun _ _ _ h => h) (s_M_reduces_100 S Q)
set_option maxRecDepth 8000 in
theorem s_M_reduces_85 {l : Launch} {ad : Nat → Nat} {D : va_G} {cA : Nat → ClassId} {WW : Nat → qP} {QR : Option qA → qS → Prop} (S : qSnd l rm_M_reduces ad D cA R_M b_M_reduces 4 WW) (Q : qRet (none) b_M_reduces WW QR) : qle (k_M_reduces_85 QR WW) WW 85 :=
  S.aload_n d_M_reduces_85 rfl <| S.iload_n d_M_reduces_86 rfl <| sc_M_347 S (by decide) d_M_reduces_87 <| Q.2.2.2 rfl _ d_M_reduces_90
set_option maxRecDepth 8000 in
theorem s_M_reduces_68 {l : Launch} {ad : Nat → Nat} {D : va_G} {cA : Nat → ClassId} {WW : Nat → qP} {QR : Option qA → qS → Prop} (S : qSnd l rm_M_reduces ad D cA R_M b_M_reduces 4 WW) (Q : qRet (none) b_M_reduces WW QR) : qle (k_M_reduces_68 QR WW) WW 68 :=
  S.aload_n d_M_reduces_68 rfl <| S.gA fl_M_66 (by decide) d_M_reduces_69 <| S.aload_n d_M_reduces_72 rfl <| S.gA fl_M_144 (by decide) d_M_reduces_73 <| S.iload_n d_M_reduces_76 rfl <| S.iak (by decide) d_M_reduces_77 <| S.iak (by decide) d_M_reduces_78 <| S.istore_n d_M_reduces_79 rfl (by decide) <| S.iload_n d_M_reduces_80 rfl <| S.iconst d_M_reduces_81 (by decide) <| S.icmp_ne d_M_reduces_82 (by decide) (s_M_reduces_91 S Q) (s_M_reduces_85 S Q)
set_option maxRecDepth 8000 in
theorem s_M_reduces_55 {l : Launch} {ad : Nat → Nat} {D : va_G} {cA : Nat → ClassId} {WW : Nat → qP} {QR : Option qA → qS → Prop} (S : qSnd l rm_M_reduces ad D cA R_M b_M_reduces 4 WW) (Q : qRet (none) b_M_reduces WW QR) : qle (k_M_reduces_55 QR WW) WW 55 :=
  S.aload_n d_M_reduces_55 rfl <| S.gA fl_M_144 (by decide) d_M_reduces_56 <| S.iload_n d_M_reduces_59 rfl <| S.iak (by decide) d_M_reduces_60 <| S.aload_n d_M_reduces_61 rfl <| sc_M_329 S (by decide) d_M_reduces_62 <| S.icmp_ge d_M_reduces_65 (by decide) (s_M_reduces_211 S Q) (s_M_reduces_68 S Q)
set_option maxRecDepth 8000 in
theorem s_M_reduces_45 {l : Launch} {ad : Nat → Nat} {D : va_G} {cA : Nat → ClassId} {WW : Nat → qP} {QR : Option qA → qS → Prop} (S : qSnd l rm_M_reduces ad D cA R_M b_M_reduces 4 WW) (Q : qRet (none) b_M_reduces WW QR) : qle (k_M_reduces_45 QR WW) WW 45 :=
  S.aload_n d_M_reduces_45 rfl <| S.gA fl_M_180 (by decide) d_M_reduces_46 <| S.iload_n d_M_reduces_49 rfl <| S.bipush d_M_reduces_50 (by decide) <| S.imul d_M_reduces_52 <| S.iconst d_M_reduces_53 (by decide) <| S.isk (by decide) d_M_reduces_54 <| (fun _ _ _ h => h)
set_option maxRecDepth 8000 in
theorem s_M_reduces_36 {l : Launch} {ad : Nat → Nat} {D : va_G} {cA : Nat → ClassId} {WW : Nat → qP} {QR : Option qA → qS → Prop} (S : qSnd l rm_M_reduces ad D cA R_M b_M_reduces 4 WW) (Q : qRet (none) b_M_reduces WW QR) : qle (k_M_reduces_36 QR WW) WW 36 :=
  S.aload_n d_M_reduces_36 rfl <| S.gA fl_M_144 (by decide) d_M_reduces_37 <| S.iload_n d_M_reduces_40 rfl <| S.iak (by decide) d_M_reduces_41 <| S.if_ne d_M_reduces_42 (by decide) (fun _ _ _ h => h) (s_M_reduces_45 S Q)
set_option maxRecDepth 8000 in
theorem s_M_reduces_23 {l : Launch} {ad : Nat → Nat} {D : va_G} {cA : Nat → ClassId} {WW : Nat → qP} {QR : Option qA → qS → Prop} (S : qSnd l rm_M_reduces ad D cA R_M b_M_reduces 4 WW) (Q : qRet (none) b_M_reduces WW QR) : qle (k_M_reduces_23 QR WW) WW 23 :=
  S.aload_n d_M_reduces_23 rfl <| S.iload_n d_M_reduces_24 rfl <| S.aload_n d_M_reduces_25 rfl <| S.gA fl_M_138 (by decide) d_M_reduces_26 <| S.iload_n d_M_reduces_29 rfl <| S.iak (by decide) d_M_reduces_30 <| S.iconst d_M_reduces_31 (by decide) <| sc_M_372 S (by decide) d_M_reduces_32 <| Q.2.2.2 rfl _ d_M_reduces_35
set_option maxRecDepth 8000 in
theorem s_M_reduces_0 {l : Launch} {ad : Nat → Nat} {D : va_G} {cA : Nat → ClassId} {WW : Nat → qP} {QR : Option qA → qS → Prop} (S : qSnd l rm_M_reduces ad D cA R_M b_M_reduces 4 WW) (Q : qRet (none) b_M_reduces WW QR) : qle (k_M_reduces_0 QR WW) WW 0 :=
  S.aload_n d_M_reduces_0 rfl <| S.gA fl_M_138 (by decide) d_M_reduces_1 <| S.iload_n d_M_reduces_4 rfl <| S.iak (by decide) d_M_reduces_5 <| S.bipush d_M_reduces_6 (by decide) <| S.isub d_M_reduces_8 <| S.istore_n d_M_reduces_9 rfl (by decide) <| S.aload_n d_M_reduces_10 rfl <| S.gA fl_M_81 (by decide) d_M_reduces_11 <| S.iload_n d_M_reduces_14 rfl <| S.iak (by decide) d_M_reduces_15 <| S.aload_n d_M_reduces_16 rfl <| S.gI fl_M_270 (by decide) d_M_reduces_17 <| S.icmp_ne d_M_reduces_20 (by decide) (s_M_reduces_36 S Q) (s_M_reduces_23 S Q)
theorem v_M_reduces_111 {l : Launch} {ad : Nat → Nat} {D : va_G} {cA : Nat → ClassId} {WW : Nat → qP} {QR : Option qA → qS → Prop} (S : qSnd l rm_M_reduces ad D cA R_M b_M_reduces 4 WW) (Q : qRet (none) b_M_reduces WW QR) (w : Int) (σ : qS) (h : P_M_reduces w σ) (hne : σ 40 (σ 62 w - 38) ≠ σ 31 0) (hlt : σ 64 w < spl σ) (hby : σ 33 (σ 64 w) ≠ -1) (hag0 : σ 65 w = 0 ∨ 12 < σ 65 w) (hq : ∀ σ', Q_M_reduces w σ σ' → QR none σ') : WW 111 [] [some (.inr (.inr 900)), some (.inl w), some (.inl (σ 62 w - 38)), some (.inl (σ 33 (σ 64 w)))] σ := by
  refine s_M_reduces_111 S Q _ _ _ ?_
  simp only [k_M_reduces_0, k_M_reduces_23, k_M_reduces_36, k_M_reduces_45, k_M_reduces_55, k_M_reduces_68, k_M_reduces_85, k_M_reduces_91, k_M_reduces_100, k_M_reduces_111, k_M_reduces_176, k_M_reduces_200, k_M_reduces_211, oc_M_done, oc_M_forget, oc_M_splits, oc_M_tell, oc_M_write, o_c, o_il, o_ll, o_al, o_is, o_as, o_ls, o_inc, o_bi, o_bid, o_bl, o_bld, o_sl, o_i2l, o_l2i, o_dup, o_dup2, o_pop, o_pop2, o_if, o_i2, o_l2, swg, o_sw, o_gI, o_gZ, o_gJ, o_gA, o_gR, o_pI, o_pZ, o_pJ, o_pR, o_ia, o_iak, o_zak, o_ja, o_jak, o_is_, o_isk, o_zsk, o_js_, o_jsk, o_len, o_ri, o_rz, o_rl, o_rv, ls1, ls2, lks, lkj, List.getD_cons_zero, List.getD_cons_succ, List.set_cons_zero, List.set_cons_succ, qcat, true_and, and_true, List.map_nil, List.map_cons, List.sum_nil, List.sum_cons, Nat.reduceAdd, Nat.reduceLeDiff, Nat.zero_le, Int.reduceAdd, Int.reduceNeg, Int.reduceEq, or_true, true_or, Decidable.not_not, false_implies, not_false_eq_true, true_implies, not_true_eq_false, Int.reduceLT, Int.reduceLE]
  obtain ⟨hw, ht, hl, hj, hs, hf0, hag, htr, hsm, hwr⟩ := h
  obtain ⟨f1, f2, f3, f4⟩ := hsm hlt
  have e2 : z_add (z_mul w 39) (σ 64 w) = w * 39 + σ 64 w := by unfold z_add z_mul; rw [w32_i (w * 39) (by omega) (by omega), w32_i _ (by omega) (by omega)]
  rw [e2]
  have e4 : z_sub (σ 75 w) (σ 76 (w * 39 + σ 64 w)) = σ 75 w - σ 76 (w * 39 + σ 64 w) := by unfold z_sub; exact w32_i _ (by omega) (by omega)
  rw [e4]
  have sb := spl_b hj
  refine ⟨hw, hw, hw, by omega, hl, fun σ1 q1 => ?_⟩
  have et : σ1 66 = σ 66 := q1.1 _ (by decide)
  have es : σ1 64 = σ 64 := q1.1 _ (by decide)
  simp (disch := omega) only [su_k]
  rw [et, es]
  have e5 : z_add (σ 66 w) 1 = σ 66 w + 1 := by unfold z_add; exact w32_i _ (by omega) (by omega)
  have e6 : z_add 0 1 = 1 := by unfold z_add; exact w32_i _ (by omega) (by omega)
  rw [e5]
  simp only [su_s]
  rw [e6]
  refine ⟨hw, hw, hw, hw, fun n12 => ⟨hw, hw, hq _ (Or.inr (Or.inr (Or.inr (Or.inl ⟨hne, hlt, hby, hag0, σ1, q1, Or.inl ⟨n12, ?_⟩⟩))))⟩, fun e12 => ⟨hw, ?_, fun σ2 q2 => ⟨hw, hw, hw, ?_⟩⟩⟩
  · rw [su_cm (k := 66) (k' := 65) (by decide), su_ow, su_cm (k := 65) (k' := 66) (by decide)]
  · show lok _
    unfold lok; simp (disch := omega) only [su_k]; exact q1.2.1
  · rw [e12] at q2
    have ea : σ2 65 w = 0 := by rw [q2.1 65 (by decide)]; simp (disch := omega) only [su_k]; rw [su_s]
    rw [ea, e6]
    exact hq _ (Or.inr (Or.inr (Or.inr (Or.inl ⟨hne, hlt, hby, hag0, σ1, q1, Or.inr ⟨e12, σ2, q2, rfl⟩⟩))))
theorem v_M_reduces_55 {l : Launch} {ad : Nat → Nat} {D : va_G} {cA : Nat → ClassId} {WW : Nat → qP} {QR : Option qA → qS → Prop} (S : qSnd l rm_M_reduces ad D cA R_M b_M_reduces 4 WW) (Q : qRet (none) b_M_reduces WW QR) (w : Int) (σ : qS) (h : P_M_reduces w σ) (hne : σ 40 (σ 62 w - 38) ≠ σ 31 0) (hq : ∀ σ', Q_M_reduces w σ σ' → QR none σ') : WW 55 [] [some (.inr (.inr 900)), some (.inl w), some (.inl (σ 62 w - 38)), none] σ := by
  refine s_M_reduces_55 S Q _ _ _ ?_
  simp only [k_M_reduces_0, k_M_reduces_23, k_M_reduces_36, k_M_reduces_45, k_M_reduces_55, k_M_reduces_68, k_M_reduces_85, k_M_reduces_91, k_M_reduces_100, k_M_reduces_111, k_M_reduces_176, k_M_reduces_200, k_M_reduces_211, oc_M_done, oc_M_forget, oc_M_splits, oc_M_tell, oc_M_write, o_c, o_il, o_ll, o_al, o_is, o_as, o_ls, o_inc, o_bi, o_bid, o_bl, o_bld, o_sl, o_i2l, o_l2i, o_dup, o_dup2, o_pop, o_pop2, o_if, o_i2, o_l2, swg, o_sw, o_gI, o_gZ, o_gJ, o_gA, o_gR, o_pI, o_pZ, o_pJ, o_pR, o_ia, o_iak, o_zak, o_ja, o_jak, o_is_, o_isk, o_zsk, o_js_, o_jsk, o_len, o_ri, o_rz, o_rl, o_rv, ls1, ls2, lks, lkj, List.getD_cons_zero, List.getD_cons_succ, List.set_cons_zero, List.set_cons_succ, qcat, true_and, and_true, List.map_nil, List.map_cons, List.sum_nil, List.sum_cons, Nat.reduceAdd, Nat.reduceLeDiff, Nat.zero_le, Int.reduceAdd, Int.reduceNeg, Int.reduceEq, or_true, true_or, Decidable.not_not, false_implies, not_false_eq_true, true_implies, not_true_eq_false, Int.reduceLT, Int.reduceLE]
  have hp := h
  obtain ⟨hw, ht, hl, hj, hs, hf0, hag, htr, hsm, hwr⟩ := h
  have e3 : z_add (σ 65 w) 1 = σ 65 w + 1 := by unfold z_add; exact w32_i _ (by omega) (by omega)
  have sb := spl_b hj
  refine ⟨hw, hj, fun r σ1 q1 => ?_⟩
  obtain ⟨e9, rfl⟩ := q1; replace e9 := e9.symm; subst e9
  rw [e3]
  refine ⟨fun hge => ⟨⟨hw, by omega, hl, hj, hwr hge⟩, fun σ' q => hq _ (Or.inr (Or.inr (Or.inr (Or.inr ⟨hne, hge, q⟩))))⟩, fun hlt => ⟨hw, by omega, fun hby => ⟨hw, fun e0 => v_M_reduces_111 S Q w σ hp hne (by omega) hby (Or.inl e0) hq, fun n0 => ⟨hw, fun h12 => ⟨hw, hw, hq _ (Or.inr (Or.inr (Or.inl ⟨hne, by omega, hby, ⟨n0, h12⟩, rfl⟩)))⟩, fun h12 => v_M_reduces_111 S Q w σ hp hne (by omega) hby (Or.inr (by omega)) hq⟩⟩, fun hby => ⟨hw, fun σ' q => hq _ (Or.inr (Or.inl ⟨hne, by omega, hby, q⟩))⟩⟩⟩
theorem w_M_reduces {l : Launch} {ad : Nat → Nat} {D : va_G} {cA : Nat → ClassId} {WW : Nat → qP} {QR : Option qA → qS → Prop} (S : qSnd l rm_M_reduces ad D cA R_M b_M_reduces 4 WW) (Q : qRet (none) b_M_reduces WW QR) (a1 : Int) (σ : qS) (ha1 : r32 a1) (hσ : qoS σ) (h : P_M_reduces a1 σ) (hq : ∀ σ', Q_M_reduces a1 σ σ' → QR none σ') : WW 0 [] [some (.inr (.inr 900)), some (.inl a1), none, none] σ := by
  refine s_M_reduces_0 S Q _ _ _ ?_
  simp only [k_M_reduces_0, k_M_reduces_23, k_M_reduces_36, k_M_reduces_45, k_M_reduces_55, k_M_reduces_68, k_M_reduces_85, k_M_reduces_91, k_M_reduces_100, k_M_reduces_111, k_M_reduces_176, k_M_reduces_200, k_M_reduces_211, oc_M_done, oc_M_forget, oc_M_splits, oc_M_tell, oc_M_write, o_c, o_il, o_ll, o_al, o_is, o_as, o_ls, o_inc, o_bi, o_bid, o_bl, o_bld, o_sl, o_i2l, o_l2i, o_dup, o_dup2, o_pop, o_pop2, o_if, o_i2, o_l2, swg, o_sw, o_gI, o_gZ, o_gJ, o_gA, o_gR, o_pI, o_pZ, o_pJ, o_pR, o_ia, o_iak, o_zak, o_ja, o_jak, o_is_, o_isk, o_zsk, o_js_, o_jsk, o_len, o_ri, o_rz, o_rl, o_rv, ls1, ls2, lks, lkj, List.getD_cons_zero, List.getD_cons_succ, List.set_cons_zero, List.set_cons_succ, qcat, true_and, and_true, List.map_nil, List.map_cons, List.sum_nil, List.sum_cons, Nat.reduceAdd, Nat.reduceLeDiff, Nat.zero_le, Int.reduceAdd, Int.reduceNeg, Int.reduceEq, or_true, true_or, Decidable.not_not, false_implies, not_false_eq_true, true_implies, not_true_eq_false, Int.reduceLT, Int.reduceLE]
  have hp := h
  obtain ⟨hw, ht, hl, hj, hs, hf0, hag, htr, hsm, hwr⟩ := h
  have e1 : z_sub (σ 62 a1) 38 = σ 62 a1 - 38 := by unfold z_sub; exact w32_i _ (by omega) (by omega)
  have e2 : z_mul a1 39 = a1 * 39 := by unfold z_mul; exact w32_i _ (by omega) (by omega)
  rw [e1, e2]
  refine ⟨hw, by omega, fun hne => ⟨hw, fun _ => v_M_reduces_55 S Q a1 σ hp hne hq, fun _ => ⟨by omega, ?_⟩⟩, fun he => ⟨hw, ⟨hl, hw⟩, fun σ' q => hq _ (Or.inl ⟨he, q⟩)⟩⟩
  rw [su_id hf0]
  exact v_M_reduces_55 S Q a1 σ hp hne hq
theorem c_M_reduces (l : Launch) (ad : Nat → Nat) (D : va_G) (cA : Nat → ClassId) : qC l ad D cA y_M_reduces (Cond.code y_M_reduces b_M_reduces 4 (none) :: lw_g) rm_M_reduces pre_M_reduces post_M_reduces := by
  refine qC_of (own := R_M) (by decide) rfl ⟨rfl, rfl⟩ ?_ ?_
  · intro av σ h; unfold pre_M_reduces at h; split at h
    · simp [qen]
    · exact h.elim
  · intro WW QR S Q av σ hav hσ h hq; unfold pre_M_reduces at h; split at h
    next o a1 =>
      obtain ⟨rfl, h⟩ := h
      exact w_M_reduces S Q a1 σ (hav _ (List.mem_of_getElem? (i := 1) rfl)) hσ h (fun σ' h' => hq _ σ' h')
    next => exact h.elim
def wk0 (σ : qS) (w : Int) : qS := if σ 61 w = 0 then su (fgt σ w) 61 w 1 else σ
def wk1 (σ : qS) (w : Int) : qS := if rnw (wk0 σ w) w 62 w ≠ -1 ∧ rnw (wk0 σ w) w 63 w ≠ rnw (wk0 σ w) w 31 0 then fgt (rnw (wk0 σ w) w) w else rnw (wk0 σ w) w
def Ltr (w : Int) (σ σ' : qS) : Prop := ∃ r σ1, Q_M_opens w σ r σ1 ∧ ((r = 0 ∧ σ' = σ1) ∨ (r ≠ 0 ∧ Q_M_reads w σ1 σ'))
def Lpr (w : Int) (σ : qS) : Prop := lok σ ∧ ∀ r σ1, Q_M_opens w σ r σ1 → r ≠ 0 → P_M_reads w σ1
def wkP (w : Int) (σ : qS) : Prop := -1 ≤ σ 62 w ∧ (σ 62 w = -1 → P_M_asks w σ) ∧ (0 ≤ σ 62 w → σ 62 w < 38 → P_M_maps w σ) ∧ (38 ≤ σ 62 w → P_M_reduces w σ)
def wkQ (w : Int) (σ σ' : qS) : Prop := (σ 62 w = -1 ∧ Q_M_asks w σ σ') ∨ (σ 62 w ≠ -1 ∧ σ 62 w < 38 ∧ Q_M_maps w σ σ') ∨ (38 ≤ σ 62 w ∧ Q_M_reduces w σ σ')
def P_M_worker (w : Int) (σ : qS) : Prop := (0 ≤ w ∧ w < 6) ∧ Lpr w (wk1 σ w) ∧ ∀ σ1, Ltr w (wk1 σ w) σ1 → Lpr w σ1 ∧ ∀ σ2, Ltr w σ1 σ2 → Lpr w σ2 ∧ ∀ σ3, Ltr w σ2 σ3 → wkP w σ3
def Q_M_worker (w : Int) (σ σ' : qS) : Prop := ∃ σ1 σ2 σ3, Ltr w (wk1 σ w) σ1 ∧ Ltr w σ1 σ2 ∧ Ltr w σ2 σ3 ∧ wkQ w σ3 σ'
def pre_M_worker (av : List qA) (σ : qS) : Prop := match av with
  | [.inr (.inr o), .inl a1] => o = 900 ∧ P_M_worker a1 σ
  | _ => False
def post_M_worker (av : List qA) (σ : qS) (r : Option qA) (σ' : qS) : Prop := match av, r with
  | [_, .inl a1], none => Q_M_worker a1 σ σ'
  | _, _ => False
def oc_M_worker (K : qP) : qP := fun st ls σ => match st with
  | .inl a1 :: .inr (.inr o) :: st => o = 900 ∧ (st.map qcat).sum ≤ 8 ∧ P_M_worker a1 σ ∧ ∀ (σ' : qS), Q_M_worker a1 σ σ' → K st ls σ'
  | _ => False
def rm_M_worker : Room := { frames := 7, cells := 0, slots := 0, locals := 177 }
theorem fl_M_135 : qF R_M 900 0 82 0 R_M F_M 135 61 := ⟨Or.inl ⟨rfl, rfl, rfl, rfl, rfl, rfl⟩, by decide, lw_at 139 (by decide +kernel) rfl⟩
theorem sc_M_356 {l : Launch} {R : Room} {ad : Nat → Nat} {D : va_G} {cA : Nat → ClassId} {cc : ByteArray} {nL : Nat} {WW : Nat → qP} (S : qSnd l R ad D cA R_M cc nL WW) (hR : rm_M_asks.frames + 1 ≤ R.frames ∧ 8 + (2 + 11) + rm_M_asks.locals ≤ R.locals) {K : qP} {pc : Nat} (d : decode cc pc = .ok (.invokevirtual 356, 3)) (h : qle K WW (pc + 3)) : qle (oc_M_asks K) WW pc := by
  intro st ls σ k
  refine S.callV (o := 900) (ci := 0) (N := 82) (base := 0) (C := R_M) (T := F_M) (n := 1) (pre := pre_M_asks) (post := post_M_asks) (Or.inl ⟨rfl, rfl, rfl, rfl, rfl, rfl⟩) ⟨lw_at 656 (by decide +kernel) rfl, lw_at 653 (by decide +kernel) rfl, lw_at 59 (by decide +kernel) rfl, by decide, by decide, by decide +kernel⟩ ⟨lw_at 655 (by decide +kernel) rfl, lw_at 32 (by decide +kernel) rfl⟩ ⟨rfl, rfl⟩ hR (c_M_asks l ad D cA) ?_ d h st ls σ ?_
  · intro av σ h; unfold pre_M_asks at h; split at h
    · obtain ⟨rfl, h⟩ := h; exact ⟨_, rfl⟩
    · exact h.elim
  · unfold oc_M_asks at k
    split at k
    next a1 o st =>
      obtain ⟨rfl, hs, hp, k⟩ := k
      refine ⟨[.inr (.inr 900), .inl a1], st, rfl, rfl, hs, ⟨rfl, hp⟩, fun r σ' hq => ?_⟩
      unfold post_M_asks at hq
      split at hq
      next h1 =>
        cases h1
        exact k _ hq
      next => exact hq.elim
    next => exact k.elim
theorem sc_M_359 {l : Launch} {R : Room} {ad : Nat → Nat} {D : va_G} {cA : Nat → ClassId} {cc : ByteArray} {nL : Nat} {WW : Nat → qP} (S : qSnd l R ad D cA R_M cc nL WW) (hR : rm_M_maps.frames + 1 ≤ R.frames ∧ 8 + (7 + 11) + rm_M_maps.locals ≤ R.locals) {K : qP} {pc : Nat} (d : decode cc pc = .ok (.invokevirtual 359, 3)) (h : qle K WW (pc + 3)) : qle (oc_M_maps K) WW pc := by
  intro st ls σ k
  refine S.callV (o := 900) (ci := 0) (N := 82) (base := 0) (C := R_M) (T := F_M) (n := 1) (pre := pre_M_maps) (post := post_M_maps) (Or.inl ⟨rfl, rfl, rfl, rfl, rfl, rfl⟩) ⟨lw_at 660 (by decide +kernel) rfl, lw_at 657 (by decide +kernel) rfl, lw_at 59 (by decide +kernel) rfl, by decide, by decide, by decide +kernel⟩ ⟨lw_at 659 (by decide +kernel) rfl, lw_at 33 (by decide +kernel) rfl⟩ ⟨rfl, rfl⟩ hR (c_M_maps l ad D cA) ?_ d h st ls σ ?_
  · intro av σ h; unfold pre_M_maps at h; split at h
    · obtain ⟨rfl, h⟩ := h; exact ⟨_, rfl⟩
    · exact h.elim
  · unfold oc_M_maps at k
    split at k
    next a1 o st =>
      obtain ⟨rfl, hs, hp, k⟩ := k
      refine ⟨[.inr (.inr 900), .inl a1], st, rfl, rfl, hs, ⟨rfl, hp⟩, fun r σ' hq => ?_⟩
      unfold post_M_maps at hq
      split at hq
      next h1 =>
        cases h1
        exact k _ hq
      next => exact hq.elim
    next => exact k.elim
theorem sc_M_308 {l : Launch} {R : Room} {ad : Nat → Nat} {D : va_G} {cA : Nat → ClassId} {cc : ByteArray} {nL : Nat} {WW : Nat → qP} (S : qSnd l R ad D cA R_M cc nL WW) (hR : rm_M_opens.frames + 1 ≤ R.frames ∧ 8 + (4 + 11) + rm_M_opens.locals ≤ R.locals) {K : qP} {pc : Nat} (d : decode cc pc = .ok (.invokevirtual 308, 3)) (h : qle K WW (pc + 3)) : qle (oc_M_opens K) WW pc := by
  intro st ls σ k
  refine S.callV (o := 900) (ci := 0) (N := 82) (base := 0) (C := R_M) (T := F_M) (n := 1) (pre := pre_M_opens) (post := post_M_opens) (Or.inl ⟨rfl, rfl, rfl, rfl, rfl, rfl⟩) ⟨lw_at 572 (by decide +kernel) rfl, lw_at 569 (by decide +kernel) rfl, lw_at 59 (by decide +kernel) rfl, by decide, by decide, by decide +kernel⟩ ⟨lw_at 571 (by decide +kernel) rfl, lw_at 11 (by decide +kernel) rfl⟩ ⟨rfl, rfl⟩ hR (c_M_opens l ad D cA) ?_ d h st ls σ ?_
  · intro av σ h; unfold pre_M_opens at h; split at h
    · obtain ⟨rfl, h⟩ := h; exact ⟨_, rfl⟩
    · exact h.elim
  · unfold oc_M_opens at k
    split at k
    next a1 o st =>
      obtain ⟨rfl, hs, hp, k⟩ := k
      refine ⟨[.inr (.inr 900), .inl a1], st, rfl, rfl, hs, ⟨rfl, hp⟩, fun r σ' hq => ?_⟩
      unfold post_M_opens at hq
      split at hq
      next h1 =>
        cases h1
        exact k _ _ hq
      next => exact hq.elim
    next => exact k.elim
theorem sc_M_353 {l : Launch} {R : Room} {ad : Nat → Nat} {D : va_G} {cA : Nat → ClassId} {cc : ByteArray} {nL : Nat} {WW : Nat → qP} (S : qSnd l R ad D cA R_M cc nL WW) (hR : rm_M_reads.frames + 1 ≤ R.frames ∧ 8 + (3 + 11) + rm_M_reads.locals ≤ R.locals) {K : qP} {pc : Nat} (d : decode cc pc = .ok (.invokevirtual 353, 3)) (h : qle K WW (pc + 3)) : qle (oc_M_reads K) WW pc := by
  intro st ls σ k
  refine S.callV (o := 900) (ci := 0) (N := 82) (base := 0) (C := R_M) (T := F_M) (n := 1) (pre := pre_M_reads) (post := post_M_reads) (Or.inl ⟨rfl, rfl, rfl, rfl, rfl, rfl⟩) ⟨lw_at 640 (by decide +kernel) rfl, lw_at 637 (by decide +kernel) rfl, lw_at 59 (by decide +kernel) rfl, by decide, by decide, by decide +kernel⟩ ⟨lw_at 639 (by decide +kernel) rfl, lw_at 28 (by decide +kernel) rfl⟩ ⟨rfl, rfl⟩ hR (c_M_reads l ad D cA) ?_ d h st ls σ ?_
  · intro av σ h; unfold pre_M_reads at h; split at h
    · obtain ⟨rfl, h⟩ := h; exact ⟨_, rfl⟩
    · exact h.elim
  · unfold oc_M_reads at k
    split at k
    next a1 o st =>
      obtain ⟨rfl, hs, hp, k⟩ := k
      refine ⟨[.inr (.inr 900), .inl a1], st, rfl, rfl, hs, ⟨rfl, hp⟩, fun r σ' hq => ?_⟩
      unfold post_M_reads at hq
      split at hq
      next h1 =>
        cases h1
        exact k _ hq
      next => exact hq.elim
    next => exact k.elim
theorem sc_M_362 {l : Launch} {R : Room} {ad : Nat → Nat} {D : va_G} {cA : Nat → ClassId} {cc : ByteArray} {nL : Nat} {WW : Nat → qP} (S : qSnd l R ad D cA R_M cc nL WW) (hR : rm_M_reduces.frames + 1 ≤ R.frames ∧ 8 + (4 + 11) + rm_M_reduces.locals ≤ R.locals) {K : qP} {pc : Nat} (d : decode cc pc = .ok (.invokevirtual 362, 3)) (h : qle K WW (pc + 3)) : qle (oc_M_reduces K) WW pc := by
  intro st ls σ k
  refine S.callV (o := 900) (ci := 0) (N := 82) (base := 0) (C := R_M) (T := F_M) (n := 1) (pre := pre_M_reduces) (post := post_M_reduces) (Or.inl ⟨rfl, rfl, rfl, rfl, rfl, rfl⟩) ⟨lw_at 728 (by decide +kernel) rfl, lw_at 725 (by decide +kernel) rfl, lw_at 59 (by decide +kernel) rfl, by decide, by decide, by decide +kernel⟩ ⟨lw_at 727 (by decide +kernel) rfl, lw_at 50 (by decide +kernel) rfl⟩ ⟨rfl, rfl⟩ hR (c_M_reduces l ad D cA) ?_ d h st ls σ ?_
  · intro av σ h; unfold pre_M_reduces at h; split at h
    · obtain ⟨rfl, h⟩ := h; exact ⟨_, rfl⟩
    · exact h.elim
  · unfold oc_M_reduces at k
    split at k
    next a1 o st =>
      obtain ⟨rfl, hs, hp, k⟩ := k
      refine ⟨[.inr (.inr 900), .inl a1], st, rfl, rfl, hs, ⟨rfl, hp⟩, fun r σ' hq => ?_⟩
      unfold post_M_reduces at hq
      split at hq
      next h1 =>
        cases h1
        exact k _ hq
      next => exact hq.elim
    next => exact k.elim
theorem sc_M_350 {l : Launch} {R : Room} {ad : Nat → Nat} {D : va_G} {cA : Nat → ClassId} {cc : ByteArray} {nL : Nat} {WW : Nat → qP} (S : qSnd l R ad D cA R_M cc nL WW) (hR : rm_M_renew.frames + 1 ≤ R.frames ∧ 8 + (3 + 11) + rm_M_renew.locals ≤ R.locals) {K : qP} {pc : Nat} (d : decode cc pc = .ok (.invokevirtual 350, 3)) (h : qle K WW (pc + 3)) : qle (oc_M_renew K) WW pc := by
  intro st ls σ k
  refine S.callV (o := 900) (ci := 0) (N := 82) (base := 0) (C := R_M) (T := F_M) (n := 1) (pre := pre_M_renew) (post := post_M_renew) (Or.inl ⟨rfl, rfl, rfl, rfl, rfl, rfl⟩) ⟨lw_at 636 (by decide +kernel) rfl, lw_at 633 (by decide +kernel) rfl, lw_at 59 (by decide +kernel) rfl, by decide, by decide, by decide +kernel⟩ ⟨lw_at 635 (by decide +kernel) rfl, lw_at 27 (by decide +kernel) rfl⟩ ⟨rfl, rfl⟩ hR (c_M_renew l ad D cA) ?_ d h st ls σ ?_
  · intro av σ h; unfold pre_M_renew at h; split at h
    · obtain ⟨rfl, h⟩ := h; exact ⟨_, rfl⟩
    · exact h.elim
  · unfold oc_M_renew at k
    split at k
    next a1 o st =>
      obtain ⟨rfl, hs, hp, k⟩ := k
      refine ⟨[.inr (.inr 900), .inl a1], st, rfl, rfl, hs, ⟨rfl, hp⟩, fun r σ' hq => ?_⟩
      unfold post_M_renew at hq
      split at hq
      next h1 =>
        cases h1
        exact k _ hq
      next => exact hq.elim
    next => exact k.elim
def k_M_worker_122 (QR : Option qA → qS → Prop) (H : Nat → qP) : qP :=
  o_rv QR
def k_M_worker_117 (QR : Option qA → qS → Prop) (H : Nat → qP) : qP :=
  o_al 0 <| o_il 1 <| oc_M_reduces <| k_M_worker_122 QR H
def k_M_worker_109 (QR : Option qA → qS → Prop) (H : Nat → qP) : qP :=
  o_al 0 <| o_il 1 <| oc_M_maps <| k_M_worker_122 QR H
def k_M_worker_98 (QR : Option qA → qS → Prop) (H : Nat → qP) : qP :=
  o_al 0 <| o_gA 900 62 <| o_il 1 <| o_iak 62 6 <| o_c (.inl 38) <| o_i2 (fun a b => b ≤ a) (k_M_worker_117 QR H) (k_M_worker_109 QR H)
def k_M_worker_90 (QR : Option qA → qS → Prop) (H : Nat → qP) : qP :=
  o_al 0 <| o_il 1 <| oc_M_asks <| k_M_worker_122 QR H
def k_M_worker_80 (QR : Option qA → qS → Prop) (H : Nat → qP) : qP :=
  o_al 0 <| o_gA 900 62 <| o_il 1 <| o_iak 62 6 <| o_c (.inl (-1)) <| o_i2 (fun a b => ¬ a = b) (k_M_worker_98 QR H) (k_M_worker_90 QR H)
def k_M_worker_74 (QR : Option qA → qS → Prop) (H : Nat → qP) : qP :=
  o_inc 2 1 <| H 56
def k_M_worker_69 (QR : Option qA → qS → Prop) (H : Nat → qP) : qP :=
  o_al 0 <| o_il 1 <| oc_M_reads <| k_M_worker_74 QR H
def k_M_worker_61 (QR : Option qA → qS → Prop) (H : Nat → qP) : qP :=
  o_al 0 <| o_il 1 <| oc_M_opens <| o_if (fun a => a = 0) (k_M_worker_74 QR H) (k_M_worker_69 QR H)
def k_M_worker_56 (QR : Option qA → qS → Prop) (H : Nat → qP) : qP :=
  o_il 2 <| o_c (.inl 3) <| o_i2 (fun a b => b ≤ a) (k_M_worker_80 QR H) (k_M_worker_61 QR H)
def k_M_worker_54 (QR : Option qA → qS → Prop) (H : Nat → qP) : qP :=
  o_c (.inl 0) <| o_is 2 <| H 56
def k_M_worker_49 (QR : Option qA → qS → Prop) (H : Nat → qP) : qP :=
  o_al 0 <| o_il 1 <| oc_M_forget <| H 54
def k_M_worker_36 (QR : Option qA → qS → Prop) (H : Nat → qP) : qP :=
  o_al 0 <| o_gA 900 63 <| o_il 1 <| o_iak 63 6 <| o_al 0 <| o_gI 900 31 <| o_i2 (fun a b => a = b) (H 54) (k_M_worker_49 QR H)
def k_M_worker_21 (QR : Option qA → qS → Prop) (H : Nat → qP) : qP :=
  o_al 0 <| o_il 1 <| oc_M_renew <| o_al 0 <| o_gA 900 62 <| o_il 1 <| o_iak 62 6 <| o_c (.inl (-1)) <| o_i2 (fun a b => a = b) (H 54) (k_M_worker_36 QR H)
def k_M_worker_9 (QR : Option qA → qS → Prop) (H : Nat → qP) : qP :=
  o_al 0 <| o_il 1 <| oc_M_forget <| o_al 0 <| o_gA 900 61 <| o_il 1 <| o_c (.inl 1) <| o_zsk 61 6 <| k_M_worker_21 QR H
def k_M_worker_0 (QR : Option qA → qS → Prop) (H : Nat → qP) : qP :=
  o_al 0 <| o_gA 900 61 <| o_il 1 <| o_zak 61 6 <| o_if (fun a => ¬ a = 0) (k_M_worker_21 QR H) (k_M_worker_9 QR H)
set_option maxRecDepth 8000 in
theorem s_M_worker_122 {l : Launch} {ad : Nat → Nat} {D : va_G} {cA : Nat → ClassId} {WW : Nat → qP} {QR : Option qA → qS → Prop} (S : qSnd l rm_M_worker ad D cA R_M b_M_worker 3 WW) (Q : qRet (none) b_M_worker WW QR) : qle (k_M_worker_122 QR WW) WW 122 :=
  Q.2.2.2 rfl _ d_M_worker_122
set_option maxRecDepth 8000 in
theorem s_M_worker_117 {l : Launch} {ad : Nat → Nat} {D : va_G} {cA : Nat → ClassId} {WW : Nat → qP} {QR : Option qA → qS → Prop} (S : qSnd l rm_M_worker ad D cA R_M b_M_worker 3 WW) (Q : qRet (none) b_M_worker WW QR) : qle (k_M_worker_117 QR WW) WW 117 :=
  S.aload_n d_M_worker_117 rfl <| S.iload_n d_M_worker_118 rfl <| sc_M_362 S (by decide) d_M_worker_119 <| (s_M_worker_122 S Q)
set_option maxRecDepth 8000 in
theorem s_M_worker_109 {l : Launch} {ad : Nat → Nat} {D : va_G} {cA : Nat → ClassId} {WW : Nat → qP} {QR : Option qA → qS → Prop} (S : qSnd l rm_M_worker ad D cA R_M b_M_worker 3 WW) (Q : qRet (none) b_M_worker WW QR) : qle (k_M_worker_109 QR WW) WW 109 :=
  S.aload_n d_M_worker_109 rfl <| S.iload_n d_M_worker_110 rfl <| sc_M_359 S (by decide) d_M_worker_111 <| S.goto d_M_worker_114 (by decide) (s_M_worker_122 S Q)
set_option maxRecDepth 8000 in
theorem s_M_worker_98 {l : Launch} {ad : Nat → Nat} {D : va_G} {cA : Nat → ClassId} {WW : Nat → qP} {QR : Option qA → qS → Prop} (S : qSnd l rm_M_worker ad D cA R_M b_M_worker 3 WW) (Q : qRet (none) b_M_worker WW QR) : qle (k_M_worker_98 QR WW) WW 98 :=
  S.aload_n d_M_worker_98 rfl <| S.gA fl_M_138 (by decide) d_M_worker_99 <| S.iload_n d_M_worker_102 rfl <| S.iak (by decide) d_M_worker_103 <| S.bipush d_M_worker_104 (by decide) <| S.icmp_ge d_M_worker_106 (by decide) (s_M_worker_117 S Q) (s_M_worker_109 S Q)
set_option maxRecDepth 8000 in
theorem s_M_worker_90 {l : Launch} {ad : Nat → Nat} {D : va_G} {cA : Nat → ClassId} {WW : Nat → qP} {QR : Option qA → qS → Prop} (S : qSnd l rm_M_worker ad D cA R_M b_M_worker 3 WW) (Q : qRet (none) b_M_worker WW QR) : qle (k_M_worker_90 QR WW) WW 90 :=
  S.aload_n d_M_worker_90 rfl <| S.iload_n d_M_worker_91 rfl <| sc_M_356 S (by decide) d_M_worker_92 <| S.goto d_M_worker_95 (by decide) (s_M_worker_122 S Q)
set_option maxRecDepth 8000 in
theorem s_M_worker_80 {l : Launch} {ad : Nat → Nat} {D : va_G} {cA : Nat → ClassId} {WW : Nat → qP} {QR : Option qA → qS → Prop} (S : qSnd l rm_M_worker ad D cA R_M b_M_worker 3 WW) (Q : qRet (none) b_M_worker WW QR) : qle (k_M_worker_80 QR WW) WW 80 :=
  S.aload_n d_M_worker_80 rfl <| S.gA fl_M_138 (by decide) d_M_worker_81 <| S.iload_n d_M_worker_84 rfl <| S.iak (by decide) d_M_worker_85 <| S.iconst d_M_worker_86 (by decide) <| S.icmp_ne d_M_worker_87 (by decide) (s_M_worker_98 S Q) (s_M_worker_90 S Q)
set_option maxRecDepth 8000 in
theorem s_M_worker_74 {l : Launch} {ad : Nat → Nat} {D : va_G} {cA : Nat → ClassId} {WW : Nat → qP} {QR : Option qA → qS → Prop} (S : qSnd l rm_M_worker ad D cA R_M b_M_worker 3 WW) (Q : qRet (none) b_M_worker WW QR) : qle (k_M_worker_74 QR WW) WW 74 :=
  S.iinc d_M_worker_74 (by decide) <| S.goto d_M_worker_77 (by decide) (fun _ _ _ h => h)
set_option maxRecDepth 8000 in
theorem s_M_worker_69 {l : Launch} {ad : Nat → Nat} {D : va_G} {cA : Nat → ClassId} {WW : Nat → qP} {QR : Option qA → qS → Prop} (S : qSnd l rm_M_worker ad D cA R_M b_M_worker 3 WW) (Q : qRet (none) b_M_worker WW QR) : qle (k_M_worker_69 QR WW) WW 69 :=
  S.aload_n d_M_worker_69 rfl <| S.iload_n d_M_worker_70 rfl <| sc_M_353 S (by decide) d_M_worker_71 <| (s_M_worker_74 S Q)
set_option maxRecDepth 8000 in
theorem s_M_worker_61 {l : Launch} {ad : Nat → Nat} {D : va_G} {cA : Nat → ClassId} {WW : Nat → qP} {QR : Option qA → qS → Prop} (S : qSnd l rm_M_worker ad D cA R_M b_M_worker 3 WW) (Q : qRet (none) b_M_worker WW QR) : qle (k_M_worker_61 QR WW) WW 61 :=
  S.aload_n d_M_worker_61 rfl <| S.iload_n d_M_worker_62 rfl <| sc_M_308 S (by decide) d_M_worker_63 <| S.if_eq d_M_worker_66 (by decide) (s_M_worker_74 S Q) (s_M_worker_69 S Q)
set_option maxRecDepth 8000 in
theorem s_M_worker_56 {l : Launch} {ad : Nat → Nat} {D : va_G} {cA : Nat → ClassId} {WW : Nat → qP} {QR : Option qA → qS → Prop} (S : qSnd l rm_M_worker ad D cA R_M b_M_worker 3 WW) (Q : qRet (none) b_M_worker WW QR) : qle (k_M_worker_56 QR WW) WW 56 :=
  S.iload_n d_M_worker_56 rfl <| S.iconst d_M_worker_57 (by decide) <| S.icmp_ge d_M_worker_58 (by decide) (s_M_worker_80 S Q) (s_M_worker_61 S Q)
set_option maxRecDepth 8000 in
theorem s_M_worker_54 {l : Launch} {ad : Nat → Nat} {D : va_G} {cA : Nat → ClassId} {WW : Nat → qP} {QR : Option qA → qS → Prop} (S : qSnd l rm_M_worker ad D cA R_M b_M_worker 3 WW) (Q : qRet (none) b_M_worker WW QR) : qle (k_M_worker_54 QR WW) WW 54 :=
  S.iconst d_M_worker_54 (by decide) <| S.istore_n d_M_worker_55 rfl (by decide) <| (fun _ _ _ h => h)
set_option maxRecDepth 8000 in
theorem s_M_worker_49 {l : Launch} {ad : Nat → Nat} {D : va_G} {cA : Nat → ClassId} {WW : Nat → qP} {QR : Option qA → qS → Prop} (S : qSnd l rm_M_worker ad D cA R_M b_M_worker 3 WW) (Q : qRet (none) b_M_worker WW QR) : qle (k_M_worker_49 QR WW) WW 49 :=
  S.aload_n d_M_worker_49 rfl <| S.iload_n d_M_worker_50 rfl <| sc_M_347 S (by decide) d_M_worker_51 <| (fun _ _ _ h => h)
set_option maxRecDepth 8000 in
theorem s_M_worker_36 {l : Launch} {ad : Nat → Nat} {D : va_G} {cA : Nat → ClassId} {WW : Nat → qP} {QR : Option qA → qS → Prop} (S : qSnd l rm_M_worker ad D cA R_M b_M_worker 3 WW) (Q : qRet (none) b_M_worker WW QR) : qle (k_M_worker_36 QR WW) WW 36 :=
  S.aload_n d_M_worker_36 rfl <| S.gA fl_M_141 (by decide) d_M_worker_37 <| S.iload_n d_M_worker_40 rfl <| S.iak (by decide) d_M_worker_41 <| S.aload_n d_M_worker_42 rfl <| S.gI fl_M_270 (by decide) d_M_worker_43 <| S.icmp_eq d_M_worker_46 (by decide) (fun _ _ _ h => h) (s_M_worker_49 S Q)
set_option maxRecDepth 8000 in
theorem s_M_worker_21 {l : Launch} {ad : Nat → Nat} {D : va_G} {cA : Nat → ClassId} {WW : Nat → qP} {QR : Option qA → qS → Prop} (S : qSnd l rm_M_worker ad D cA R_M b_M_worker 3 WW) (Q : qRet (none) b_M_worker WW QR) : qle (k_M_worker_21 QR WW) WW 21 :=
  S.aload_n d_M_worker_21 rfl <| S.iload_n d_M_worker_22 rfl <| sc_M_350 S (by decide) d_M_worker_23 <| S.aload_n d_M_worker_26 rfl <| S.gA fl_M_138 (by decide) d_M_worker_27 <| S.iload_n d_M_worker_30 rfl <| S.iak (by decide) d_M_worker_31 <| S.iconst d_M_worker_32 (by decide) <| S.icmp_eq d_M_worker_33 (by decide) (fun _ _ _ h => h) (s_M_worker_36 S Q)
set_option maxRecDepth 8000 in
theorem s_M_worker_9 {l : Launch} {ad : Nat → Nat} {D : va_G} {cA : Nat → ClassId} {WW : Nat → qP} {QR : Option qA → qS → Prop} (S : qSnd l rm_M_worker ad D cA R_M b_M_worker 3 WW) (Q : qRet (none) b_M_worker WW QR) : qle (k_M_worker_9 QR WW) WW 9 :=
  S.aload_n d_M_worker_9 rfl <| S.iload_n d_M_worker_10 rfl <| sc_M_347 S (by decide) d_M_worker_11 <| S.aload_n d_M_worker_14 rfl <| S.gA fl_M_135 (by decide) d_M_worker_15 <| S.iload_n d_M_worker_18 rfl <| S.iconst d_M_worker_19 (by decide) <| S.zast (by decide) d_M_worker_20 <| (s_M_worker_21 S Q)
set_option maxRecDepth 8000 in
theorem s_M_worker_0 {l : Launch} {ad : Nat → Nat} {D : va_G} {cA : Nat → ClassId} {WW : Nat → qP} {QR : Option qA → qS → Prop} (S : qSnd l rm_M_worker ad D cA R_M b_M_worker 3 WW) (Q : qRet (none) b_M_worker WW QR) : qle (k_M_worker_0 QR WW) WW 0 :=
  S.aload_n d_M_worker_0 rfl <| S.gA fl_M_135 (by decide) d_M_worker_1 <| S.iload_n d_M_worker_4 rfl <| S.zak (by decide) d_M_worker_5 <| S.if_ne d_M_worker_6 (by decide) (s_M_worker_21 S Q) (s_M_worker_9 S Q)
theorem v_M_worker_80 {l : Launch} {ad : Nat → Nat} {D : va_G} {cA : Nat → ClassId} {WW : Nat → qP} {QR : Option qA → qS → Prop} (S : qSnd l rm_M_worker ad D cA R_M b_M_worker 3 WW) (Q : qRet (none) b_M_worker WW QR) (w : Int) (σ : qS) (hw : 0 ≤ w ∧ w < 6) (h : wkP w σ) (hq : ∀ σ', wkQ w σ σ' → QR none σ') : WW 56 [] [some (.inr (.inr 900)), some (.inl w), some (.inl 3)] σ := by
  refine s_M_worker_56 S Q _ _ _ ?_
  simp only [k_M_worker_0, k_M_worker_9, k_M_worker_21, k_M_worker_36, k_M_worker_49, k_M_worker_54, k_M_worker_56, k_M_worker_61, k_M_worker_69, k_M_worker_74, k_M_worker_80, k_M_worker_90, k_M_worker_98, k_M_worker_109, k_M_worker_117, k_M_worker_122, oc_M_asks, oc_M_forget, oc_M_maps, oc_M_opens, oc_M_reads, oc_M_reduces, oc_M_renew, o_c, o_il, o_ll, o_al, o_is, o_as, o_ls, o_inc, o_bi, o_bid, o_bl, o_bld, o_sl, o_i2l, o_l2i, o_dup, o_dup2, o_pop, o_pop2, o_if, o_i2, o_l2, swg, o_sw, o_gI, o_gZ, o_gJ, o_gA, o_gR, o_pI, o_pZ, o_pJ, o_pR, o_ia, o_iak, o_zak, o_ja, o_jak, o_is_, o_isk, o_zsk, o_js_, o_jsk, o_len, o_ri, o_rz, o_rl, o_rv, ls1, ls2, lks, lkj, List.getD_cons_zero, List.getD_cons_succ, List.set_cons_zero, List.set_cons_succ, qcat, true_and, and_true, List.map_nil, List.map_cons, List.sum_nil, List.sum_cons, Nat.reduceAdd, Nat.reduceLeDiff, Nat.zero_le, Int.reduceAdd, Int.reduceNeg, Int.reduceEq, or_true, true_or, Decidable.not_not, false_implies, not_false_eq_true, true_implies, not_true_eq_false, Int.reduceLT, Int.reduceLE]
  obtain ⟨h1, h2, h3, h4⟩ := h
  exact ⟨hw, fun hn => ⟨hw, fun h38 => ⟨h4 h38, fun σ' q => hq _ (Or.inr (Or.inr ⟨h38, q⟩))⟩, fun h38 => ⟨h3 (by omega) (by omega), fun σ' q => hq _ (Or.inr (Or.inl ⟨hn, by omega, q⟩))⟩⟩, fun he => ⟨h2 he, fun σ' q => hq _ (Or.inl ⟨he, q⟩)⟩⟩
theorem v_M_worker_56 {l : Launch} {ad : Nat → Nat} {D : va_G} {cA : Nat → ClassId} {WW : Nat → qP} {QR : Option qA → qS → Prop} (S : qSnd l rm_M_worker ad D cA R_M b_M_worker 3 WW) (Q : qRet (none) b_M_worker WW QR) (w k : Int) (σ : qS) (hw : 0 ≤ w ∧ w < 6) (hk : 0 ≤ k ∧ k < 3) (h : Lpr w σ) (K : ∀ σ', Ltr w σ σ' → WW 56 [] [some (.inr (.inr 900)), some (.inl w), some (.inl (k + 1))] σ') : WW 56 [] [some (.inr (.inr 900)), some (.inl w), some (.inl k)] σ := by
  refine s_M_worker_56 S Q _ _ _ ?_
  simp only [k_M_worker_0, k_M_worker_9, k_M_worker_21, k_M_worker_36, k_M_worker_49, k_M_worker_54, k_M_worker_56, k_M_worker_61, k_M_worker_69, k_M_worker_74, k_M_worker_80, k_M_worker_90, k_M_worker_98, k_M_worker_109, k_M_worker_117, k_M_worker_122, oc_M_asks, oc_M_forget, oc_M_maps, oc_M_opens, oc_M_reads, oc_M_reduces, oc_M_renew, o_c, o_il, o_ll, o_al, o_is, o_as, o_ls, o_inc, o_bi, o_bid, o_bl, o_bld, o_sl, o_i2l, o_l2i, o_dup, o_dup2, o_pop, o_pop2, o_if, o_i2, o_l2, swg, o_sw, o_gI, o_gZ, o_gJ, o_gA, o_gR, o_pI, o_pZ, o_pJ, o_pR, o_ia, o_iak, o_zak, o_ja, o_jak, o_is_, o_isk, o_zsk, o_js_, o_jsk, o_len, o_ri, o_rz, o_rl, o_rv, ls1, ls2, lks, lkj, List.getD_cons_zero, List.getD_cons_succ, List.set_cons_zero, List.set_cons_succ, qcat, true_and, and_true, List.map_nil, List.map_cons, List.sum_nil, List.sum_cons, Nat.reduceAdd, Nat.reduceLeDiff, Nat.zero_le, Int.reduceAdd, Int.reduceNeg, Int.reduceEq, or_true, true_or, Decidable.not_not, false_implies, not_false_eq_true, true_implies, not_true_eq_false, Int.reduceLT, Int.reduceLE]
  rw [w32_i (k + 1) (by omega) (by omega)]
  exact ⟨fun h => by omega, fun _ => ⟨h.1, fun r σ1 q1 => ⟨fun e => K _ ⟨r, σ1, q1, Or.inl ⟨e, rfl⟩⟩, fun e => ⟨h.2 r σ1 q1 e, fun σ2 q2 => K _ ⟨r, σ1, q1, Or.inr ⟨e, q2⟩⟩⟩⟩⟩⟩
theorem v_M_worker_54 {l : Launch} {ad : Nat → Nat} {D : va_G} {cA : Nat → ClassId} {WW : Nat → qP} {QR : Option qA → qS → Prop} (S : qSnd l rm_M_worker ad D cA R_M b_M_worker 3 WW) (Q : qRet (none) b_M_worker WW QR) (w : Int) (σ : qS) (hp : P_M_worker w σ) (hq : ∀ σ', Q_M_worker w σ σ' → QR none σ') : WW 54 [] [some (.inr (.inr 900)), some (.inl w), none] (wk1 σ w) := by
  refine s_M_worker_54 S Q _ _ _ ?_
  simp only [k_M_worker_0, k_M_worker_9, k_M_worker_21, k_M_worker_36, k_M_worker_49, k_M_worker_54, k_M_worker_56, k_M_worker_61, k_M_worker_69, k_M_worker_74, k_M_worker_80, k_M_worker_90, k_M_worker_98, k_M_worker_109, k_M_worker_117, k_M_worker_122, oc_M_asks, oc_M_forget, oc_M_maps, oc_M_opens, oc_M_reads, oc_M_reduces, oc_M_renew, o_c, o_il, o_ll, o_al, o_is, o_as, o_ls, o_inc, o_bi, o_bid, o_bl, o_bld, o_sl, o_i2l, o_l2i, o_dup, o_dup2, o_pop, o_pop2, o_if, o_i2, o_l2, swg, o_sw, o_gI, o_gZ, o_gJ, o_gA, o_gR, o_pI, o_pZ, o_pJ, o_pR, o_ia, o_iak, o_zak, o_ja, o_jak, o_is_, o_isk, o_zsk, o_js_, o_jsk, o_len, o_ri, o_rz, o_rl, o_rv, ls1, ls2, lks, lkj, List.getD_cons_zero, List.getD_cons_succ, List.set_cons_zero, List.set_cons_succ, qcat, true_and, and_true, List.map_nil, List.map_cons, List.sum_nil, List.sum_cons, Nat.reduceAdd, Nat.reduceLeDiff, Nat.zero_le, Int.reduceAdd, Int.reduceNeg, Int.reduceEq, or_true, true_or, Decidable.not_not, false_implies, not_false_eq_true, true_implies, not_true_eq_false, Int.reduceLT, Int.reduceLE]
  obtain ⟨hw, p0, p1⟩ := hp
  refine v_M_worker_56 S Q w 0 _ hw (by omega) p0 (fun σ1 q1 => ?_)
  refine v_M_worker_56 S Q w 1 _ hw (by omega) (p1 σ1 q1).1 (fun σ2 q2 => ?_)
  refine v_M_worker_56 S Q w 2 _ hw (by omega) ((p1 σ1 q1).2 σ2 q2).1 (fun σ3 q3 => ?_)
  exact v_M_worker_80 S Q w σ3 hw (((p1 σ1 q1).2 σ2 q2).2 σ3 q3) (fun σ' q => hq _ ⟨σ1, σ2, σ3, q1, q2, q3, q⟩)
theorem w_M_worker {l : Launch} {ad : Nat → Nat} {D : va_G} {cA : Nat → ClassId} {WW : Nat → qP} {QR : Option qA → qS → Prop} (S : qSnd l rm_M_worker ad D cA R_M b_M_worker 3 WW) (Q : qRet (none) b_M_worker WW QR) (a1 : Int) (σ : qS) (ha1 : r32 a1) (hσ : qoS σ) (h : P_M_worker a1 σ) (hq : ∀ σ', Q_M_worker a1 σ σ' → QR none σ') : WW 0 [] [some (.inr (.inr 900)), some (.inl a1), none] σ := by
  refine s_M_worker_0 S Q _ _ _ ?_
  simp only [k_M_worker_0, k_M_worker_9, k_M_worker_21, k_M_worker_36, k_M_worker_49, k_M_worker_54, k_M_worker_56, k_M_worker_61, k_M_worker_69, k_M_worker_74, k_M_worker_80, k_M_worker_90, k_M_worker_98, k_M_worker_109, k_M_worker_117, k_M_worker_122, oc_M_asks, oc_M_forget, oc_M_maps, oc_M_opens, oc_M_reads, oc_M_reduces, oc_M_renew, o_c, o_il, o_ll, o_al, o_is, o_as, o_ls, o_inc, o_bi, o_bid, o_bl, o_bld, o_sl, o_i2l, o_l2i, o_dup, o_dup2, o_pop, o_pop2, o_if, o_i2, o_l2, swg, o_sw, o_gI, o_gZ, o_gJ, o_gA, o_gR, o_pI, o_pZ, o_pJ, o_pR, o_ia, o_iak, o_zak, o_ja, o_jak, o_is_, o_isk, o_zsk, o_js_, o_jsk, o_len, o_ri, o_rz, o_rl, o_rv, ls1, ls2, lks, lkj, List.getD_cons_zero, List.getD_cons_succ, List.set_cons_zero, List.set_cons_succ, qcat, true_and, and_true, List.map_nil, List.map_cons, List.sum_nil, List.sum_cons, Nat.reduceAdd, Nat.reduceLeDiff, Nat.zero_le, Int.reduceAdd, Int.reduceNeg, Int.reduceEq, or_true, true_or, Decidable.not_not, false_implies, not_false_eq_true, true_implies, not_true_eq_false, Int.reduceLT, Int.reduceLE]
  have hw := h.1
  have go := v_M_worker_54 S Q a1 σ h hq
  unfold wk1 at go
  refine ⟨hw, fun hb => ⟨fun hu => ⟨hw, fun σ1 q1 => ?_⟩, fun hu => ⟨hw, fun σ0 q0 => ⟨hw, hw, fun σ1 q1 => ?_⟩⟩⟩⟩
  · have e0 : wk0 σ a1 = σ := by unfold wk0; rw [if_neg hu]
    have e1 : σ1 = rnw (wk0 σ a1) a1 := by rw [e0]; exact q1
    rw [← e1] at go
    refine ⟨hw, fun e => ?_, fun e => ⟨hw, fun e' => ?_, fun e' => ⟨hw, fun σ2 q2 => ?_⟩⟩⟩
    · rw [if_neg (fun x => x.1 e)] at go; exact go
    · rw [if_neg (fun x => x.2 e')] at go; exact go
    · rw [if_pos ⟨e, e'⟩] at go
      have q2' : σ2 = fgt σ1 a1 := q2
      rw [q2']; exact go
  · have q0' : σ0 = fgt σ a1 := q0
    have e0 : wk0 σ a1 = su σ0 61 a1 1 := by unfold wk0; rw [if_pos hu, q0']
    have e1 : σ1 = rnw (wk0 σ a1) a1 := by rw [e0]; exact q1
    rw [← e1] at go
    refine ⟨hw, fun e => ?_, fun e => ⟨hw, fun e' => ?_, fun e' => ⟨hw, fun σ2 q2 => ?_⟩⟩⟩
    · rw [if_neg (fun x => x.1 e)] at go; exact go
    · rw [if_neg (fun x => x.2 e')] at go; exact go
    · rw [if_pos ⟨e, e'⟩] at go
      have q2' : σ2 = fgt σ1 a1 := q2
      rw [q2']; exact go
theorem c_M_worker (l : Launch) (ad : Nat → Nat) (D : va_G) (cA : Nat → ClassId) : qC l ad D cA y_M_worker (Cond.code y_M_worker b_M_worker 3 (none) :: lw_g) rm_M_worker pre_M_worker post_M_worker := by
  refine qC_of (own := R_M) (by decide) rfl ⟨rfl, rfl⟩ ?_ ?_
  · intro av σ h; unfold pre_M_worker at h; split at h
    · simp [qen]
    · exact h.elim
  · intro WW QR S Q av σ hav hσ h hq; unfold pre_M_worker at h; split at h
    next o a1 =>
      obtain ⟨rfl, h⟩ := h
      exact w_M_worker S Q a1 σ (hav _ (List.mem_of_getElem? (i := 1) rfl)) hσ h (fun σ' h' => hq _ σ' h')
    next => exact h.elim

