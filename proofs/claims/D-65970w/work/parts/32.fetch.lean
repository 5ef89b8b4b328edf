def dkp (σ : qS) (w t : Int) : List Pr := row σ 59 60 (w * 1000 + σ 56 (w * 38 + t)) (σ 57 (w * 38 + t)).toNat
def fpt (σ : qS) (p : Int) (l : List Pr) : List Pr := l.filter (fun x => prt σ x.1 == p)
def chC (A : List Pr) (fr : Nat) : List Pr := (A.drop fr).take 8
def chM (A : List Pr) (fr : Nat) : Int := if fr + 8 < A.length then 1 else 0
def P_M_answers (w t p fr _to : Int) (σ : qS) : Prop := (0 ≤ w ∧ w < 6) ∧ (0 ≤ t ∧ t < 38) ∧ 0 ≤ fr ∧ lok σ ∧ jobok σ ∧ (σ 56 (w * 38 + t) ≠ -1 → 0 ≤ σ 56 (w * 38 + t) ∧ 0 ≤ σ 57 (w * 38 + t) ∧ σ 56 (w * 38 + t) + σ 57 (w * 38 + t) ≤ 1000)
def Q_M_answers (w t p fr to : Int) (σ σ' : qS) : Prop := (σ 56 (w * 38 + t) = -1 ∧ σ' = σ) ∨ (σ 56 (w * 38 + t) ≠ -1 ∧ F_lc σ σ' ∧ lok σ' ∧ σ' 49 0 = z_ushr (σ 49 0) 1 ∧ σ' 50 0 = z_ushr (σ 50 0) 1 ∧ ∃ kv, kv.length = 8 ∧ kv.take (chC (fpt σ p (dkp σ w t)) fr.toNat).length = chC (fpt σ p (dkp σ w t)) fr.toNat ∧ ln σ' = tld σ (to, [6, σ 31 0, t, fr, 2 * ((chC (fpt σ p (dkp σ w t)) fr.toNat).length : Int) + chM (fpt σ p (dkp σ w t)) fr.toNat, p], kv))
def pre_M_answers (av : List qA) (σ : qS) : Prop := match av with
  | [.inr (.inr o), .inl a1, .inl a2, .inl a3, .inl a4, .inl a5] => o = 900 ∧ P_M_answers a1 a2 a3 a4 a5 σ
  | _ => False
def post_M_answers (av : List qA) (σ : qS) (r : Option qA) (σ' : qS) : Prop := match av, r with
  | [_, .inl a1, .inl a2, .inl a3, .inl a4, .inl a5], none => Q_M_answers a1 a2 a3 a4 a5 σ σ'
  | _, _ => False
def oc_M_answers (K : qP) : qP := fun st ls σ => match st with
  | .inl a5 :: .inl a4 :: .inl a3 :: .inl a2 :: .inl a1 :: .inr (.inr o) :: st => o = 900 ∧ (st.map qcat).sum ≤ 8 ∧ P_M_answers a1 a2 a3 a4 a5 σ ∧ ∀ (σ' : qS), Q_M_answers a1 a2 a3 a4 a5 σ σ' → K st ls σ'
  | _ => False
def rm_M_answers : Room := { frames := 3, cells := 0, slots := 0, locals := 72 }
theorem sc_M_415 {l : Launch} {R : Room} {ad : Nat → Nat} {D : va_G} {cA : Nat → ClassId} {cc : ByteArray} {nL : Nat} {WW : Nat → qP} (S : qSnd l R ad D cA R_M cc nL WW) (hR : rm_M_partOf.frames + 1 ≤ R.frames ∧ 8 + (5 + 11) + rm_M_partOf.locals ≤ R.locals) {K : qP} {pc : Nat} (d : decode cc pc = .ok (.invokevirtual 415, 3)) (h : qle K WW (pc + 3)) : qle (oc_M_partOf K) WW pc := by
  intro st ls σ k
  refine S.callV (o := 900) (ci := 0) (N := 82) (base := 0) (C := R_M) (T := F_M) (n := 1) (pre := pre_M_partOf) (post := post_M_partOf) (Or.inl ⟨rfl, rfl, rfl, rfl, rfl, rfl⟩) ⟨lw_at 648 (by decide +kernel) rfl, lw_at 645 (by decide +kernel) rfl, lw_at 59 (by decide +kernel) rfl, by decide, by decide, by decide +kernel⟩ ⟨lw_at 647 (by decide +kernel) rfl, lw_at 30 (by decide +kernel) rfl⟩ ⟨rfl, rfl⟩ hR (c_M_partOf l ad D cA) ?_ d h st ls σ ?_
  · intro av σ h; unfold pre_M_partOf at h; split at h
    · obtain ⟨rfl, h⟩ := h; exact ⟨_, rfl⟩
    · exact h.elim
  · unfold oc_M_partOf at k
    split at k
    next a1 o st =>
      obtain ⟨rfl, hs, hp, k⟩ := k
      refine ⟨[.inr (.inr 900), .inr (.inl a1)], st, rfl, rfl, hs, ⟨rfl, hp⟩, fun r σ' hq => ?_⟩
      unfold post_M_partOf at hq
      split at hq
      next h1 =>
        cases h1
        exact k _ _ hq
      next => exact hq.elim
    next => exact k.elim
def k_M_answers_202 (QR : Option qA → qS → Prop) (H : Nat → qP) : qP :=
  o_bi z_add <| o_isk 45 576 <| o_al 0 <| o_gA 900 45 <| o_il 10 <| o_c (.inl 6) <| o_bi z_mul <| o_c (.inl 5) <| o_bi z_add <| o_il 3 <| o_isk 45 576 <| o_al 0 <| oc_M_close <| o_rv QR
def k_M_answers_201 (QR : Option qA → qS → Prop) (H : Nat → qP) : qP :=
  o_c (.inl 0) <| k_M_answers_202 QR H
def k_M_answers_197 (QR : Option qA → qS → Prop) (H : Nat → qP) : qP :=
  o_c (.inl 1) <| k_M_answers_202 QR H
def k_M_answers_177 (QR : Option qA → qS → Prop) (H : Nat → qP) : qP :=
  o_al 0 <| o_gA 900 45 <| o_il 10 <| o_c (.inl 6) <| o_bi z_mul <| o_c (.inl 4) <| o_bi z_add <| o_c (.inl 2) <| o_il 8 <| o_bi z_mul <| o_il 9 <| o_if (fun a => a = 0) (k_M_answers_201 QR H) (k_M_answers_197 QR H)
def k_M_answers_171 (QR : Option qA → qS → Prop) (H : Nat → qP) : qP :=
  o_inc 11 1 <| H 62
def k_M_answers_168 (QR : Option qA → qS → Prop) (H : Nat → qP) : qP :=
  o_inc 7 1 <| k_M_answers_171 QR H
def k_M_answers_119 (QR : Option qA → qS → Prop) (H : Nat → qP) : qP :=
  o_al 0 <| o_gA 900 46 <| o_il 10 <| o_c (.inl 8) <| o_bi z_mul <| o_il 8 <| o_bi z_add <| o_al 0 <| o_gA 900 59 <| o_il 6 <| o_il 11 <| o_bi z_add <| o_jak 59 6000 <| o_jsk 46 768 <| o_al 0 <| o_gA 900 47 <| o_il 10 <| o_c (.inl 8) <| o_bi z_mul <| o_il 8 <| o_bi z_add <| o_al 0 <| o_gA 900 60 <| o_il 6 <| o_il 11 <| o_bi z_add <| o_jak 60 6000 <| o_jsk 47 768 <| o_inc 8 1 <| k_M_answers_168 QR H
def k_M_answers_113 (QR : Option qA → qS → Prop) (H : Nat → qP) : qP :=
  o_c (.inl 1) <| o_is 9 <| k_M_answers_168 QR H
def k_M_answers_106 (QR : Option qA → qS → Prop) (H : Nat → qP) : qP :=
  o_il 8 <| o_c (.inl 8) <| o_i2 (fun a b => ¬ a = b) (k_M_answers_119 QR H) (k_M_answers_113 QR H)
def k_M_answers_99 (QR : Option qA → qS → Prop) (H : Nat → qP) : qP :=
  o_il 7 <| o_il 4 <| o_i2 (fun a b => a < b) (k_M_answers_168 QR H) (k_M_answers_106 QR H)
def k_M_answers_96 (QR : Option qA → qS → Prop) (H : Nat → qP) : qP :=
  k_M_answers_171 QR H
def k_M_answers_78 (QR : Option qA → qS → Prop) (H : Nat → qP) : qP :=
  o_al 0 <| o_al 0 <| o_gA 900 59 <| o_il 6 <| o_il 11 <| o_bi z_add <| o_jak 59 6000 <| oc_M_partOf <| o_il 3 <| o_i2 (fun a b => a = b) (k_M_answers_99 QR H) (k_M_answers_96 QR H)
def k_M_answers_62 (QR : Option qA → qS → Prop) (H : Nat → qP) : qP :=
  o_il 11 <| o_al 0 <| o_gA 900 57 <| o_il 1 <| o_c (.inl 38) <| o_bi z_mul <| o_il 2 <| o_bi z_add <| o_iak 57 228 <| o_i2 (fun a b => b ≤ a) (H 177) (k_M_answers_78 QR H)
def k_M_answers_16 (QR : Option qA → qS → Prop) (H : Nat → qP) : qP :=
  o_il 1 <| o_c (.inl 1000) <| o_bi z_mul <| o_al 0 <| o_gA 900 56 <| o_il 1 <| o_c (.inl 38) <| o_bi z_mul <| o_il 2 <| o_bi z_add <| o_iak 56 228 <| o_bi z_add <| o_is 6 <| o_c (.inl 0) <| o_is 7 <| o_c (.inl 0) <| o_is 8 <| o_c (.inl 0) <| o_is 9 <| o_al 0 <| o_il 5 <| o_c (.inl 6) <| o_il 2 <| o_il 4 <| o_c (.inl 0) <| o_c (.inl 0) <| oc_M_send <| o_is 10 <| o_c (.inl 0) <| o_is 11 <| H 62
def k_M_answers_15 (QR : Option qA → qS → Prop) (H : Nat → qP) : qP :=
  o_rv QR
def k_M_answers_0 (QR : Option qA → qS → Prop) (H : Nat → qP) : qP :=
  o_al 0 <| o_gA 900 56 <| o_il 1 <| o_c (.inl 38) <| o_bi z_mul <| o_il 2 <| o_bi z_add <| o_iak 56 228 <| o_c (.inl (-1)) <| o_i2 (fun a b => ¬ a = b) (k_M_answers_16 QR H) (k_M_answers_15 QR H)
set_option maxRecDepth 8000 in
theorem s_M_answers_202 {l : Launch} {ad : Nat → Nat} {D : va_G} {cA : Nat → ClassId} {WW : Nat → qP} {QR : Option qA → qS → Prop} (S : qSnd l rm_M_answers ad D cA R_M b_M_answers 12 WW) (Q : qRet (none) b_M_answers WW QR) : qle (k_M_answers_202 QR WW) WW 202 :=
  S.iadd d_M_answers_202 <| S.isk (by decide) d_M_answers_203 <| S.aload_n d_M_answers_204 rfl <| S.gA fl_M_96 (by decide) d_M_answers_205 <| S.iload d_M_answers_208 <| S.bipush d_M_answers_210 (by decide) <| S.imul d_M_answers_212 <| S.iconst d_M_answers_213 (by decide) <| S.iadd d_M_answers_214 <| S.iload_n d_M_answers_215 rfl <| S.isk (by decide) d_M_answers_216 <| S.aload_n d_M_answers_217 rfl <| sc_M_299 S (by decide) d_M_answers_218 <| Q.2.2.2 rfl _ d_M_answers_221
set_option maxRecDepth 8000 in
theorem s_M_answers_201 {l : Launch} {ad : Nat → Nat} {D : va_G} {cA : Nat → ClassId} {WW : Nat → qP} {QR : Option qA → qS → Prop} (S : qSnd l rm_M_answers ad D cA R_M b_M_answers 12 WW) (Q : qRet (none) b_M_answers WW QR) : qle (k_M_answers_201 QR WW) WW 201 :=
  S.iconst d_M_answers_201 (by decide) <| (s_M_answers_202 S Q)
set_option maxRecDepth 8000 in
theorem s_M_answers_197 {l : Launch} {ad : Nat → Nat} {D : va_G} {cA : Nat → ClassId} {WW : Nat → qP} {QR : Option qA → qS → Prop} (S : qSnd l rm_M_answers ad D cA R_M b_M_answers 12 WW) (Q : qRet (none) b_M_answers WW QR) : qle (k_M_answers_197 QR WW) WW 197 :=
  S.iconst d_M_answers_197 (by decide) <| S.goto d_M_answers_198 (by decide) (s_M_answers_202 S Q)
set_option maxRecDepth 8000 in
theorem s_M_answers_177 {l : Launch} {ad : Nat → Nat} {D : va_G} {cA : Nat → ClassId} {WW : Nat → qP} {QR : Option qA → qS → Prop} (S : qSnd l rm_M_answers ad D cA R_M b_M_answers 12 WW) (Q : qRet (none) b_M_answers WW QR) : qle (k_M_answers_177 QR WW) WW 177 :=
  S.aload_n d_M_answers_177 rfl <| S.gA fl_M_96 (by decide) d_M_answers_178 <| S.iload d_M_answers_181 <| S.bipush d_M_answers_183 (by decide) <| S.imul d_M_answers_185 <| S.iconst d_M_answers_186 (by decide) <| S.iadd d_M_answers_187 <| S.iconst d_M_answers_188 (by decide) <| S.iload d_M_answers_189 <| S.imul d_M_answers_191 <| S.iload d_M_answers_192 <| S.if_eq d_M_answers_194 (by decide) (s_M_answers_201 S Q) (s_M_answers_197 S Q)
set_option maxRecDepth 8000 in
theorem s_M_answers_171 {l : Launch} {ad : Nat → Nat} {D : va_G} {cA : Nat → ClassId} {WW : Nat → qP} {QR : Option qA → qS → Prop} (S : qSnd l rm_M_answers ad D cA R_M b_M_answers 12 WW) (Q : qRet (none) b_M_answers WW QR) : qle (k_M_answers_171 QR WW) WW 171 :=
  S.iinc d_M_answers_171 (by decide) <| S.goto d_M_answers_174 (by decide) (fun _ _ _ h => h)
set_option maxRecDepth 8000 in
theorem s_M_answers_168 {l : Launch} {ad : Nat → Nat} {D : va_G} {cA : Nat → ClassId} {WW : Nat → qP} {QR : Option qA → qS → Prop} (S : qSnd l rm_M_answers ad D cA R_M b_M_answers 12 WW) (Q : qRet (none) b_M_answers WW QR) : qle (k_M_answers_168 QR WW) WW 168 :=
  S.iinc d_M_answers_168 (by decide) <| (s_M_answers_171 S Q)
set_option maxRecDepth 8000 in
theorem s_M_answers_119 {l : Launch} {ad : Nat → Nat} {D : va_G} {cA : Nat → ClassId} {WW : Nat → qP} {QR : Option qA → qS → Prop} (S : qSnd l rm_M_answers ad D cA R_M b_M_answers 12 WW) (Q : qRet (none) b_M_answers WW QR) : qle (k_M_answers_119 QR WW) WW 119 :=
  S.aload_n d_M_answers_119 rfl <| S.gA fl_M_99 (by decide) d_M_answers_120 <| S.iload d_M_answers_123 <| S.bipush d_M_answers_125 (by decide) <| S.imul d_M_answers_127 <| S.iload d_M_answers_128 <| S.iadd d_M_answers_130 <| S.aload_n d_M_answers_131 rfl <| S.gA fl_M_129 (by decide) d_M_answers_132 <| S.iload d_M_answers_135 <| S.iload d_M_answers_137 <| S.iadd d_M_answers_139 <| S.jak (by decide) d_M_answers_140 <| S.jsk (by decide) d_M_answers_141 <| S.aload_n d_M_answers_142 rfl <| S.gA fl_M_102 (by decide) d_M_answers_143 <| S.iload d_M_answers_146 <| S.bipush d_M_answers_148 (by decide) <| S.imul d_M_answers_150 <| S.iload d_M_answers_151 <| S.iadd d_M_answers_153 <| S.aload_n d_M_answers_154 rfl <| S.gA fl_M_132 (by decide) d_M_answers_155 <| S.iload d_M_answers_158 <| S.iload d_M_answers_160 <| S.iadd d_M_answers_162 <| S.jak (by decide) d_M_answers_163 <| S.jsk (by decide) d_M_answers_164 <| S.iinc d_M_answers_165 (by decide) <| (s_M_answers_168 S Q)
set_option maxRecDepth 8000 in
theorem s_M_answers_113 {l : Launch} {ad : Nat → Nat} {D : va_G} {cA : Nat → ClassId} {WW : Nat → qP} {QR : Option qA → qS → Prop} (S : qSnd l rm_M_answers ad D cA R_M b_M_answers 12 WW) (Q : qRet (none) b_M_answers WW QR) : qle (k_M_answers_113 QR WW) WW 113 :=
  S.iconst d_M_answers_113 (by decide) <| S.istore d_M_answers_114 (by decide) <| S.goto d_M_answers_116 (by decide) (s_M_answers_168 S Q)
set_option maxRecDepth 8000 in
theorem s_M_answers_106 {l : Launch} {ad : Nat → Nat} {D : va_G} {cA : Nat → ClassId} {WW : Nat → qP} {QR : Option qA → qS → Prop} (S : qSnd l rm_M_answers ad D cA R_M b_M_answers 12 WW) (Q : qRet (none) b_M_answers WW QR) : qle (k_M_answers_106 QR WW) WW 106 :=
  S.iload d_M_answers_106 <| S.bipush d_M_answers_108 (by decide) <| S.icmp_ne d_M_answers_110 (by decide) (s_M_answers_119 S Q) (s_M_answers_113 S Q)
set_option maxRecDepth 8000 in
theorem s_M_answers_99 {l : Launch} {ad : Nat → Nat} {D : va_G} {cA : Nat → ClassId} {WW : Nat → qP} {QR : Option qA → qS → Prop} (S : qSnd l rm_M_answers ad D cA R_M b_M_answers 12 WW) (Q : qRet (none) b_M_answers WW QR) : qle (k_M_answers_99 QR WW) WW 99 :=
  S.iload d_M_answers_99 <| S.iload d_M_answers_101 <| S.icmp_lt d_M_answers_103 (by decide) (s_M_answers_168 S Q) (s_M_answers_106 S Q)
set_option maxRecDepth 8000 in
theorem s_M_answers_96 {l : Launch} {ad : Nat → Nat} {D : va_G} {cA : Nat → ClassId} {WW : Nat → qP} {QR : Option qA → qS → Prop} (S : qSnd l rm_M_answers ad D cA R_M b_M_answers 12 WW) (Q : qRet (none) b_M_answers WW QR) : qle (k_M_answers_96 QR WW) WW 96 :=
  S.goto d_M_answers_96 (by decide) (s_M_answers_171 S Q)
set_option maxRecDepth 8000 in
theorem s_M_answers_78 {l : Launch} {ad : Nat → Nat} {D : va_G} {cA : Nat → ClassId} {WW : Nat → qP} {QR : Option qA → qS → Prop} (S : qSnd l rm_M_answers ad D cA R_M b_M_answers 12 WW) (Q : qRet (none) b_M_answers WW QR) : qle (k_M_answers_78 QR WW) WW 78 :=
  S.aload_n d_M_answers_78 rfl <| S.aload_n d_M_answers_79 rfl <| S.gA fl_M_129 (by decide) d_M_answers_80 <| S.iload d_M_answers_83 <| S.iload d_M_answers_85 <| S.iadd d_M_answers_87 <| S.jak (by decide) d_M_answers_88 <| sc_M_415 S (by decide) d_M_answers_89 <| S.iload_n d_M_answers_92 rfl <| S.icmp_eq d_M_answers_93 (by decide) (s_M_answers_99 S Q) (s_M_answers_96 S Q)
set_option maxRecDepth 8000 in
theorem s_M_answers_62 {l : Launch} {ad : Nat → Nat} {D : va_G} {cA : Nat → ClassId} {WW : Nat → qP} {QR : Option qA → qS → Prop} (S : qSnd l rm_M_answers ad D cA R_M b_M_answers 12 WW) (Q : qRet (none) b_M_answers WW QR) : qle (k_M_answers_62 QR WW) WW 62 :=
  S.iload d_M_answers_62 <| S.aload_n d_M_answers_64 rfl <| S.gA fl_M_123 (by decide) d_M_answers_65 <| S.iload_n d_M_answers_68 rfl <| S.bipush d_M_answers_69 (by decide) <| S.imul d_M_answers_71 <| S.iload_n d_M_answers_72 rfl <| S.iadd d_M_answers_73 <| S.iak (by decide) d_M_answers_74 <| S.icmp_ge d_M_answers_75 (by decide) (fun _ _ _ h => h) (s_M_answers_78 S Q)
set_option maxRecDepth 8000 in
theorem s_M_answers_16 {l : Launch} {ad : Nat → Nat} {D : va_G} {cA : Nat → ClassId} {WW : Nat → qP} {QR : Option qA → qS → Prop} (S : qSnd l rm_M_answers ad D cA R_M b_M_answers 12 WW) (Q : qRet (none) b_M_answers WW QR) : qle (k_M_answers_16 QR WW) WW 16 :=
  S.iload_n d_M_answers_16 rfl <| S.sipush d_M_answers_17 (by decide) <| S.imul d_M_answers_20 <| S.aload_n d_M_answers_21 rfl <| S.gA fl_M_120 (by decide) d_M_answers_22 <| S.iload_n d_M_answers_25 rfl <| S.bipush d_M_answers_26 (by decide) <| S.imul d_M_answers_28 <| S.iload_n d_M_answers_29 rfl <| S.iadd d_M_answers_30 <| S.iak (by decide) d_M_answers_31 <| S.iadd d_M_answers_32 <| S.istore d_M_answers_33 (by decide) <| S.iconst d_M_answers_35 (by decide) <| S.istore d_M_answers_36 (by decide) <| S.iconst d_M_answers_38 (by decide) <| S.istore d_M_answers_39 (by decide) <| S.iconst d_M_answers_41 (by decide) <| S.istore d_M_answers_42 (by decide) <| S.aload_n d_M_answers_44 rfl <| S.iload d_M_answers_45 <| S.bipush d_M_answers_47 (by decide) <| S.iload_n d_M_answers_49 rfl <| S.iload d_M_answers_50 <| S.iconst d_M_answers_52 (by decide) <| S.iconst d_M_answers_53 (by decide) <| sc_M_295 S (by decide) d_M_answers_54 <| S.istore d_M_answers_57 (by decide) <| S.iconst d_M_answers_59 (by decide) <| S.istore d_M_answers_60 (by decide) <| (fun _ _ _ h => h)
set_option maxRecDepth 8000 in
theorem s_M_answers_15 {l : Launch} {ad : Nat → Nat} {D : va_G} {cA : Nat → ClassId} {WW : Nat → qP} {QR : Option qA → qS → Prop} (S : qSnd l rm_M_answers ad D cA R_M b_M_answers 12 WW) (Q : qRet (none) b_M_answers WW QR) : qle (k_M_answers_15 QR WW) WW 15 :=
  Q.2.2.2 rfl _ d_M_answers_15
set_option maxRecDepth 8000 in
theorem s_M_answers_0 {l : Launch} {ad : Nat → Nat} {D : va_G} {cA : Nat → ClassId} {WW : Nat → qP} {QR : Option qA → qS → Prop} (S : qSnd l rm_M_answers ad D cA R_M b_M_answers 12 WW) (Q : qRet (none) b_M_answers WW QR) : qle (k_M_answers_0 QR WW) WW 0 :=
  S.aload_n d_M_answers_0 rfl <| S.gA fl_M_120 (by decide) d_M_answers_1 <| S.iload_n d_M_answers_4 rfl <| S.bipush d_M_answers_5 (by decide) <| S.imul d_M_answers_7 <| S.iload_n d_M_answers_8 rfl <| S.iadd d_M_answers_9 <| S.iak (by decide) d_M_answers_10 <| S.iconst d_M_answers_11 (by decide) <| S.icmp_ne d_M_answers_12 (by decide) (s_M_answers_16 S Q) (s_M_answers_15 S Q)
theorem chC_lt {A : List Pr} {x : Pr} {fr : Nat} (h : A.length < fr) : chC (A ++ [x]) fr = chC A fr := by
  unfold chC; rw [List.drop_of_length_le (by simp; omega), List.drop_of_length_le (by omega)]
theorem chC_ge {A : List Pr} {x : Pr} {fr : Nat} (h : fr + 8 ≤ A.length) : chC (A ++ [x]) fr = chC A fr := by
  unfold chC; rw [List.drop_append_of_le_length (by omega), List.take_append_of_le_length (by rw [List.length_drop]; omega)]
theorem chC_mid {A : List Pr} {x : Pr} {fr : Nat} (h1 : fr ≤ A.length) (h : A.length < fr + 8) : chC (A ++ [x]) fr = chC A fr ++ [x] := by
  unfold chC; rw [List.drop_append_of_le_length h1, List.take_of_length_le (by simp; omega), List.take_of_length_le (by simp; omega)]
theorem chC_len (A : List Pr) (fr : Nat) : (chC A fr).length = min 8 (A.length - fr) := by unfold chC; simp
def AI (σ1 σ : qS) (m : Int) (C : List Pr) : Prop := (∀ q, q ∉ [46, 47] → σ q = σ1 q) ∧ (∀ j, (j < m * 8 ∨ m * 8 + 8 ≤ j) → σ 46 j = σ1 46 j ∧ σ 47 j = σ1 47 j) ∧ row σ 46 47 (m * 8) C.length = C
theorem AI_s {σ1 σ : qS} {m : Int} {C : List Pr} {x : Pr} (h : AI σ1 σ m C) (hl : C.length < 8) : AI σ1 (su (su σ 46 (m * 8 + C.length) x.1) 47 (m * 8 + C.length) x.2) m (C ++ [x]) := by
  obtain ⟨h1, h2, h3⟩ := h
  refine ⟨fun q hq => by rw [su_k (by intro e; subst e; exact hq (by decide)), su_k (by intro e; subst e; exact hq (by decide))]; exact h1 q hq, fun j hj => ?_, ?_⟩
  · rw [su_k (by decide), su_e, su_e, if_neg (by omega), if_neg (by omega), su_k (by decide)]; exact h2 j hj
  · rw [List.length_append, List.length_singleton, row_s]
    congr 1
    · rw [row_keep (σ := σ) (fun j j0 j1 => by rw [su_k (by decide), su_e, su_e, if_neg (by omega), if_neg (by omega), su_k (by decide)]; exact ⟨rfl, rfl⟩)]; exact h3
    · rw [su_k (by decide), su_s, su_s]
theorem ln_last {σ : qS} {L : List Ms} {x : Ms} {m : Int} (h0 : 0 ≤ m) (hm : σ 48 0 = m + 1) (h : ln σ = L ++ [x]) : (L.length : Int) = m ∧ mg σ m = x ∧ ∀ j : Nat, (j : Int) < m → L[j]? = some (mg σ j) := by
  have hl := ln_len σ
  rw [h, hm] at hl
  simp at hl
  have hL : (L.length : Int) = m := by omega
  refine ⟨hL, ?_, fun j hj => ?_⟩
  · have := ln_at (σ := σ) (i := L.length) (by omega)
    rw [h] at this
    simp at this
    rw [← hL]; exact this.symm
  · have := ln_at (σ := σ) (i := j) (by omega)
    rw [h, List.getElem?_append_left (by omega)] at this
    exact this
theorem ln_relast {σ σ' : qS} {L : List Ms} {x : Ms} {m : Int} (h0 : 0 ≤ m) (hm : σ 48 0 = m + 1) (h : ln σ = L ++ [x]) (hm' : σ' 48 0 = m + 1) (hk : ∀ j, 0 ≤ j → j < m → mg σ' j = mg σ j) : ln σ' = L ++ [mg σ' m] := by
  obtain ⟨a1, a2, a3⟩ := ln_last h0 hm h
  apply List.ext_getElem?
  intro i
  by_cases h1 : (i : Int) < m
  · rw [ln_at (by omega), List.getElem?_append_left (by omega), a3 i h1, hk i (by omega) h1]
  · by_cases h2 : (i : Int) = m
    · rw [ln_at (by omega), List.getElem?_append_right (by omega), show i - L.length = 0 by omega]; simp [h2]
    · rw [ln_no (by omega), List.getElem?_eq_none (by simp; omega)]
theorem v_M_answers_177 {l : Launch} {ad : Nat → Nat} {D : va_G} {cA : Nat → ClassId} {WW : Nat → qP} {QR : Option qA → qS → Prop} (S : qSnd l rm_M_answers ad D cA R_M b_M_answers 12 WW) (Q : qRet (none) b_M_answers WW QR) (σ0 σ1 σ : qS) (w t p fr to m bs fd k : Int) (n : Int) (mo : Int) (A : List Pr) (hA : A = fpt σ0 p (dkp σ0 w t)) (hk : σ0 56 (w * 38 + t) ≠ -1) (hfr : 0 ≤ fr) (hm : 0 ≤ m ∧ m < 96) (q1 : Q_M_send to 6 t fr 0 0 σ0 m σ1) (hn : n = (chC A fr.toNat).length) (hmo : mo = chM A fr.toNat) (hI : AI σ1 σ m (chC A fr.toNat)) (hq : ∀ σ', Q_M_answers w t p fr to σ0 σ' → QR none σ') : WW 177 [] [some (.inr (.inr 900)), some (.inl w), some (.inl t), some (.inl p), some (.inl fr), some (.inl to), some (.inl bs), some (.inl fd), some (.inl n), some (.inl mo), some (.inl m), some (.inl k)] σ := by
  refine s_M_answers_177 S Q _ _ _ ?_
  simp only [k_M_answers_0, k_M_answers_15, k_M_answers_16, k_M_answers_62, k_M_answers_78, k_M_answers_96, k_M_answers_99, k_M_answers_106, k_M_answers_113, k_M_answers_119, k_M_answers_168, k_M_answers_171, k_M_answers_177, k_M_answers_197, k_M_answers_201, k_M_answers_202, oc_M_close, oc_M_partOf, oc_M_send, o_c, o_il, o_ll, o_al, o_is, o_as, o_ls, o_inc, o_bi, o_bid, o_bl, o_bld, o_sl, o_i2l, o_l2i, o_dup, o_dup2, o_pop, o_pop2, o_if, o_i2, o_l2, swg, o_sw, o_gI, o_gZ, o_gJ, o_gA, o_gR, o_pI, o_pZ, o_pJ, o_pR, o_ia, o_iak, o_zak, o_ja, o_jak, o_is_, o_isk, o_zsk, o_js_, o_jsk, o_len, o_ri, o_rz, o_rl, o_rv, ls1, ls2, lks, lkj, List.getD_cons_zero, List.getD_cons_succ, List.set_cons_zero, List.set_cons_succ, qcat, true_and, and_true, List.map_nil, List.map_cons, List.sum_nil, List.sum_cons, Nat.reduceAdd, Nat.reduceLeDiff, Nat.zero_le, Int.reduceAdd, Int.reduceNeg, Int.reduceEq, or_true, true_or, Decidable.not_not, false_implies, not_false_eq_true, true_implies, not_true_eq_false, Int.reduceLT, Int.reduceLE]
  have hcl := chC_len A fr.toNat
  have em : mo = 0 ∨ mo = 1 := by rw [hmo]; unfold chM; split <;> simp
  have e4 : z_add (z_mul m 6) 4 = m * 6 + 4 := z_m6 hm (by omega)
  have e5 : z_add (z_mul m 6) 5 = m * 6 + 5 := z_m6 hm (by omega)
  have e2 : z_mul 2 n = 2 * n := by unfold z_mul; exact w32_i _ (by omega) (by omega)
  rw [e4, e5, e2]
  have ea : ∀ v, v = mo → z_add (2 * n) v = 2 * n + mo := fun v hv => by rw [hv]; unfold z_add; exact w32_i _ (by omega) (by omega)
  obtain ⟨s1, s2, s3, s4, kv, s5, s6⟩ := q1
  have fin : ∀ v, v = 2 * n + mo → (P_M_close (su (su σ 45 (m * 6 + 4) v) 45 (m * 6 + 5) p)) ∧ ∀ σ', Q_M_close (su (su σ 45 (m * 6 + 4) v) 45 (m * 6 + 5) p) σ' → QR none σ' := by
    intro v hv
    generalize hT : su (su σ 45 (m * 6 + 4) v) 45 (m * 6 + 5) p = σ2
    have k0 : ∀ q, q ≠ 45 → σ2 q = σ q := fun q hq => by rw [← hT, su_k hq, su_k hq]
    have k1 : ∀ j, j ≠ m * 6 + 4 → j ≠ m * 6 + 5 → σ2 45 j = σ1 45 j := fun j h1 h2 => by rw [← hT, su_e, su_e, if_neg h2, if_neg h1, hI.1 _ (by decide)]
    have k4 : σ2 45 (m * 6 + 4) = v := by rw [← hT, su_e, if_neg (by omega), su_s]
    have k5 : σ2 45 (m * 6 + 5) = p := by rw [← hT, su_s]
    have hms : σ2 48 0 = m + 1 := by rw [k0 _ (by decide), hI.1 _ (by decide)]; exact s3
    have hln : ln σ2 = tl95 (ln σ0) ++ [mg σ2 m] := ln_relast (σ := σ1) hm.1 s3 s6 hms (fun j j0 j1 => mg_of (by rw [k0 _ (by decide), hI.1 _ (by decide)]) (fun i i0 i1 => k1 _ (by omega) (by omega)) (fun i i0 i1 => by rw [k0 _ (by decide), k0 _ (by decide)]; exact hI.2.1 _ (by omega)))
    obtain ⟨-, lm, -⟩ := ln_last hm.1 s3 s6
    have lm1 := congrArg (fun z : Ms => z.1) lm
    have lm2 := congrArg (fun z : Ms => z.2.1) lm
    simp only [mg, List.range, List.range.loop, List.map_cons, List.map_nil, List.cons.injEq, and_true] at lm1 lm2
    obtain ⟨l0, l1, l2, l3, -⟩ := lm2
    have hx : mg σ2 m = (to, [6, σ0 31 0, t, fr, 2 * ((chC A fr.toNat).length : Int) + chM A fr.toNat, p], (List.range 8).map (fun j : Nat => (σ2 46 (m * 8 + j), σ2 47 (m * 8 + j)))) := by
      unfold mg
      rw [k0 44 (by decide), hI.1 44 (by decide), lm1]
      congr 1; congr 1
      show [σ2 45 (m * 6 + ((0 : Nat) : Int)), σ2 45 (m * 6 + ((1 : Nat) : Int)), σ2 45 (m * 6 + ((2 : Nat) : Int)), σ2 45 (m * 6 + ((3 : Nat) : Int)), σ2 45 (m * 6 + ((4 : Nat) : Int)), σ2 45 (m * 6 + ((5 : Nat) : Int))] = _
      rw [k1 (m * 6 + ((0 : Nat) : Int)) (by omega) (by omega), k1 (m * 6 + ((1 : Nat) : Int)) (by omega) (by omega), k1 (m * 6 + ((2 : Nat) : Int)) (by omega) (by omega), k1 (m * 6 + ((3 : Nat) : Int)) (by omega) (by omega), l0, l1, l2, l3]
      rw [show m * 6 + ((4 : Nat) : Int) = m * 6 + 4 by omega, show m * 6 + ((5 : Nat) : Int) = m * 6 + 5 by omega, k4, k5, hv, hn, hmo]
    refine ⟨⟨by omega, by omega⟩, fun σ' q => hq _ (Or.inr ⟨hk, ?_⟩)⟩
    obtain ⟨c1, c2, c3, c4, c5⟩ := q
    have hlo : σ2 49 = σ0 49 := by rw [k0 _ (by decide), hI.1 _ (by decide), s1 _ (by decide)]
    have htw : σ2 50 = σ0 50 := by rw [k0 _ (by decide), hI.1 _ (by decide), s1 _ (by decide)]
    refine ⟨fun q hq' => ?_, c2, by rw [c3, hlo], by rw [c4, htw], (List.range 8).map (fun j : Nat => (σ2 46 (m * 8 + j), σ2 47 (m * 8 + j))), by simp, ?_, ?_⟩
    · rw [c1 q hq', k0 q (by intro e; subst e; exact hq' (by decide)), hI.1 q (fun e => hq' (by simp only [List.mem_cons, List.not_mem_nil, or_false] at e ⊢; omega)), s1 q (fun e => hq' (by simp only [List.mem_cons, List.not_mem_nil, or_false] at e ⊢; omega))]
    · rw [← hA]
      have h3 := hI.2.2
      have : (List.range 8).map (fun j : Nat => (σ2 46 (m * 8 + j), σ2 47 (m * 8 + j))) = row σ 46 47 (m * 8) 8 := by unfold row; rw [k0 _ (by decide), k0 _ (by decide)]
      rw [this, row_take (by omega)]; exact h3
    · rw [← hA]
      have := c5 _ _ hln
      rw [hlo, htw, hx] at this
      exact this
  exact ⟨fun h => ⟨by omega, by omega, fin _ (ea _ h.symm)⟩, fun h => ⟨by omega, by omega, fin _ (ea _ (by omega))⟩⟩
theorem v_M_answers_62 {l : Launch} {ad : Nat → Nat} {D : va_G} {cA : Nat → ClassId} {WW : Nat → qP} {QR : Option qA → qS → Prop} (S : qSnd l rm_M_answers ad D cA R_M b_M_answers 12 WW) (Q : qRet (none) b_M_answers WW QR) (σ0 σ1 : qS) (w t p fr to m : Int) (hp : P_M_answers w t p fr to σ0) (hk : σ0 56 (w * 38 + t) ≠ -1) (hm : 0 ≤ m ∧ m < 96) (q1 : Q_M_send to 6 t fr 0 0 σ0 m σ1) (hq : ∀ σ', Q_M_answers w t p fr to σ0 σ' → QR none σ') :
    ∀ (r k : Nat) (σ : qS) (fd n mo : Int), (k : Int) + r = σ0 57 (w * 38 + t) → AI σ1 σ m (chC (fpt σ0 p ((dkp σ0 w t).take k)) fr.toNat) → fd = (fpt σ0 p ((dkp σ0 w t).take k)).length → n = (chC (fpt σ0 p ((dkp σ0 w t).take k)) fr.toNat).length → mo = chM (fpt σ0 p ((dkp σ0 w t).take k)) fr.toNat → WW 62 [] [some (.inr (.inr 900)), some (.inl w), some (.inl t), some (.inl p), some (.inl fr), some (.inl to), some (.inl (w * 1000 + σ0 56 (w * 38 + t))), some (.inl fd), some (.inl n), some (.inl mo), some (.inl m), some (.inl (k : Int))] σ := by
  obtain ⟨hw, ht, hfr, hl, hj, hkk⟩ := hp
  obtain ⟨k1, k2, k3⟩ := hkk hk
  have hdl : (dkp σ0 w t).length = (σ0 57 (w * 38 + t)).toNat := by unfold dkp; rw [row_len]
  have e1 : z_add (z_mul w 38) t = w * 38 + t := by unfold z_add z_mul; rw [w32_i (w * 38) (by omega) (by omega), w32_i _ (by omega) (by omega)]
  intro r
  induction r with
  | zero =>
    intro k σ fd n mo hkr hI hfd hn hmo
    refine s_M_answers_62 S Q _ _ _ ?_
    simp only [k_M_answers_0, k_M_answers_15, k_M_answers_16, k_M_answers_62, k_M_answers_78, k_M_answers_96, k_M_answers_99, k_M_answers_106, k_M_answers_113, k_M_answers_119, k_M_answers_168, k_M_answers_171, k_M_answers_177, k_M_answers_197, k_M_answers_201, k_M_answers_202, oc_M_close, oc_M_partOf, oc_M_send, o_c, o_il, o_ll, o_al, o_is, o_as, o_ls, o_inc, o_bi, o_bid, o_bl, o_bld, o_sl, o_i2l, o_l2i, o_dup, o_dup2, o_pop, o_pop2, o_if, o_i2, o_l2, swg, o_sw, o_gI, o_gZ, o_gJ, o_gA, o_gR, o_pI, o_pZ, o_pJ, o_pR, o_ia, o_iak, o_zak, o_ja, o_jak, o_is_, o_isk, o_zsk, o_js_, o_jsk, o_len, o_ri, o_rz, o_rl, o_rv, ls1, ls2, lks, lkj, List.getD_cons_zero, List.getD_cons_succ, List.set_cons_zero, List.set_cons_succ, qcat, true_and, and_true, List.map_nil, List.map_cons, List.sum_nil, List.sum_cons, Nat.reduceAdd, Nat.reduceLeDiff, Nat.zero_le, Int.reduceAdd, Int.reduceNeg, Int.reduceEq, or_true, true_or, Decidable.not_not, false_implies, not_false_eq_true, true_implies, not_true_eq_false, Int.reduceLT, Int.reduceLE]
    rw [e1, hI.1 57 (by decide), q1.1 57 (by decide)]
    rw [List.take_of_length_le (by omega)] at hI hn hmo
    exact ⟨by omega, fun _ => v_M_answers_177 S Q σ0 σ1 σ w t p fr to m _ _ _ n mo _ rfl hk hfr hm q1 hn hmo hI hq, fun h => by omega⟩
  | succ r ih =>
    intro k σ fd n mo hkr hI hfd hn hmo
    refine s_M_answers_62 S Q _ _ _ ?_
    simp only [k_M_answers_0, k_M_answers_15, k_M_answers_16, k_M_answers_62, k_M_answers_78, k_M_answers_96, k_M_answers_99, k_M_answers_106, k_M_answers_113, k_M_answers_119, k_M_answers_168, k_M_answers_171, k_M_answers_177, k_M_answers_197, k_M_answers_201, k_M_answers_202, oc_M_close, oc_M_partOf, oc_M_send, o_c, o_il, o_ll, o_al, o_is, o_as, o_ls, o_inc, o_bi, o_bid, o_bl, o_bld, o_sl, o_i2l, o_l2i, o_dup, o_dup2, o_pop, o_pop2, o_if, o_i2, o_l2, swg, o_sw, o_gI, o_gZ, o_gJ, o_gA, o_gR, o_pI, o_pZ, o_pJ, o_pR, o_ia, o_iak, o_zak, o_ja, o_jak, o_is_, o_isk, o_zsk, o_js_, o_jsk, o_len, o_ri, o_rz, o_rl, o_rv, ls1, ls2, lks, lkj, List.getD_cons_zero, List.getD_cons_succ, List.set_cons_zero, List.set_cons_succ, qcat, true_and, and_true, List.map_nil, List.map_cons, List.sum_nil, List.sum_cons, Nat.reduceAdd, Nat.reduceLeDiff, Nat.zero_le, Int.reduceAdd, Int.reduceNeg, Int.reduceEq, or_true, true_or, Decidable.not_not, false_implies, not_false_eq_true, true_implies, not_true_eq_false, Int.reduceLT, Int.reduceLE]
    rw [e1, hI.1 57 (by decide), q1.1 57 (by decide)]
    have e2 : z_add (w * 1000 + σ0 56 (w * 38 + t)) (k : Int) = w * 1000 + σ0 56 (w * 38 + t) + k := by unfold z_add; exact w32_i _ (by omega) (by omega)
    have hcl := chC_len (fpt σ0 p ((dkp σ0 w t).take k)) fr.toNat
    have e3 : z_add (z_mul m 8) n = m * 8 + n := z_m8 hm (by omega)
    have hfl : (fpt σ0 p ((dkp σ0 w t).take k)).length ≤ k := by
      unfold fpt
      have := List.length_filter_le (fun x : Pr => prt σ0 x.1 == p) ((dkp σ0 w t).take k)
      rw [List.length_take] at this; omega
    have eK : σ 59 = σ0 59 := by rw [hI.1 _ (by decide), q1.1 _ (by decide)]
    have eV : σ 60 = σ0 60 := by rw [hI.1 _ (by decide), q1.1 _ (by decide)]
    have jk := jobok_keep hj (σ' := σ) (fun q hq' => by rw [hI.1 q (by intro e; simp only [List.mem_cons, List.not_mem_nil, or_false] at hq' e; omega), q1.1 q (by intro e; simp only [List.mem_cons, List.not_mem_nil, or_false] at hq' e; omega)])
    have eP : σ 13 = σ0 13 := by rw [hI.1 _ (by decide), q1.1 _ (by decide)]
    generalize hx : ((σ0 59 (w * 1000 + σ0 56 (w * 38 + t) + k), σ0 60 (w * 1000 + σ0 56 (w * 38 + t) + k)) : Pr) = x
    have hx1 : σ0 59 (w * 1000 + σ0 56 (w * 38 + t) + k) = x.1 := by rw [← hx]
    have hx2 : σ0 60 (w * 1000 + σ0 56 (w * 38 + t) + k) = x.2 := by rw [← hx]
    have htk : (dkp σ0 w t).take (k + 1) = (dkp σ0 w t).take k ++ [x] := by
      unfold dkp
      rw [row_take (by omega), row_take (by omega), row_s, hx]
    have hft : fpt σ0 p ((dkp σ0 w t).take (k + 1)) = fpt σ0 p ((dkp σ0 w t).take k) ++ (if prt σ0 x.1 = p then [x] else []) := by
      rw [htk]; unfold fpt; rw [List.filter_append]; congr 1
      by_cases e : prt σ0 x.1 = p <;> simp [e]
    rw [e2, e3, eK, hx1, w32_i ((k : Int) + 1) (by omega) (by omega), w32_i (fd + 1) (by omega) (by omega), w32_i (n + 1) (by omega) (by omega)]
    refine ⟨by omega, fun h => by omega, fun _ => ⟨by omega, jk.1, fun rr σ' q2 => ?_⟩⟩
    obtain ⟨e9, rfl⟩ := q2; replace e9 := e9.symm; subst e9
    have ep : prt σ x.1 = prt σ0 x.1 := by unfold prt; rw [jk.2.1, eP]
    rw [ep, eK, hx1]
    refine ⟨fun hpp => ?_, fun hpp => ?_⟩
    · rw [if_pos hpp] at hft
      refine ⟨fun hlt => ?_, fun hge => ⟨fun n8 => ?_, fun n8 => ?_⟩⟩
      · refine ih (k + 1) σ (fd + 1) n mo (by omega) ?_ ?_ ?_ ?_
        · rw [hft, chC_lt (by omega)]; exact hI
        · rw [hft, List.length_append]; simp; exact hfd
        · rw [hft, chC_lt (by omega)]; exact hn
        · rw [hft, hmo]; unfold chM; rw [if_neg (by omega), if_neg (by simp; omega)]
      · rw [su_k (by decide), eV, hx2]
        refine ⟨by omega, by omega, by omega, by omega, ih (k + 1) _ (fd + 1) (n + 1) mo (by omega) ?_ ?_ ?_ ?_⟩
        · rw [hft, chC_mid (by omega) (by omega), hn]; exact AI_s hI (by omega)
        · rw [hft, List.length_append]; simp; exact hfd
        · rw [hft, chC_mid (by omega) (by omega), List.length_append]; simp; exact hn
        · rw [hft, hmo]; unfold chM; rw [if_neg (by omega), if_neg (by simp; omega)]
      · refine ih (k + 1) σ (fd + 1) n 1 (by omega) ?_ ?_ ?_ ?_
        · rw [hft, chC_ge (by omega)]; exact hI
        · rw [hft, List.length_append]; simp; exact hfd
        · rw [hft, chC_ge (by omega)]; exact hn
        · rw [hft]; unfold chM; rw [if_pos (by simp; omega)]
    · rw [if_neg hpp, List.append_nil] at hft
      refine ih (k + 1) σ fd n mo (by omega) ?_ ?_ ?_ ?_ <;> rw [hft] <;> assumption
theorem w_M_answers {l : Launch} {ad : Nat → Nat} {D : va_G} {cA : Nat → ClassId} {WW : Nat → qP} {QR : Option qA → qS → Prop} (S : qSnd l rm_M_answers ad D cA R_M b_M_answers 12 WW) (Q : qRet (none) b_M_answers WW QR) (a1 : Int) (a2 : Int) (a3 : Int) (a4 : Int) (a5 : Int) (σ : qS) (ha1 : r32 a1) (ha2 : r32 a2) (ha3 : r32 a3) (ha4 : r32 a4) (ha5 : r32 a5) (hσ : qoS σ) (h : P_M_answers a1 a2 a3 a4 a5 σ) (hq : ∀ σ', Q_M_answers a1 a2 a3 a4 a5 σ σ' → QR none σ') : WW 0 [] [some (.inr (.inr 900)), some (.inl a1), some (.inl a2), some (.inl a3), some (.inl a4), some (.inl a5), none, none, none, none, none, none] σ := by
  refine s_M_answers_0 S Q _ _ _ ?_
  simp only [k_M_answers_0, k_M_answers_15, k_M_answers_16, k_M_answers_62, k_M_answers_78, k_M_answers_96, k_M_answers_99, k_M_answers_106, k_M_answers_113, k_M_answers_119, k_M_answers_168, k_M_answers_171, k_M_answers_177, k_M_answers_197, k_M_answers_201, k_M_answers_202, oc_M_close, oc_M_partOf, oc_M_send, o_c, o_il, o_ll, o_al, o_is, o_as, o_ls, o_inc, o_bi, o_bid, o_bl, o_bld, o_sl, o_i2l, o_l2i, o_dup, o_dup2, o_pop, o_pop2, o_if, o_i2, o_l2, swg, o_sw, o_gI, o_gZ, o_gJ, o_gA, o_gR, o_pI, o_pZ, o_pJ, o_pR, o_ia, o_iak, o_zak, o_ja, o_jak, o_is_, o_isk, o_zsk, o_js_, o_jsk, o_len, o_ri, o_rz, o_rl, o_rv, ls1, ls2, lks, lkj, List.getD_cons_zero, List.getD_cons_succ, List.set_cons_zero, List.set_cons_succ, qcat, true_and, and_true, List.map_nil, List.map_cons, List.sum_nil, List.sum_cons, Nat.reduceAdd, Nat.reduceLeDiff, Nat.zero_le, Int.reduceAdd, Int.reduceNeg, Int.reduceEq, or_true, true_or, Decidable.not_not, false_implies, not_false_eq_true, true_implies, not_true_eq_false, Int.reduceLT, Int.reduceLE]
  have hp := h
  obtain ⟨hw, ht, hfr, hl, hj, hkk⟩ := h
  have e1 : z_add (z_mul a1 38) a2 = a1 * 38 + a2 := by unfold z_add z_mul; rw [w32_i (a1 * 38) (by omega) (by omega), w32_i _ (by omega) (by omega)]
  rw [e1]
  refine ⟨by omega, fun hne => ?_, fun he => hq _ (Or.inl ⟨he, rfl⟩)⟩
  obtain ⟨k1, k2, k3⟩ := hkk hne
  have e2 : z_add (z_mul a1 1000) (σ 56 (a1 * 38 + a2)) = a1 * 1000 + σ 56 (a1 * 38 + a2) := by unfold z_add z_mul; rw [w32_i (a1 * 1000) (by omega) (by omega), w32_i _ (by omega) (by omega)]
  rw [e2]
  refine ⟨by omega, hl, fun m σ1 q1 => ?_⟩
  have := v_M_answers_62 S Q σ σ1 a1 a2 a3 a4 a5 m hp hne q1.2.1 q1 hq (σ 57 (a1 * 38 + a2)).toNat 0 σ1 0 0 0 (by omega) ⟨fun _ _ => rfl, fun _ _ => ⟨rfl, rfl⟩, by simp [fpt, chC, row]⟩ (by simp [fpt]) (by simp [fpt, chC]) (by simp [fpt, chM])
  exact this
theorem c_M_answers (l : Launch) (ad : Nat → Nat) (D : va_G) (cA : Nat → ClassId) : qC l ad D cA y_M_answers (Cond.code y_M_answers b_M_answers 12 (none) :: lw_g) rm_M_answers pre_M_answers post_M_answers := by
  refine qC_of (own := R_M) (by decide) rfl ⟨rfl, rfl⟩ ?_ ?_
  · intro av σ h; unfold pre_M_answers at h; split at h
    · simp [qen]
    · exact h.elim
  · intro WW QR S Q av σ hav hσ h hq; unfold pre_M_answers at h; split at h
    next o a1 a2 a3 a4 a5 =>
      obtain ⟨rfl, h⟩ := h
      exact w_M_answers S Q a1 a2 a3 a4 a5 σ (hav _ (List.mem_of_getElem? (i := 1) rfl)) (hav _ (List.mem_of_getElem? (i := 2) rfl)) (hav _ (List.mem_of_getElem? (i := 3) rfl)) (hav _ (List.mem_of_getElem? (i := 4) rfl)) (hav _ (List.mem_of_getElem? (i := 5) rfl)) hσ h (fun σ' h' => hq _ σ' h')
    next => exact h.elim

