def gst (σ : qS) (w t : Int) (x : Int × Int × Int) : Int × Int × Int := if isdn σ t ≠ 0 then x else (if σ 37 t = w ∧ x.1 = -1 then t else x.1, if σ 37 t = -1 ∧ x.2.1 = -1 then t else x.2.1, if σ 37 t ≠ -1 ∧ 25 < z_sub (σ 39 0) (σ 38 t) ∧ (x.2.2 = -1 ∨ σ 38 t < σ 38 x.2.2) then t else x.2.2)
def gfl (σ : qS) (w : Int) : Nat → Int → Int × Int × Int → Int × Int × Int
  | 0, _, x => x
  | n + 1, t, x => gfl σ w n (t + 1) (gst σ w t x)
def gpk (x : Int × Int × Int) : Int := if x.1 ≠ -1 then x.1 else if x.2.1 ≠ -1 then x.2.1 else x.2.2
def gch (σ : qS) (w fi en : Int) : Int := gpk (gfl σ w (en - fi).toNat fi (-1, -1, -1))
def P_M_give (w : Int) (σ : qS) : Prop := lok σ ∧ jobok σ
def Q_M_give (w : Int) (σ σ' : qS) : Prop := ∃ fi en, ((mapd σ ∧ fi = 38 ∧ en = 38 + σ 13 (jb σ)) ∨ (¬ mapd σ ∧ fi = 0 ∧ en = spl σ)) ∧ ((gch σ w fi en = -1 ∧ σ' = σ) ∨ (gch σ w fi en ≠ -1 ∧ Q_M_tell w 2 (gch σ w fi en) 0 0 0 (su (su σ 37 (gch σ w fi en) w) 38 (gch σ w fi en) (σ 39 0)) σ'))
def pre_M_give (av : List qA) (σ : qS) : Prop := match av with
  | [.inr (.inr o), .inl a1] => o = 900 ∧ P_M_give a1 σ
  | _ => False
def post_M_give (av : List qA) (σ : qS) (r : Option qA) (σ' : qS) : Prop := match av, r with
  | [_, .inl a1], none => Q_M_give a1 σ σ'
  | _, _ => False
def oc_M_give (K : qP) : qP := fun st ls σ => match st with
  | .inl a1 :: .inr (.inr o) :: st => o = 900 ∧ (st.map qcat).sum ≤ 8 ∧ P_M_give a1 σ ∧ ∀ (σ' : qS), Q_M_give a1 σ σ' → K st ls σ'
  | _ => False
def rm_M_give : Room := { frames := 4, cells := 0, slots := 0, locals := 98 }
theorem fl_M_75 : qF R_M 900 0 82 0 R_M F_M 75 37 := ⟨Or.inl ⟨rfl, rfl, rfl, rfl, rfl, rfl⟩, by decide, lw_at 115 (by decide +kernel) rfl⟩
theorem fl_M_78 : qF R_M 900 0 82 0 R_M F_M 78 38 := ⟨Or.inl ⟨rfl, rfl, rfl, rfl, rfl, rfl⟩, by decide, lw_at 116 (by decide +kernel) rfl⟩
theorem fl_M_305 : qF R_M 900 0 82 0 R_M F_M 305 39 := ⟨Or.inl ⟨rfl, rfl, rfl, rfl, rfl, rfl⟩, by decide, lw_at 117 (by decide +kernel) rfl⟩
theorem sc_M_338 {l : Launch} {R : Room} {ad : Nat → Nat} {D : va_G} {cA : Nat → ClassId} {cc : ByteArray} {nL : Nat} {WW : Nat → qP} (S : qSnd l R ad D cA R_M cc nL WW) (hR : rm_M_isDone.frames + 1 ≤ R.frames ∧ 8 + (2 + 11) + rm_M_isDone.locals ≤ R.locals) {K : qP} {pc : Nat} (d : decode cc pc = .ok (.invokevirtual 338, 3)) (h : qle K WW (pc + 3)) : qle (oc_M_isDone K) WW pc := by
  intro st ls σ k
  refine S.callV (o := 900) (ci := 0) (N := 82) (base := 0) (C := R_M) (T := F_M) (n := 1) (pre := pre_M_isDone) (post := post_M_isDone) (Or.inl ⟨rfl, rfl, rfl, rfl, rfl, rfl⟩) ⟨lw_at 600 (by decide +kernel) rfl, lw_at 597 (by decide +kernel) rfl, lw_at 59 (by decide +kernel) rfl, by decide, by decide, by decide +kernel⟩ ⟨lw_at 599 (by decide +kernel) rfl, lw_at 18 (by decide +kernel) rfl⟩ ⟨rfl, rfl⟩ hR (c_M_isDone l ad D cA) ?_ d h st ls σ ?_
  · intro av σ h; unfold pre_M_isDone at h; split at h
    · obtain ⟨rfl, h⟩ := h; exact ⟨_, rfl⟩
    · exact h.elim
  · unfold oc_M_isDone at k
    split at k
    next a1 o st =>
      obtain ⟨rfl, hs, hp, k⟩ := k
      refine ⟨[.inr (.inr 900), .inl a1], st, rfl, rfl, hs, ⟨rfl, hp⟩, fun r σ' hq => ?_⟩
      unfold post_M_isDone at hq
      split at hq
      next h1 =>
        cases h1
        exact k _ _ hq
      next => exact hq.elim
    next => exact k.elim
theorem sc_M_316 {l : Launch} {R : Room} {ad : Nat → Nat} {D : va_G} {cA : Nat → ClassId} {cc : ByteArray} {nL : Nat} {WW : Nat → qP} (S : qSnd l R ad D cA R_M cc nL WW) (hR : rm_M_isMapped.frames + 1 ≤ R.frames ∧ 8 + (3 + 11) + rm_M_isMapped.locals ≤ R.locals) {K : qP} {pc : Nat} (d : decode cc pc = .ok (.invokevirtual 316, 3)) (h : qle K WW (pc + 3)) : qle (oc_M_isMapped K) WW pc := by
  intro st ls σ k
  refine S.callV (o := 900) (ci := 0) (N := 82) (base := 0) (C := R_M) (T := F_M) (n := 0) (pre := pre_M_isMapped) (post := post_M_isMapped) (Or.inl ⟨rfl, rfl, rfl, rfl, rfl, rfl⟩) ⟨lw_at 596 (by decide +kernel) rfl, lw_at 593 (by decide +kernel) rfl, lw_at 59 (by decide +kernel) rfl, by decide, by decide, by decide +kernel⟩ ⟨lw_at 595 (by decide +kernel) rfl, lw_at 17 (by decide +kernel) rfl⟩ ⟨rfl, rfl⟩ hR (c_M_isMapped l ad D cA) ?_ d h st ls σ ?_
  · intro av σ h; unfold pre_M_isMapped at h; split at h
    · obtain ⟨rfl, h⟩ := h; exact ⟨_, rfl⟩
    · exact h.elim
  · unfold oc_M_isMapped at k
    split at k
    next o st =>
      obtain ⟨rfl, hs, hp, k⟩ := k
      refine ⟨[.inr (.inr 900)], st, rfl, rfl, hs, ⟨rfl, hp⟩, fun r σ' hq => ?_⟩
      unfold post_M_isMapped at hq
      split at hq
      next h1 =>
        cases h1
        exact k _ _ hq
      next => exact hq.elim
    next => exact k.elim
def k_M_give_207 (QR : Option qA → qS → Prop) (H : Nat → qP) : qP :=
  o_al 0 <| o_gA 900 37 <| o_il 7 <| o_il 1 <| o_isk 37 44 <| o_al 0 <| o_gA 900 38 <| o_il 7 <| o_al 0 <| o_gI 900 39 <| o_isk 38 44 <| o_al 0 <| o_il 1 <| o_c (.inl 2) <| o_il 7 <| o_c (.inl 0) <| o_c (.inl 0) <| o_c (.inl 0) <| oc_M_tell <| o_rv QR
def k_M_give_206 (QR : Option qA → qS → Prop) (H : Nat → qP) : qP :=
  o_rv QR
def k_M_give_198 (QR : Option qA → qS → Prop) (H : Nat → qP) : qP :=
  o_is 7 <| o_il 7 <| o_c (.inl (-1)) <| o_i2 (fun a b => ¬ a = b) (k_M_give_207 QR H) (k_M_give_206 QR H)
def k_M_give_196 (QR : Option qA → qS → Prop) (H : Nat → qP) : qP :=
  o_il 6 <| k_M_give_198 QR H
def k_M_give_191 (QR : Option qA → qS → Prop) (H : Nat → qP) : qP :=
  o_il 5 <| k_M_give_198 QR H
def k_M_give_185 (QR : Option qA → qS → Prop) (H : Nat → qP) : qP :=
  o_il 5 <| o_c (.inl (-1)) <| o_i2 (fun a b => a = b) (k_M_give_196 QR H) (k_M_give_191 QR H)
def k_M_give_180 (QR : Option qA → qS → Prop) (H : Nat → qP) : qP :=
  o_il 4 <| k_M_give_198 QR H
def k_M_give_174 (QR : Option qA → qS → Prop) (H : Nat → qP) : qP :=
  o_il 4 <| o_c (.inl (-1)) <| o_i2 (fun a b => a = b) (k_M_give_185 QR H) (k_M_give_180 QR H)
def k_M_give_168 (QR : Option qA → qS → Prop) (H : Nat → qP) : qP :=
  o_inc 7 1 <| H 53
def k_M_give_164 (QR : Option qA → qS → Prop) (H : Nat → qP) : qP :=
  o_il 7 <| o_is 6 <| k_M_give_168 QR H
def k_M_give_147 (QR : Option qA → qS → Prop) (H : Nat → qP) : qP :=
  o_al 0 <| o_gA 900 38 <| o_il 7 <| o_iak 38 44 <| o_al 0 <| o_gA 900 38 <| o_il 6 <| o_iak 38 44 <| o_i2 (fun a b => b ≤ a) (k_M_give_168 QR H) (k_M_give_164 QR H)
def k_M_give_141 (QR : Option qA → qS → Prop) (H : Nat → qP) : qP :=
  o_il 6 <| o_c (.inl (-1)) <| o_i2 (fun a b => a = b) (k_M_give_164 QR H) (k_M_give_147 QR H)
def k_M_give_124 (QR : Option qA → qS → Prop) (H : Nat → qP) : qP :=
  o_al 0 <| o_gI 900 39 <| o_al 0 <| o_gA 900 38 <| o_il 7 <| o_iak 38 44 <| o_bi z_sub <| o_c (.inl 25) <| o_i2 (fun a b => a ≤ b) (k_M_give_168 QR H) (k_M_give_141 QR H)
def k_M_give_113 (QR : Option qA → qS → Prop) (H : Nat → qP) : qP :=
  o_al 0 <| o_gA 900 37 <| o_il 7 <| o_iak 37 44 <| o_c (.inl (-1)) <| o_i2 (fun a b => a = b) (k_M_give_168 QR H) (k_M_give_124 QR H)
def k_M_give_109 (QR : Option qA → qS → Prop) (H : Nat → qP) : qP :=
  o_il 7 <| o_is 5 <| H 113
def k_M_give_103 (QR : Option qA → qS → Prop) (H : Nat → qP) : qP :=
  o_il 5 <| o_c (.inl (-1)) <| o_i2 (fun a b => ¬ a = b) (H 113) (k_M_give_109 QR H)
def k_M_give_92 (QR : Option qA → qS → Prop) (H : Nat → qP) : qP :=
  o_al 0 <| o_gA 900 37 <| o_il 7 <| o_iak 37 44 <| o_c (.inl (-1)) <| o_i2 (fun a b => ¬ a = b) (H 113) (k_M_give_103 QR H)
def k_M_give_88 (QR : Option qA → qS → Prop) (H : Nat → qP) : qP :=
  o_il 7 <| o_is 4 <| H 92
def k_M_give_82 (QR : Option qA → qS → Prop) (H : Nat → qP) : qP :=
  o_il 4 <| o_c (.inl (-1)) <| o_i2 (fun a b => ¬ a = b) (H 92) (k_M_give_88 QR H)
def k_M_give_71 (QR : Option qA → qS → Prop) (H : Nat → qP) : qP :=
  o_al 0 <| o_gA 900 37 <| o_il 7 <| o_iak 37 44 <| o_il 1 <| o_i2 (fun a b => ¬ a = b) (H 92) (k_M_give_82 QR H)
def k_M_give_68 (QR : Option qA → qS → Prop) (H : Nat → qP) : qP :=
  k_M_give_168 QR H
def k_M_give_59 (QR : Option qA → qS → Prop) (H : Nat → qP) : qP :=
  o_al 0 <| o_il 7 <| oc_M_isDone <| o_if (fun a => a = 0) (k_M_give_71 QR H) (k_M_give_68 QR H)
def k_M_give_53 (QR : Option qA → qS → Prop) (H : Nat → qP) : qP :=
  o_il 7 <| o_il 3 <| o_i2 (fun a b => b ≤ a) (k_M_give_174 QR H) (k_M_give_59 QR H)
def k_M_give_40 (QR : Option qA → qS → Prop) (H : Nat → qP) : qP :=
  o_is 3 <| o_c (.inl (-1)) <| o_is 4 <| o_c (.inl (-1)) <| o_is 5 <| o_c (.inl (-1)) <| o_is 6 <| o_il 2 <| o_is 7 <| H 53
def k_M_give_36 (QR : Option qA → qS → Prop) (H : Nat → qP) : qP :=
  o_al 0 <| oc_M_splits <| k_M_give_40 QR H
def k_M_give_21 (QR : Option qA → qS → Prop) (H : Nat → qP) : qP :=
  o_c (.inl 38) <| o_al 0 <| o_gA 900 13 <| o_al 0 <| oc_M_job <| o_iak 13 8 <| o_bi z_add <| k_M_give_40 QR H
def k_M_give_13 (QR : Option qA → qS → Prop) (H : Nat → qP) : qP :=
  o_is 2 <| o_al 0 <| oc_M_isMapped <| o_if (fun a => a = 0) (k_M_give_36 QR H) (k_M_give_21 QR H)
def k_M_give_12 (QR : Option qA → qS → Prop) (H : Nat → qP) : qP :=
  o_c (.inl 0) <| k_M_give_13 QR H
def k_M_give_7 (QR : Option qA → qS → Prop) (H : Nat → qP) : qP :=
  o_c (.inl 38) <| k_M_give_13 QR H
def k_M_give_0 (QR : Option qA → qS → Prop) (H : Nat → qP) : qP :=
  o_al 0 <| oc_M_isMapped <| o_if (fun a => a = 0) (k_M_give_12 QR H) (k_M_give_7 QR H)
set_option maxRecDepth 8000 in
theorem s_M_give_207 {l : Launch} {ad : Nat → Nat} {D : va_G} {cA : Nat → ClassId} {WW : Nat → qP} {QR : Option qA → qS → Prop} (S : qSnd l rm_M_give ad D cA R_M b_M_give 8 WW) (Q : qRet (none) b_M_give WW QR) : qle (k_M_give_207 QR WW) WW 207 :=
  S.aload_n d_M_give_207 rfl <| S.gA fl_M_75 (by decide) d_M_give_208 <| S.iload d_M_give_211 <| S.iload_n d_M_give_213 rfl <| S.isk (by decide) d_M_give_214 <| S.aload_n d_M_give_215 rfl <| S.gA fl_M_78 (by decide) d_M_give_216 <| S.iload d_M_give_219 <| S.aload_n d_M_give_221 rfl <| S.gI fl_M_305 (by decide) d_M_give_222 <| S.isk (by decide) d_M_give_225 <| S.aload_n d_M_give_226 rfl <| S.iload_n d_M_give_227 rfl <| S.iconst d_M_give_228 (by decide) <| S.iload d_M_give_229 <| S.iconst d_M_give_231 (by decide) <| S.iconst d_M_give_232 (by decide) <| S.iconst d_M_give_233 (by decide) <| sc_M_341 S (by decide) d_M_give_234 <| Q.2.2.2 rfl _ d_M_give_237
set_option maxRecDepth 8000 in
theorem s_M_give_206 {l : Launch} {ad : Nat → Nat} {D : va_G} {cA : Nat → ClassId} {WW : Nat → qP} {QR : Option qA → qS → Prop} (S : qSnd l rm_M_give ad D cA R_M b_M_give 8 WW) (Q : qRet (none) b_M_give WW QR) : qle (k_M_give_206 QR WW) WW 206 :=
  Q.2.2.2 rfl _ d_M_give_206
set_option maxRecDepth 8000 in
theorem s_M_give_198 {l : Launch} {ad : Nat → Nat} {D : va_G} {cA : Nat → ClassId} {WW : Nat → qP} {QR : Option qA → qS → Prop} (S : qSnd l rm_M_give ad D cA R_M b_M_give 8 WW) (Q : qRet (none) b_M_give WW QR) : qle (k_M_give_198 QR WW) WW 198 :=
  S.istore d_M_give_198 (by decide) <| S.iload d_M_give_200 <| S.iconst d_M_give_202 (by decide) <| S.icmp_ne d_M_give_203 (by decide) (s_M_give_207 S Q) (s_M_give_206 S Q)
set_option maxRecDepth 8000 in
theorem s_M_give_196 {l : Launch} {ad : Nat → Nat} {D : va_G} {cA : Nat → ClassId} {WW : Nat → qP} {QR : Option qA → qS → Prop} (S : qSnd l rm_M_give ad D cA R_M b_M_give 8 WW) (Q : qRet (none) b_M_give WW QR) : qle (k_M_give_196 QR WW) WW 196 :=
  S.iload d_M_give_196 <| (s_M_give_198 S Q)
set_option maxRecDepth 8000 in
theorem s_M_give_191 {l : Launch} {ad : Nat → Nat} {D : va_G} {cA : Nat → ClassId} {WW : Nat → qP} {QR : Option qA → qS → Prop} (S : qSnd l rm_M_give ad D cA R_M b_M_give 8 WW) (Q : qRet (none) b_M_give WW QR) : qle (k_M_give_191 QR WW) WW 191 :=
  S.iload d_M_give_191 <| S.goto d_M_give_193 (by decide) (s_M_give_198 S Q)
set_option maxRecDepth 8000 in
theorem s_M_give_185 {l : Launch} {ad : Nat → Nat} {D : va_G} {cA : Nat → ClassId} {WW : Nat → qP} {QR : Option qA → qS → Prop} (S : qSnd l rm_M_give ad D cA R_M b_M_give 8 WW) (Q : qRet (none) b_M_give WW QR) : qle (k_M_give_185 QR WW) WW 185 :=
  S.iload d_M_give_185 <| S.iconst d_M_give_187 (by decide) <| S.icmp_eq d_M_give_188 (by decide) (s_M_give_196 S Q) (s_M_give_191 S Q)
set_option maxRecDepth 8000 in
theorem s_M_give_180 {l : Launch} {ad : Nat → Nat} {D : va_G} {cA : Nat → ClassId} {WW : Nat → qP} {QR : Option qA → qS → Prop} (S : qSnd l rm_M_give ad D cA R_M b_M_give 8 WW) (Q : qRet (none) b_M_give WW QR) : qle (k_M_give_180 QR WW) WW 180 :=
  S.iload d_M_give_180 <| S.goto d_M_give_182 (by decide) (s_M_give_198 S Q)
set_option maxRecDepth 8000 in
theorem s_M_give_174 {l : Launch} {ad : Nat → Nat} {D : va_G} {cA : Nat → ClassId} {WW : Nat → qP} {QR : Option qA → qS → Prop} (S : qSnd l rm_M_give ad D cA R_M b_M_give 8 WW) (Q : qRet (none) b_M_give WW QR) : qle (k_M_give_174 QR WW) WW 174 :=
  S.iload d_M_give_174 <| S.iconst d_M_give_176 (by decide) <| S.icmp_eq d_M_give_177 (by decide) (s_M_give_185 S Q) (s_M_give_180 S Q)
set_option maxRecDepth 8000 in
theorem s_M_give_168 {l : Launch} {ad : Nat → Nat} {D : va_G} {cA : Nat → ClassId} {WW : Nat → qP} {QR : Option qA → qS → Prop} (S : qSnd l rm_M_give ad D cA R_M b_M_give 8 WW) (Q : qRet (none) b_M_give WW QR) : qle (k_M_give_168 QR WW) WW 168 :=
  S.iinc d_M_give_168 (by decide) <| S.goto d_M_give_171 (by decide) (fun _ _ _ h => h)
set_option maxRecDepth 8000 in
theorem s_M_give_164 {l : Launch} {ad : Nat → Nat} {D : va_G} {cA : Nat → ClassId} {WW : Nat → qP} {QR : Option qA → qS → Prop} (S : qSnd l rm_M_give ad D cA R_M b_M_give 8 WW) (Q : qRet (none) b_M_give WW QR) : qle (k_M_give_164 QR WW) WW 164 :=
  S.iload d_M_give_164 <| S.istore d_M_give_166 (by decide) <| (s_M_give_168 S Q)
set_option maxRecDepth 8000 in
theorem s_M_give_147 {l : Launch} {ad : Nat → Nat} {D : va_G} {cA : Nat → ClassId} {WW : Nat → qP} {QR : Option qA → qS → Prop} (S : qSnd l rm_M_give ad D cA R_M b_M_give 8 WW) (Q : qRet (none) b_M_give WW QR) : qle (k_M_give_147 QR WW) WW 147 :=
  S.aload_n d_M_give_147 rfl <| S.gA fl_M_78 (by decide) d_M_give_148 <| S.iload d_M_give_151 <| S.iak (by decide) d_M_give_153 <| S.aload_n d_M_give_154 rfl <| S.gA fl_M_78 (by decide) d_M_give_155 <| S.iload d_M_give_158 <| S.iak (by decide) d_M_give_160 <| S.icmp_ge d_M_give_161 (by decide) (s_M_give_168 S Q) (s_M_give_164 S Q)
set_option maxRecDepth 8000 in
theorem s_M_give_141 {l : Launch} {ad : Nat → Nat} {D : va_G} {cA : Nat → ClassId} {WW : Nat → qP} {QR : Option qA → qS → Prop} (S : qSnd l rm_M_give ad D cA R_M b_M_give 8 WW) (Q : qRet (none) b_M_give WW QR) : qle (k_M_give_141 QR WW) WW 141 :=
  S.iload d_M_give_141 <| S.iconst d_M_give_143 (by decide) <| S.icmp_eq d_M_give_144 (by decide) (s_M_give_164 S Q) (s_M_give_147 S Q)
set_option maxRecDepth 8000 in
theorem s_M_give_124 {l : Launch} {ad : Nat → Nat} {D : va_G} {cA : Nat → ClassId} {WW : Nat → qP} {QR : Option qA → qS → Prop} (S : qSnd l rm_M_give ad D cA R_M b_M_give 8 WW) (Q : qRet (none) b_M_give WW QR) : qle (k_M_give_124 QR WW) WW 124 :=
  S.aload_n d_M_give_124 rfl <| S.gI fl_M_305 (by decide) d_M_give_125 <| S.aload_n d_M_give_128 rfl <| S.gA fl_M_78 (by decide) d_M_give_129 <| S.iload d_M_give_132 <| S.iak (by decide) d_M_give_134 <| S.isub d_M_give_135 <| S.bipush d_M_give_136 (by decide) <| S.icmp_le d_M_give_138 (by decide) (s_M_give_168 S Q) (s_M_give_141 S Q)
set_option maxRecDepth 8000 in
theorem s_M_give_113 {l : Launch} {ad : Nat → Nat} {D : va_G} {cA : Nat → ClassId} {WW : Nat → qP} {QR : Option qA → qS → Prop} (S : qSnd l rm_M_give ad D cA R_M b_M_give 8 WW) (Q : qRet (none) b_M_give WW QR) : qle (k_M_give_113 QR WW) WW 113 :=
  S.aload_n d_M_give_113 rfl <| S.gA fl_M_75 (by decide) d_M_give_114 <| S.iload d_M_give_117 <| S.iak (by decide) d_M_give_119 <| S.iconst d_M_give_120 (by decide) <| S.icmp_eq d_M_give_121 (by decide) (s_M_give_168 S Q) (s_M_give_124 S Q)
set_option maxRecDepth 8000 in
theorem s_M_give_109 {l : Launch} {ad : Nat → Nat} {D : va_G} {cA : Nat → ClassId} {WW : Nat → qP} {QR : Option qA → qS → Prop} (S : qSnd l rm_M_give ad D cA R_M b_M_give 8 WW) (Q : qRet (none) b_M_give WW QR) : qle (k_M_give_109 QR WW) WW 109 :=
  S.iload d_M_give_109 <| S.istore d_M_give_111 (by decide) <| (fun _ _ _ h => h)
set_option maxRecDepth 8000 in
theorem s_M_give_103 {l : Launch} {ad : Nat → Nat} {D : va_G} {cA : Nat → ClassId} {WW : Nat → qP} {QR : Option qA → qS → Prop} (S : qSnd l rm_M_give ad D cA R_M b_M_give 8 WW) (Q : qRet (none) b_M_give WW QR) : qle (k_M_give_103 QR WW) WW 103 :=
  S.iload d_M_give_103 <| S.iconst d_M_give_105 (by decide) <| S.icmp_ne d_M_give_106 (by decide) (fun _ _ _ h => h) (s_M_give_109 S Q)
set_option maxRecDepth 8000 in
theorem s_M_give_92 {l : Launch} {ad : Nat → Nat} {D : va_G} {cA : Nat → ClassId} {WW : Nat → qP} {QR : Option qA → qS → Prop} (S : qSnd l rm_M_give ad D cA R_M b_M_give 8 WW) (Q : qRet (none) b_M_give WW QR) : qle (k_M_give_92 QR WW) WW 92 :=
  S.aload_n d_M_give_92 rfl <| S.gA fl_M_75 (by decide) d_M_give_93 <| S.iload d_M_give_96 <| S.iak (by decide) d_M_give_98 <| S.iconst d_M_give_99 (by decide) <| S.icmp_ne d_M_give_100 (by decide) (fun _ _ _ h => h) (s_M_give_103 S Q)
set_option maxRecDepth 8000 in
theorem s_M_give_88 {l : Launch} {ad : Nat → Nat} {D : va_G} {cA : Nat → ClassId} {WW : Nat → qP} {QR : Option qA → qS → Prop} (S : qSnd l rm_M_give ad D cA R_M b_M_give 8 WW) (Q : qRet (none) b_M_give WW QR) : qle (k_M_give_88 QR WW) WW 88 :=
  S.iload d_M_give_88 <| S.istore d_M_give_90 (by decide) <| (fun _ _ _ h => h)
set_option maxRecDepth 8000 in
theorem s_M_give_82 {l : Launch} {ad : Nat → Nat} {D : va_G} {cA : Nat → ClassId} {WW : Nat → qP} {QR : Option qA → qS → Prop} (S : qSnd l rm_M_give ad D cA R_M b_M_give 8 WW) (Q : qRet (none) b_M_give WW QR) : qle (k_M_give_82 QR WW) WW 82 :=
  S.iload d_M_give_82 <| S.iconst d_M_give_84 (by decide) <| S.icmp_ne d_M_give_85 (by decide) (fun _ _ _ h => h) (s_M_give_88 S Q)
set_option maxRecDepth 8000 in
theorem s_M_give_71 {l : Launch} {ad : Nat → Nat} {D : va_G} {cA : Nat → ClassId} {WW : Nat → qP} {QR : Option qA → qS → Prop} (S : qSnd l rm_M_give ad D cA R_M b_M_give 8 WW) (Q : qRet (none) b_M_give WW QR) : qle (k_M_give_71 QR WW) WW 71 :=
  S.aload_n d_M_give_71 rfl <| S.gA fl_M_75 (by decide) d_M_give_72 <| S.iload d_M_give_75 <| S.iak (by decide) d_M_give_77 <| S.iload_n d_M_give_78 rfl <| S.icmp_ne d_M_give_79 (by decide) (fun _ _ _ h => h) (s_M_give_82 S Q)
set_option maxRecDepth 8000 in
theorem s_M_give_68 {l : Launch} {ad : Nat → Nat} {D : va_G} {cA : Nat → ClassId} {WW : Nat → qP} {QR : Option qA → qS → Prop} (S : qSnd l rm_M_give ad D cA R_M b_M_give 8 WW) (Q : qRet (none) b_M_give WW QR) : qle (k_M_give_68 QR WW) WW 68 :=
  S.goto d_M_give_68 (by decide) (s_M_give_168 S Q)
set_option maxRecDepth 8000 in
theorem s_M_give_59 {l : Launch} {ad : Nat → Nat} {D : va_G} {cA : Nat → ClassId} {WW : Nat → qP} {QR : Option qA → qS → Prop} (S : qSnd l rm_M_give ad D cA R_M b_M_give 8 WW) (Q : qRet (none) b_M_give WW QR) : qle (k_M_give_59 QR WW) WW 59 :=
  S.aload_n d_M_give_59 rfl <| S.iload d_M_give_60 <| sc_M_338 S (by decide) d_M_give_62 <| S.if_eq d_M_give_65 (by decide) (s_M_give_71 S Q) (s_M_give_68 S Q)
set_option maxRecDepth 8000 in
theorem s_M_give_53 {l : Launch} {ad : Nat → Nat} {D : va_G} {cA : Nat → ClassId} {WW : Nat → qP} {QR : Option qA → qS → Prop} (S : qSnd l rm_M_give ad D cA R_M b_M_give 8 WW) (Q : qRet (none) b_M_give WW QR) : qle (k_M_give_53 QR WW) WW 53 :=
  S.iload d_M_give_53 <| S.iload_n d_M_give_55 rfl <| S.icmp_ge d_M_give_56 (by decide) (s_M_give_174 S Q) (s_M_give_59 S Q)
set_option maxRecDepth 8000 in
theorem s_M_give_40 {l : Launch} {ad : Nat → Nat} {D : va_G} {cA : Nat → ClassId} {WW : Nat → qP} {QR : Option qA → qS → Prop} (S : qSnd l rm_M_give ad D cA R_M b_M_give 8 WW) (Q : qRet (none) b_M_give WW QR) : qle (k_M_give_40 QR WW) WW 40 :=
  S.istore_n d_M_give_40 rfl (by decide) <| S.iconst d_M_give_41 (by decide) <| S.istore d_M_give_42 (by decide) <| S.iconst d_M_give_44 (by decide) <| S.istore d_M_give_45 (by decide) <| S.iconst d_M_give_47 (by decide) <| S.istore d_M_give_48 (by decide) <| S.iload_n d_M_give_50 rfl <| S.istore d_M_give_51 (by decide) <| (fun _ _ _ h => h)
set_option maxRecDepth 8000 in
theorem s_M_give_36 {l : Launch} {ad : Nat → Nat} {D : va_G} {cA : Nat → ClassId} {WW : Nat → qP} {QR : Option qA → qS → Prop} (S : qSnd l rm_M_give ad D cA R_M b_M_give 8 WW) (Q : qRet (none) b_M_give WW QR) : qle (k_M_give_36 QR WW) WW 36 :=
  S.aload_n d_M_give_36 rfl <| sc_M_329 S (by decide) d_M_give_37 <| (s_M_give_40 S Q)
set_option maxRecDepth 8000 in
theorem s_M_give_21 {l : Launch} {ad : Nat → Nat} {D : va_G} {cA : Nat → ClassId} {WW : Nat → qP} {QR : Option qA → qS → Prop} (S : qSnd l rm_M_give ad D cA R_M b_M_give 8 WW) (Q : qRet (none) b_M_give WW QR) : qle (k_M_give_21 QR WW) WW 21 :=
  S.bipush d_M_give_21 (by decide) <| S.aload_n d_M_give_23 rfl <| S.gA fl_M_48 (by decide) d_M_give_24 <| S.aload_n d_M_give_27 rfl <| sc_M_256 S (by decide) d_M_give_28 <| S.iak (by decide) d_M_give_31 <| S.iadd d_M_give_32 <| S.goto d_M_give_33 (by decide) (s_M_give_40 S Q)
set_option maxRecDepth 8000 in
theorem s_M_give_13 {l : Launch} {ad : Nat → Nat} {D : va_G} {cA : Nat → ClassId} {WW : Nat → qP} {QR : Option qA → qS → Prop} (S : qSnd l rm_M_give ad D cA R_M b_M_give 8 WW) (Q : qRet (none) b_M_give WW QR) : qle (k_M_give_13 QR WW) WW 13 :=
  S.istore_n d_M_give_13 rfl (by decide) <| S.aload_n d_M_give_14 rfl <| sc_M_316 S (by decide) d_M_give_15 <| S.if_eq d_M_give_18 (by decide) (s_M_give_36 S Q) (s_M_give_21 S Q)
set_option maxRecDepth 8000 in
theorem s_M_give_12 {l : Launch} {ad : Nat → Nat} {D : va_G} {cA : Nat → ClassId} {WW : Nat → qP} {QR : Option qA → qS → Prop} (S : qSnd l rm_M_give ad D cA R_M b_M_give 8 WW) (Q : qRet (none) b_M_give WW QR) : qle (k_M_give_12 QR WW) WW 12 :=
  S.iconst d_M_give_12 (by decide) <| (s_M_give_13 S Q)
set_option maxRecDepth 8000 in
theorem s_M_give_7 {l : Launch} {ad : Nat → Nat} {D : va_G} {cA : Nat → ClassId} {WW : Nat → qP} {QR : Option qA → qS → Prop} (S : qSnd l rm_M_give ad D cA R_M b_M_give 8 WW) (Q : qRet (none) b_M_give WW QR) : qle (k_M_give_7 QR WW) WW 7 :=
  S.bipush d_M_give_7 (by decide) <| S.goto d_M_give_9 (by decide) (s_M_give_13 S Q)
set_option maxRecDepth 8000 in
theorem s_M_give_0 {l : Launch} {ad : Nat → Nat} {D : va_G} {cA : Nat → ClassId} {WW : Nat → qP} {QR : Option qA → qS → Prop} (S : qSnd l rm_M_give ad D cA R_M b_M_give 8 WW) (Q : qRet (none) b_M_give WW QR) : qle (k_M_give_0 QR WW) WW 0 :=
  S.aload_n d_M_give_0 rfl <| sc_M_316 S (by decide) d_M_give_1 <| S.if_eq d_M_give_4 (by decide) (s_M_give_12 S Q) (s_M_give_7 S Q)
def gR (x : Int × Int × Int) : Prop := (x.1 = -1 ∨ 0 ≤ x.1 ∧ x.1 < 44) ∧ (x.2.1 = -1 ∨ 0 ≤ x.2.1 ∧ x.2.1 < 44) ∧ (x.2.2 = -1 ∨ 0 ≤ x.2.2 ∧ x.2.2 < 44)
theorem gst_R {σ : qS} {w t : Int} {x : Int × Int × Int} (h : gR x) (h0 : 0 ≤ t ∧ t < 44) : gR (gst σ w t x) := by
  obtain ⟨a, b, c⟩ := h
  unfold gst gR
  split
  · exact ⟨a, b, c⟩
  · refine ⟨?_, ?_, ?_⟩
    · show (if _ then _ else _) = _ ∨ _; split
      · right; exact h0
      · exact a
    · show (if _ then _ else _) = _ ∨ _; split
      · right; exact h0
      · exact b
    · show (if _ then _ else _) = _ ∨ _; split
      · right; exact h0
      · exact c
theorem v_M_give_113 {l : Launch} {ad : Nat → Nat} {D : va_G} {cA : Nat → ClassId} {WW : Nat → qP} {QR : Option qA → qS → Prop} (S : qSnd l rm_M_give ad D cA R_M b_M_give 8 WW) (Q : qRet (none) b_M_give WW QR) (σ : qS) (w fi en o i d t : Int) (hp : P_M_give w σ) (ht : 0 ≤ t ∧ t < 44) (hd : d = -1 ∨ 0 ≤ d ∧ d < 44) (K : WW 53 [] [some (.inr (.inr 900)), some (.inl w), some (.inl fi), some (.inl en), some (.inl o), some (.inl i), some (.inl (if σ 37 t ≠ -1 ∧ 25 < z_sub (σ 39 0) (σ 38 t) ∧ (d = -1 ∨ σ 38 t < σ 38 d) then t else d)), some (.inl (t + 1))] σ) : WW 113 [] [some (.inr (.inr 900)), some (.inl w), some (.inl fi), some (.inl en), some (.inl o), some (.inl i), some (.inl d), some (.inl t)] σ := by
  refine s_M_give_113 S Q _ _ _ ?_
  simp only [k_M_give_0, k_M_give_7, k_M_give_12, k_M_give_13, k_M_give_21, k_M_give_36, k_M_give_40, k_M_give_53, k_M_give_59, k_M_give_68, k_M_give_71, k_M_give_82, k_M_give_88, k_M_give_92, k_M_give_103, k_M_give_109, k_M_give_113, k_M_give_124, k_M_give_141, k_M_give_147, k_M_give_164, k_M_give_168, k_M_give_174, k_M_give_180, k_M_give_185, k_M_give_191, k_M_give_196, k_M_give_198, k_M_give_206, k_M_give_207, oc_M_isDone, oc_M_isMapped, oc_M_job, oc_M_splits, oc_M_tell, o_c, o_il, o_ll, o_al, o_is, o_as, o_ls, o_inc, o_bi, o_bid, o_bl, o_bld, o_sl, o_i2l, o_l2i, o_dup, o_dup2, o_pop, o_pop2, o_if, o_i2, o_l2, swg, o_sw, o_gI, o_gZ, o_gJ, o_gA, o_gR, o_pI, o_pZ, o_pJ, o_pR, o_ia, o_iak, o_zak, o_ja, o_jak, o_is_, o_isk, o_zsk, o_js_, o_jsk, o_len, o_ri, o_rz, o_rl, o_rv, ls1, ls2, lks, lkj, List.getD_cons_zero, List.getD_cons_succ, List.set_cons_zero, List.set_cons_succ, qcat, true_and, and_true, List.map_nil, List.map_cons, List.sum_nil, List.sum_cons, Nat.reduceAdd, Nat.reduceLeDiff, Nat.zero_le, Int.reduceAdd, Int.reduceNeg, Int.reduceEq, or_true, true_or, Decidable.not_not, false_implies, not_false_eq_true, true_implies, not_true_eq_false, Int.reduceLT, Int.reduceLE]
  obtain ⟨hl, hj⟩ := hp
  rw [w32_i (t + 1) (by omega) (by omega)]
  have no : ¬ (σ 37 t ≠ -1 ∧ 25 < z_sub (σ 39 0) (σ 38 t) ∧ (d = -1 ∨ σ 38 t < σ 38 d)) → WW 53 [] [some (.inr (.inr 900)), some (.inl w), some (.inl fi), some (.inl en), some (.inl o), some (.inl i), some (.inl d), some (.inl (t + 1))] σ := fun h => by rw [if_neg h] at K; exact K
  have yes : (σ 37 t ≠ -1 ∧ 25 < z_sub (σ 39 0) (σ 38 t) ∧ (d = -1 ∨ σ 38 t < σ 38 d)) → WW 53 [] [some (.inr (.inr 900)), some (.inl w), some (.inl fi), some (.inl en), some (.inl o), some (.inl i), some (.inl t), some (.inl (t + 1))] σ := fun h => by rw [if_pos h] at K; exact K
  refine ⟨ht, fun h => no (fun x => x.1 h), fun h => ⟨ht, ?_⟩⟩
  exact ⟨fun h25 => no (fun x => by omega), fun h25 => ⟨fun hd1 => yes ⟨h, by omega, Or.inl hd1⟩, fun hd1 => ⟨ht, by omega, fun hle => no (fun x => by omega), fun hle => yes ⟨h, by omega, Or.inr (by omega)⟩⟩⟩⟩
theorem v_M_give_92 {l : Launch} {ad : Nat → Nat} {D : va_G} {cA : Nat → ClassId} {WW : Nat → qP} {QR : Option qA → qS → Prop} (S : qSnd l rm_M_give ad D cA R_M b_M_give 8 WW) (Q : qRet (none) b_M_give WW QR) (σ : qS) (w fi en o i d t : Int) (hp : P_M_give w σ) (ht : 0 ≤ t ∧ t < 44) (hd : d = -1 ∨ 0 ≤ d ∧ d < 44) (K : WW 53 [] [some (.inr (.inr 900)), some (.inl w), some (.inl fi), some (.inl en), some (.inl o), some (.inl (if σ 37 t = -1 ∧ i = -1 then t else i)), some (.inl (if σ 37 t ≠ -1 ∧ 25 < z_sub (σ 39 0) (σ 38 t) ∧ (d = -1 ∨ σ 38 t < σ 38 d) then t else d)), some (.inl (t + 1))] σ) : WW 92 [] [some (.inr (.inr 900)), some (.inl w), some (.inl fi), some (.inl en), some (.inl o), some (.inl i), some (.inl d), some (.inl t)] σ := by
  refine s_M_give_92 S Q _ _ _ ?_
  simp only [k_M_give_0, k_M_give_7, k_M_give_12, k_M_give_13, k_M_give_21, k_M_give_36, k_M_give_40, k_M_give_53, k_M_give_59, k_M_give_68, k_M_give_71, k_M_give_82, k_M_give_88, k_M_give_92, k_M_give_103, k_M_give_109, k_M_give_113, k_M_give_124, k_M_give_141, k_M_give_147, k_M_give_164, k_M_give_168, k_M_give_174, k_M_give_180, k_M_give_185, k_M_give_191, k_M_give_196, k_M_give_198, k_M_give_206, k_M_give_207, oc_M_isDone, oc_M_isMapped, oc_M_job, oc_M_splits, oc_M_tell, o_c, o_il, o_ll, o_al, o_is, o_as, o_ls, o_inc, o_bi, o_bid, o_bl, o_bld, o_sl, o_i2l, o_l2i, o_dup, o_dup2, o_pop, o_pop2, o_if, o_i2, o_l2, swg, o_sw, o_gI, o_gZ, o_gJ, o_gA, o_gR, o_pI, o_pZ, o_pJ, o_pR, o_ia, o_iak, o_zak, o_ja, o_jak, o_is_, o_isk, o_zsk, o_js_, o_jsk, o_len, o_ri, o_rz, o_rl, o_rv, ls1, ls2, lks, lkj, List.getD_cons_zero, List.getD_cons_succ, List.set_cons_zero, List.set_cons_succ, qcat, true_and, and_true, List.map_nil, List.map_cons, List.sum_nil, List.sum_cons, Nat.reduceAdd, Nat.reduceLeDiff, Nat.zero_le, Int.reduceAdd, Int.reduceNeg, Int.reduceEq, or_true, true_or, Decidable.not_not, false_implies, not_false_eq_true, true_implies, not_true_eq_false, Int.reduceLT, Int.reduceLE]
  refine ⟨ht, fun h => v_M_give_113 S Q σ w fi en o _ d t hp ht hd ?_, fun h => ⟨fun h' => v_M_give_113 S Q σ w fi en o _ d t hp ht hd ?_, fun h' => v_M_give_113 S Q σ w fi en o _ d t hp ht hd ?_⟩⟩
  · first | (rw [if_neg (fun x => h x.1)] at K; exact K) | (rw [if_pos ⟨h, by assumption⟩] at K; exact K)
  · first | (rw [if_neg (fun x => h' x.2)] at K; exact K) | (rw [if_pos ⟨h, h'⟩] at K; exact K)
  · first | (rw [if_neg (fun x => h' x.2)] at K; exact K) | (rw [if_pos ⟨h, h'⟩] at K; exact K)
theorem v_M_give_71 {l : Launch} {ad : Nat → Nat} {D : va_G} {cA : Nat → ClassId} {WW : Nat → qP} {QR : Option qA → qS → Prop} (S : qSnd l rm_M_give ad D cA R_M b_M_give 8 WW) (Q : qRet (none) b_M_give WW QR) (σ : qS) (w fi en o i d t : Int) (hp : P_M_give w σ) (ht : 0 ≤ t ∧ t < 44) (hte : t < en) (hd : d = -1 ∨ 0 ≤ d ∧ d < 44) (K : WW 53 [] [some (.inr (.inr 900)), some (.inl w), some (.inl fi), some (.inl en), some (.inl (gst σ w t (o, i, d)).1), some (.inl (gst σ w t (o, i, d)).2.1), some (.inl (gst σ w t (o, i, d)).2.2), some (.inl (t + 1))] σ) : WW 53 [] [some (.inr (.inr 900)), some (.inl w), some (.inl fi), some (.inl en), some (.inl o), some (.inl i), some (.inl d), some (.inl t)] σ := by
  refine s_M_give_53 S Q _ _ _ ?_
  simp only [k_M_give_0, k_M_give_7, k_M_give_12, k_M_give_13, k_M_give_21, k_M_give_36, k_M_give_40, k_M_give_53, k_M_give_59, k_M_give_68, k_M_give_71, k_M_give_82, k_M_give_88, k_M_give_92, k_M_give_103, k_M_give_109, k_M_give_113, k_M_give_124, k_M_give_141, k_M_give_147, k_M_give_164, k_M_give_168, k_M_give_174, k_M_give_180, k_M_give_185, k_M_give_191, k_M_give_196, k_M_give_198, k_M_give_206, k_M_give_207, oc_M_isDone, oc_M_isMapped, oc_M_job, oc_M_splits, oc_M_tell, o_c, o_il, o_ll, o_al, o_is, o_as, o_ls, o_inc, o_bi, o_bid, o_bl, o_bld, o_sl, o_i2l, o_l2i, o_dup, o_dup2, o_pop, o_pop2, o_if, o_i2, o_l2, swg, o_sw, o_gI, o_gZ, o_gJ, o_gA, o_gR, o_pI, o_pZ, o_pJ, o_pR, o_ia, o_iak, o_zak, o_ja, o_jak, o_is_, o_isk, o_zsk, o_js_, o_jsk, o_len, o_ri, o_rz, o_rl, o_rv, ls1, ls2, lks, lkj, List.getD_cons_zero, List.getD_cons_succ, List.set_cons_zero, List.set_cons_succ, qcat, true_and, and_true, List.map_nil, List.map_cons, List.sum_nil, List.sum_cons, Nat.reduceAdd, Nat.reduceLeDiff, Nat.zero_le, Int.reduceAdd, Int.reduceNeg, Int.reduceEq, or_true, true_or, Decidable.not_not, false_implies, not_false_eq_true, true_implies, not_true_eq_false, Int.reduceLT, Int.reduceLE]
  rw [w32_i (t + 1) (by omega) (by omega)]
  refine ⟨fun h => by omega, fun _ => ⟨ht, fun r σ1 q1 => ?_⟩⟩
  obtain ⟨e9, rfl⟩ := q1; replace e9 := e9.symm; subst e9
  unfold gst at K
  refine ⟨fun h0 => ?_, fun h0 => ?_⟩
  · rw [if_neg (fun x => x h0)] at K
    refine ⟨ht, fun h => v_M_give_92 S Q σ w fi en _ i d t hp ht hd ?_, fun h => ⟨fun h' => v_M_give_92 S Q σ w fi en _ i d t hp ht hd ?_, fun h' => v_M_give_92 S Q σ w fi en _ i d t hp ht hd ?_⟩⟩
    · simp only at K
      first | (rw [if_neg (fun x : σ 37 t = w ∧ o = -1 => h x.1)] at K; exact K)
    · simp only at K
      first | (rw [if_neg (fun x : σ 37 t = w ∧ o = -1 => h' x.2)] at K; exact K) | (rw [if_pos (⟨h, h'⟩ : σ 37 t = w ∧ o = -1)] at K; exact K)
    · simp only at K
      first | (rw [if_neg (fun x : σ 37 t = w ∧ o = -1 => h' x.2)] at K; exact K) | (rw [if_pos (⟨h, h'⟩ : σ 37 t = w ∧ o = -1)] at K; exact K)
  · rw [if_pos h0] at K; exact K
theorem v_M_give_53 {l : Launch} {ad : Nat → Nat} {D : va_G} {cA : Nat → ClassId} {WW : Nat → qP} {QR : Option qA → qS → Prop} (S : qSnd l rm_M_give ad D cA R_M b_M_give 8 WW) (Q : qRet (none) b_M_give WW QR) (σ : qS) (w fi en : Int) (hp : P_M_give w σ) (hfe : 0 ≤ fi ∧ en ≤ 44) (hq : ∀ σ', ((gch σ w fi en = -1 ∧ σ' = σ) ∨ (gch σ w fi en ≠ -1 ∧ Q_M_tell w 2 (gch σ w fi en) 0 0 0 (su (su σ 37 (gch σ w fi en) w) 38 (gch σ w fi en) (σ 39 0)) σ')) → QR none σ') :
    ∀ (n : Nat) (t : Int) (x : Int × Int × Int), fi ≤ t → n = (en - t).toNat → gR x → gch σ w fi en = gpk (gfl σ w n t x) → WW 53 [] [some (.inr (.inr 900)), some (.inl w), some (.inl fi), some (.inl en), some (.inl x.1), some (.inl x.2.1), some (.inl x.2.2), some (.inl t)] σ := by
  intro n
  induction n with
  | zero =>
    intro t x hft hn hR hg
    refine s_M_give_53 S Q _ _ _ ?_
    simp only [k_M_give_0, k_M_give_7, k_M_give_12, k_M_give_13, k_M_give_21, k_M_give_36, k_M_give_40, k_M_give_53, k_M_give_59, k_M_give_68, k_M_give_71, k_M_give_82, k_M_give_88, k_M_give_92, k_M_give_103, k_M_give_109, k_M_give_113, k_M_give_124, k_M_give_141, k_M_give_147, k_M_give_164, k_M_give_168, k_M_give_174, k_M_give_180, k_M_give_185, k_M_give_191, k_M_give_196, k_M_give_198, k_M_give_206, k_M_give_207, oc_M_isDone, oc_M_isMapped, oc_M_job, oc_M_splits, oc_M_tell, o_c, o_il, o_ll, o_al, o_is, o_as, o_ls, o_inc, o_bi, o_bid, o_bl, o_bld, o_sl, o_i2l, o_l2i, o_dup, o_dup2, o_pop, o_pop2, o_if, o_i2, o_l2, swg, o_sw, o_gI, o_gZ, o_gJ, o_gA, o_gR, o_pI, o_pZ, o_pJ, o_pR, o_ia, o_iak, o_zak, o_ja, o_jak, o_is_, o_isk, o_zsk, o_js_, o_jsk, o_len, o_ri, o_rz, o_rl, o_rv, ls1, ls2, lks, lkj, List.getD_cons_zero, List.getD_cons_succ, List.set_cons_zero, List.set_cons_succ, qcat, true_and, and_true, List.map_nil, List.map_cons, List.sum_nil, List.sum_cons, Nat.reduceAdd, Nat.reduceLeDiff, Nat.zero_le, Int.reduceAdd, Int.reduceNeg, Int.reduceEq, or_true, true_or, Decidable.not_not, false_implies, not_false_eq_true, true_implies, not_true_eq_false, Int.reduceLT, Int.reduceLE]
    have hg2 : gch σ w fi en = gpk x := hg
    rw [hg2] at hq
    obtain ⟨r1, r2, r3⟩ := hR
    have fin : ∀ y, y = gpk x → (y = -1 ∨ 0 ≤ y ∧ y < 44) → (¬ y = -1 → (0 ≤ y ∧ y < 44) ∧ (0 ≤ y ∧ y < 44) ∧ P_M_tell w 2 y 0 0 0 (su (su σ 37 y w) 38 y (su σ 37 y w 39 0)) ∧ ∀ (σ' : qS), Q_M_tell w 2 y 0 0 0 (su (su σ 37 y w) 38 y (su σ 37 y w 39 0)) σ' → QR none σ') ∧ (y = -1 → QR none σ) := by
      intro y hy hr
      refine ⟨fun hn => ⟨by omega, by omega, ?_, fun σ' q => hq _ (Or.inr ⟨by rw [← hy]; exact hn, ?_⟩)⟩, fun he => hq _ (Or.inl ⟨by rw [← hy]; exact he, rfl⟩)⟩
      · show lok _
        unfold lok; simp (disch := omega) only [su_k]; exact hp.1
      · rw [su_k (by decide)] at q; rw [← hy]; exact q
    refine ⟨fun _ => ⟨fun h1 => ⟨fun h2 => fin _ (by unfold gpk; rw [if_neg (fun y => y h1), if_neg (fun y => y h2)]) r3, fun h2 => fin _ (by unfold gpk; rw [if_neg (fun y => y h1), if_pos h2]) r2⟩, fun h1 => fin _ (by unfold gpk; rw [if_pos h1]) r1⟩, fun h => by omega⟩
  | succ n ih =>
    intro t x hft hn hR hg
    exact v_M_give_71 S Q σ w fi en x.1 x.2.1 x.2.2 t hp (by omega) (by omega) hR.2.2 (ih (t + 1) _ (by omega) (by omega) (gst_R hR (by omega)) hg)
theorem w_M_give {l : Launch} {ad : Nat → Nat} {D : va_G} {cA : Nat → ClassId} {WW : Nat → qP} {QR : Option qA → qS → Prop} (S : qSnd l rm_M_give ad D cA R_M b_M_give 8 WW) (Q : qRet (none) b_M_give WW QR) (a1 : Int) (σ : qS) (ha1 : r32 a1) (hσ : qoS σ) (h : P_M_give a1 σ) (hq : ∀ σ', Q_M_give a1 σ σ' → QR none σ') : WW 0 [] [some (.inr (.inr 900)), some (.inl a1), none, none, none, none, none, none] σ := by
  refine s_M_give_0 S Q _ _ _ ?_
  simp only [k_M_give_0, k_M_give_7, k_M_give_12, k_M_give_13, k_M_give_21, k_M_give_36, k_M_give_40, k_M_give_53, k_M_give_59, k_M_give_68, k_M_give_71, k_M_give_82, k_M_give_88, k_M_give_92, k_M_give_103, k_M_give_109, k_M_give_113, k_M_give_124, k_M_give_141, k_M_give_147, k_M_give_164, k_M_give_168, k_M_give_174, k_M_give_180, k_M_give_185, k_M_give_191, k_M_give_196, k_M_give_198, k_M_give_206, k_M_give_207, oc_M_isDone, oc_M_isMapped, oc_M_job, oc_M_splits, oc_M_tell, o_c, o_il, o_ll, o_al, o_is, o_as, o_ls, o_inc, o_bi, o_bid, o_bl, o_bld, o_sl, o_i2l, o_l2i, o_dup, o_dup2, o_pop, o_pop2, o_if, o_i2, o_l2, swg, o_sw, o_gI, o_gZ, o_gJ, o_gA, o_gR, o_pI, o_pZ, o_pJ, o_pR, o_ia, o_iak, o_zak, o_ja, o_jak, o_is_, o_isk, o_zsk, o_js_, o_jsk, o_len, o_ri, o_rz, o_rl, o_rv, ls1, ls2, lks, lkj, List.getD_cons_zero, List.getD_cons_succ, List.set_cons_zero, List.set_cons_succ, qcat, true_and, and_true, List.map_nil, List.map_cons, List.sum_nil, List.sum_cons, Nat.reduceAdd, Nat.reduceLeDiff, Nat.zero_le, Int.reduceAdd, Int.reduceNeg, Int.reduceEq, or_true, true_or, Decidable.not_not, false_implies, not_false_eq_true, true_implies, not_true_eq_false, Int.reduceLT, Int.reduceLE]
  have hp := h
  obtain ⟨hl, hj⟩ := h
  have hb := hj.2.2.2.2.2.1
  have sb := spl_b hj
  have e1 : z_add 38 (σ 13 (jb σ)) = 38 + σ 13 (jb σ) := by unfold z_add; exact w32_i _ (by omega) (by omega)
  refine ⟨hj, fun r σ1 q1 => ?_⟩
  obtain ⟨e9, hm⟩ := q1; subst e9
  refine ⟨fun h0 => ⟨hj, fun r2 σ2 q2 => ?_⟩, fun h0 => ⟨hj, fun r2 σ2 q2 => ?_⟩⟩
  · obtain ⟨e9, hm2⟩ := q2; subst e9
    have hnm : ¬ mapd σ2 := by rcases hm with ⟨_, x⟩ | ⟨x, _⟩; exact x; omega
    refine ⟨fun _ => ⟨hj, fun r3 σ3 q3 => ?_⟩, fun h1 => by rcases hm2 with ⟨x, _⟩ | ⟨_, x⟩; exact absurd x h1; exact absurd x hnm⟩
    obtain ⟨e9, rfl⟩ := q3; replace e9 := e9.symm; subst e9
    exact v_M_give_53 S Q σ2 a1 0 _ hp (by omega) (fun σ' q => hq _ ⟨0, _, Or.inr ⟨hnm, rfl, rfl⟩, q⟩) _ 0 (-1, -1, -1) (by omega) rfl ⟨Or.inl rfl, Or.inl rfl, Or.inl rfl⟩ rfl
  · obtain ⟨e9, hm2⟩ := q2; subst e9
    have hmp : mapd σ2 := by rcases hm with ⟨x, _⟩ | ⟨_, x⟩; exact absurd x h0; exact x
    refine ⟨fun h1 => by rcases hm2 with ⟨_, x⟩ | ⟨x, _⟩; exact absurd hmp x; omega, fun _ => ⟨hj.1, fun r3 σ3 q3 => ?_⟩⟩
    obtain ⟨e9, rfl⟩ := q3; replace e9 := e9.symm; subst e9
    rw [e1]
    exact ⟨hj.2.1, v_M_give_53 S Q σ2 a1 38 _ hp (by omega) (fun σ' q => hq _ ⟨38, _, Or.inl ⟨hmp, rfl, rfl⟩, q⟩) _ 38 (-1, -1, -1) (by omega) rfl ⟨Or.inl rfl, Or.inl rfl, Or.inl rfl⟩ rfl⟩
theorem c_M_give (l : Launch) (ad : Nat → Nat) (D : va_G) (cA : Nat → ClassId) : qC l ad D cA y_M_give (Cond.code y_M_give b_M_give 8 (none) :: lw_g) rm_M_give pre_M_give post_M_give := by
  refine qC_of (own := R_M) (by decide) rfl ⟨rfl, rfl⟩ ?_ ?_
  · intro av σ h; unfold pre_M_give at h; split at h
    · simp [qen]
    · exact h.elim
  · intro WW QR S Q av σ hav hσ h hq; unfold pre_M_give at h; split at h
    next o a1 =>
      obtain ⟨rfl, h⟩ := h
      exact w_M_give S Q a1 σ (hav _ (List.mem_of_getElem? (i := 1) rfl)) hσ h (fun σ' h' => hq _ σ' h')
    next => exact h.elim
def P_M_hears (ty a b c : Int) (σ : qS) : Prop := (ty = 1 → P_M_give a σ) ∧ (ty = 3 → 0 ≤ b ∧ b < 44) ∧ (ty = 4 → P_M_fail σ) ∧ (ty = 7 → 0 ≤ a)
def Q_M_hears (ty a b c : Int) (σ σ' : qS) : Prop := (ty = 1 ∧ Q_M_give a σ σ') ∨ (ty = 3 ∧ b < 38 ∧ σ' = su (su σ 33 b a) 34 b c) ∨ (ty = 3 ∧ 38 ≤ b ∧ σ' = su σ 35 (b - 38) 1) ∨ (ty = 4 ∧ Q_M_fail σ σ') ∨ (ty = 7 ∧ σ' = if a < 38 ∧ σ 33 a = b then su (su σ 33 a (-1)) 37 a (-1) else σ) ∨ ((ty ≠ 1 ∧ ty ≠ 3 ∧ ty ≠ 4 ∧ ty ≠ 7) ∧ σ' = σ)
def pre_M_hears (av : List qA) (σ : qS) : Prop := match av with
  | [.inr (.inr o), .inl a1, .inl a2, .inl a3, .inl a4] => o = 900 ∧ P_M_hears a1 a2 a3 a4 σ
  | _ => False
def post_M_hears (av : List qA) (σ : qS) (r : Option qA) (σ' : qS) : Prop := match av, r with
  | [_, .inl a1, .inl a2, .inl a3, .inl a4], none => Q_M_hears a1 a2 a3 a4 σ σ'
  | _, _ => False
def oc_M_hears (K : qP) : qP := fun st ls σ => match st with
  | .inl a4 :: .inl a3 :: .inl a2 :: .inl a1 :: .inr (.inr o) :: st => o = 900 ∧ (st.map qcat).sum ≤ 8 ∧ P_M_hears a1 a2 a3 a4 σ ∧ ∀ (σ' : qS), Q_M_hears a1 a2 a3 a4 σ σ' → K st ls σ'
  | _ => False
def rm_M_hears : Room := { frames := 5, cells := 0, slots := 0, locals := 125 }
theorem fl_M_69 : qF R_M 900 0 82 0 R_M F_M 69 34 := ⟨Or.inl ⟨rfl, rfl, rfl, rfl, rfl, rfl⟩, by decide, lw_at 112 (by decide +kernel) rfl⟩
theorem sc_M_326 {l : Launch} {R : Room} {ad : Nat → Nat} {D : va_G} {cA : Nat → ClassId} {cc : ByteArray} {nL : Nat} {WW : Nat → qP} (S : qSnd l R ad D cA R_M cc nL WW) (hR : rm_M_fail.frames + 1 ≤ R.frames ∧ 8 + (1 + 11) + rm_M_fail.locals ≤ R.locals) {K : qP} {pc : Nat} (d : decode cc pc = .ok (.invokevirtual 326, 3)) (h : qle K WW (pc + 3)) : qle (oc_M_fail K) WW pc := by
  intro st ls σ k
  refine S.callV (o := 900) (ci := 0) (N := 82) (base := 0) (C := R_M) (T := F_M) (n := 0) (pre := pre_M_fail) (post := post_M_fail) (Or.inl ⟨rfl, rfl, rfl, rfl, rfl, rfl⟩) ⟨lw_at 616 (by decide +kernel) rfl, lw_at 613 (by decide +kernel) rfl, lw_at 59 (by decide +kernel) rfl, by decide, by decide, by decide +kernel⟩ ⟨lw_at 615 (by decide +kernel) rfl, lw_at 22 (by decide +kernel) rfl⟩ ⟨rfl, rfl⟩ hR (c_M_fail l ad D cA) ?_ d h st ls σ ?_
  · intro av σ h; unfold pre_M_fail at h; split at h
    · obtain ⟨rfl, h⟩ := h; exact ⟨_, rfl⟩
    · exact h.elim
  · unfold oc_M_fail at k
    split at k
    next o st =>
      obtain ⟨rfl, hs, hp, k⟩ := k
      refine ⟨[.inr (.inr 900)], st, rfl, rfl, hs, ⟨rfl, hp⟩, fun r σ' hq => ?_⟩
      unfold post_M_fail at hq
      split at hq
      next h1 =>
        cases h1
        exact k _ hq
      next => exact hq.elim
    next => exact k.elim
theorem sc_M_323 {l : Launch} {R : Room} {ad : Nat → Nat} {D : va_G} {cA : Nat → ClassId} {cc : ByteArray} {nL : Nat} {WW : Nat → qP} (S : qSnd l R ad D cA R_M cc nL WW) (hR : rm_M_give.frames + 1 ≤ R.frames ∧ 8 + (8 + 11) + rm_M_give.locals ≤ R.locals) {K : qP} {pc : Nat} (d : decode cc pc = .ok (.invokevirtual 323, 3)) (h : qle K WW (pc + 3)) : qle (oc_M_give K) WW pc := by
  intro st ls σ k
  refine S.callV (o := 900) (ci := 0) (N := 82) (base := 0) (C := R_M) (T := F_M) (n := 1) (pre := pre_M_give) (post := post_M_give) (Or.inl ⟨rfl, rfl, rfl, rfl, rfl, rfl⟩) ⟨lw_at 592 (by decide +kernel) rfl, lw_at 589 (by decide +kernel) rfl, lw_at 59 (by decide +kernel) rfl, by decide, by decide, by decide +kernel⟩ ⟨lw_at 591 (by decide +kernel) rfl, lw_at 16 (by decide +kernel) rfl⟩ ⟨rfl, rfl⟩ hR (c_M_give l ad D cA) ?_ d h st ls σ ?_
  · intro av σ h; unfold pre_M_give at h; split at h
    · obtain ⟨rfl, h⟩ := h; exact ⟨_, rfl⟩
    · exact h.elim
  · unfold oc_M_give at k
    split at k
    next a1 o st =>
      obtain ⟨rfl, hs, hp, k⟩ := k
      refine ⟨[.inr (.inr 900), .inl a1], st, rfl, rfl, hs, ⟨rfl, hp⟩, fun r σ' hq => ?_⟩
      unfold post_M_give at hq
      split at hq
      next h1 =>
        cases h1
        exact k _ hq
      next => exact hq.elim
    next => exact k.elim
def k_M_hears_129 (QR : Option qA → qS → Prop) (H : Nat → qP) : qP :=
  o_rv QR
def k_M_hears_112 (QR : Option qA → qS → Prop) (H : Nat → qP) : qP :=
  o_al 0 <| o_gA 900 33 <| o_il 2 <| o_c (.inl (-1)) <| o_isk 33 38 <| o_al 0 <| o_gA 900 37 <| o_il 2 <| o_c (.inl (-1)) <| o_isk 37 44 <| k_M_hears_129 QR H
def k_M_hears_102 (QR : Option qA → qS → Prop) (H : Nat → qP) : qP :=
  o_al 0 <| o_gA 900 33 <| o_il 2 <| o_iak 33 38 <| o_il 3 <| o_i2 (fun a b => ¬ a = b) (k_M_hears_129 QR H) (k_M_hears_112 QR H)
def k_M_hears_96 (QR : Option qA → qS → Prop) (H : Nat → qP) : qP :=
  o_il 2 <| o_c (.inl 38) <| o_i2 (fun a b => b ≤ a) (k_M_hears_129 QR H) (k_M_hears_102 QR H)
def k_M_hears_89 (QR : Option qA → qS → Prop) (H : Nat → qP) : qP :=
  o_al 0 <| oc_M_fail <| k_M_hears_129 QR H
def k_M_hears_76 (QR : Option qA → qS → Prop) (H : Nat → qP) : qP :=
  o_al 0 <| o_gA 900 35 <| o_il 3 <| o_c (.inl 38) <| o_bi z_sub <| o_c (.inl 1) <| o_zsk 35 6 <| k_M_hears_129 QR H
def k_M_hears_58 (QR : Option qA → qS → Prop) (H : Nat → qP) : qP :=
  o_al 0 <| o_gA 900 33 <| o_il 3 <| o_il 2 <| o_isk 33 38 <| o_al 0 <| o_gA 900 34 <| o_il 3 <| o_il 4 <| o_isk 34 38 <| k_M_hears_129 QR H
def k_M_hears_52 (QR : Option qA → qS → Prop) (H : Nat → qP) : qP :=
  o_il 3 <| o_c (.inl 38) <| o_i2 (fun a b => b ≤ a) (k_M_hears_76 QR H) (k_M_hears_58 QR H)
def k_M_hears_44 (QR : Option qA → qS → Prop) (H : Nat → qP) : qP :=
  o_al 0 <| o_il 2 <| oc_M_give <| k_M_hears_129 QR H
def k_M_hears_0 (QR : Option qA → qS → Prop) (H : Nat → qP) : qP :=
  o_il 1 <| o_sw 1 [k_M_hears_44 QR H, k_M_hears_129 QR H, k_M_hears_52 QR H, k_M_hears_89 QR H, k_M_hears_129 QR H, k_M_hears_129 QR H, k_M_hears_96 QR H] (k_M_hears_129 QR H)
set_option maxRecDepth 8000 in
theorem s_M_hears_129 {l : Launch} {ad : Nat → Nat} {D : va_G} {cA : Nat → ClassId} {WW : Nat → qP} {QR : Option qA → qS → Prop} (S : qSnd l rm_M_hears ad D cA R_M b_M_hears 5 WW) (Q : qRet (none) b_M_hears WW QR) : qle (k_M_hears_129 QR WW) WW 129 :=
  Q.2.2.2 rfl _ d_M_hears_129
set_option maxRecDepth 8000 in
theorem s_M_hears_112 {l : Launch} {ad : Nat → Nat} {D : va_G} {cA : Nat → ClassId} {WW : Nat → qP} {QR : Option qA → qS → Prop} (S : qSnd l rm_M_hears ad D cA R_M b_M_hears 5 WW) (Q : qRet (none) b_M_hears WW QR) : qle (k_M_hears_112 QR WW) WW 112 :=
  S.aload_n d_M_hears_112 rfl <| S.gA fl_M_66 (by decide) d_M_hears_113 <| S.iload_n d_M_hears_116 rfl <| S.iconst d_M_hears_117 (by decide) <| S.isk (by decide) d_M_hears_118 <| S.aload_n d_M_hears_119 rfl <| S.gA fl_M_75 (by decide) d_M_hears_120 <| S.iload_n d_M_hears_123 rfl <| S.iconst d_M_hears_124 (by decide) <| S.isk (by decide) d_M_hears_125 <| S.goto d_M_hears_126 (by decide) (s_M_hears_129 S Q)
set_option maxRecDepth 8000 in
theorem s_M_hears_102 {l : Launch} {ad : Nat → Nat} {D : va_G} {cA : Nat → ClassId} {WW : Nat → qP} {QR : Option qA → qS → Prop} (S : qSnd l rm_M_hears ad D cA R_M b_M_hears 5 WW) (Q : qRet (none) b_M_hears WW QR) : qle (k_M_hears_102 QR WW) WW 102 :=
  S.aload_n d_M_hears_102 rfl <| S.gA fl_M_66 (by decide) d_M_hears_103 <| S.iload_n d_M_hears_106 rfl <| S.iak (by decide) d_M_hears_107 <| S.iload_n d_M_hears_108 rfl <| S.icmp_ne d_M_hears_109 (by decide) (s_M_hears_129 S Q) (s_M_hears_112 S Q)
set_option maxRecDepth 8000 in
theorem s_M_hears_96 {l : Launch} {ad : Nat → Nat} {D : va_G} {cA : Nat → ClassId} {WW : Nat → qP} {QR : Option qA → qS → Prop} (S : qSnd l rm_M_hears ad D cA R_M b_M_hears 5 WW) (Q : qRet (none) b_M_hears WW QR) : qle (k_M_hears_96 QR WW) WW 96 :=
  S.iload_n d_M_hears_96 rfl <| S.bipush d_M_hears_97 (by decide) <| S.icmp_ge d_M_hears_99 (by decide) (s_M_hears_129 S Q) (s_M_hears_102 S Q)
set_option maxRecDepth 8000 in
theorem s_M_hears_89 {l : Launch} {ad : Nat → Nat} {D : va_G} {cA : Nat → ClassId} {WW : Nat → qP} {QR : Option qA → qS → Prop} (S : qSnd l rm_M_hears ad D cA R_M b_M_hears 5 WW) (Q : qRet (none) b_M_hears WW QR) : qle (k_M_hears_89 QR WW) WW 89 :=
  S.aload_n d_M_hears_89 rfl <| sc_M_326 S (by decide) d_M_hears_90 <| S.goto d_M_hears_93 (by decide) (s_M_hears_129 S Q)
set_option maxRecDepth 8000 in
theorem s_M_hears_76 {l : Launch} {ad : Nat → Nat} {D : va_G} {cA : Nat → ClassId} {WW : Nat → qP} {QR : Option qA → qS → Prop} (S : qSnd l rm_M_hears ad D cA R_M b_M_hears 5 WW) (Q : qRet (none) b_M_hears WW QR) : qle (k_M_hears_76 QR WW) WW 76 :=
  S.aload_n d_M_hears_76 rfl <| S.gA fl_M_72 (by decide) d_M_hears_77 <| S.iload_n d_M_hears_80 rfl <| S.bipush d_M_hears_81 (by decide) <| S.isub d_M_hears_83 <| S.iconst d_M_hears_84 (by decide) <| S.zast (by decide) d_M_hears_85 <| S.goto d_M_hears_86 (by decide) (s_M_hears_129 S Q)
set_option maxRecDepth 8000 in
theorem s_M_hears_58 {l : Launch} {ad : Nat → Nat} {D : va_G} {cA : Nat → ClassId} {WW : Nat → qP} {QR : Option qA → qS → Prop} (S : qSnd l rm_M_hears ad D cA R_M b_M_hears 5 WW) (Q : qRet (none) b_M_hears WW QR) : qle (k_M_hears_58 QR WW) WW 58 :=
  S.aload_n d_M_hears_58 rfl <| S.gA fl_M_66 (by decide) d_M_hears_59 <| S.iload_n d_M_hears_62 rfl <| S.iload_n d_M_hears_63 rfl <| S.isk (by decide) d_M_hears_64 <| S.aload_n d_M_hears_65 rfl <| S.gA fl_M_69 (by decide) d_M_hears_66 <| S.iload_n d_M_hears_69 rfl <| S.iload d_M_hears_70 <| S.isk (by decide) d_M_hears_72 <| S.goto d_M_hears_73 (by decide) (s_M_hears_129 S Q)
set_option maxRecDepth 8000 in
theorem s_M_hears_52 {l : Launch} {ad : Nat → Nat} {D : va_G} {cA : Nat → ClassId} {WW : Nat → qP} {QR : Option qA → qS → Prop} (S : qSnd l rm_M_hears ad D cA R_M b_M_hears 5 WW) (Q : qRet (none) b_M_hears WW QR) : qle (k_M_hears_52 QR WW) WW 52 :=
  S.iload_n d_M_hears_52 rfl <| S.bipush d_M_hears_53 (by decide) <| S.icmp_ge d_M_hears_55 (by decide) (s_M_hears_76 S Q) (s_M_hears_58 S Q)
set_option maxRecDepth 8000 in
theorem s_M_hears_44 {l : Launch} {ad : Nat → Nat} {D : va_G} {cA : Nat → ClassId} {WW : Nat → qP} {QR : Option qA → qS → Prop} (S : qSnd l rm_M_hears ad D cA R_M b_M_hears 5 WW) (Q : qRet (none) b_M_hears WW QR) : qle (k_M_hears_44 QR WW) WW 44 :=
  S.aload_n d_M_hears_44 rfl <| S.iload_n d_M_hears_45 rfl <| sc_M_323 S (by decide) d_M_hears_46 <| S.goto d_M_hears_49 (by decide) (s_M_hears_129 S Q)
set_option maxRecDepth 8000 in
theorem s_M_hears_0 {l : Launch} {ad : Nat → Nat} {D : va_G} {cA : Nat → ClassId} {WW : Nat → qP} {QR : Option qA → qS → Prop} (S : qSnd l rm_M_hears ad D cA R_M b_M_hears 5 WW) (Q : qRet (none) b_M_hears WW QR) : qle (k_M_hears_0 QR WW) WW 0 :=
  S.iload_n d_M_hears_0 rfl <| S.sw d_M_hears_1 (by decide) (⟨⟨44, by decide, (s_M_hears_44 S Q)⟩, ⟨⟨129, by decide, (s_M_hears_129 S Q)⟩, ⟨⟨52, by decide, (s_M_hears_52 S Q)⟩, ⟨⟨89, by decide, (s_M_hears_89 S Q)⟩, ⟨⟨129, by decide, (s_M_hears_129 S Q)⟩, ⟨⟨129, by decide, (s_M_hears_129 S Q)⟩, ⟨⟨96, by decide, (s_M_hears_96 S Q)⟩, trivial⟩⟩⟩⟩⟩⟩⟩) (by decide) (s_M_hears_129 S Q)
theorem w_M_hears {l : Launch} {ad : Nat → Nat} {D : va_G} {cA : Nat → ClassId} {WW : Nat → qP} {QR : Option qA → qS → Prop} (S : qSnd l rm_M_hears ad D cA R_M b_M_hears 5 WW) (Q : qRet (none) b_M_hears WW QR) (a1 : Int) (a2 : Int) (a3 : Int) (a4 : Int) (σ : qS) (ha1 : r32 a1) (ha2 : r32 a2) (ha3 : r32 a3) (ha4 : r32 a4) (hσ : qoS σ) (h : P_M_hears a1 a2 a3 a4 σ) (hq : ∀ σ', Q_M_hears a1 a2 a3 a4 σ σ' → QR none σ') : WW 0 [] [some (.inr (.inr 900)), some (.inl a1), some (.inl a2), some (.inl a3), some (.inl a4)] σ := by
  refine s_M_hears_0 S Q _ _ _ ?_
  simp only [k_M_hears_0, k_M_hears_44, k_M_hears_52, k_M_hears_58, k_M_hears_76, k_M_hears_89, k_M_hears_96, k_M_hears_102, k_M_hears_112, k_M_hears_129, oc_M_fail, oc_M_give, o_c, o_il, o_ll, o_al, o_is, o_as, o_ls, o_inc, o_bi, o_bid, o_bl, o_bld, o_sl, o_i2l, o_l2i, o_dup, o_dup2, o_pop, o_pop2, o_if, o_i2, o_l2, swg, o_sw, o_gI, o_gZ, o_gJ, o_gA, o_gR, o_pI, o_pZ, o_pJ, o_pR, o_ia, o_iak, o_zak, o_ja, o_jak, o_is_, o_isk, o_zsk, o_js_, o_jsk, o_len, o_ri, o_rz, o_rl, o_rv, ls1, ls2, lks, lkj, List.getD_cons_zero, List.getD_cons_succ, List.set_cons_zero, List.set_cons_succ, qcat, true_and, and_true, List.map_nil, List.map_cons, List.sum_nil, List.sum_cons, Nat.reduceAdd, Nat.reduceLeDiff, Nat.zero_le, Int.reduceAdd, Int.reduceNeg, Int.reduceEq, or_true, true_or, Decidable.not_not, false_implies, not_false_eq_true, true_implies, not_true_eq_false, Int.reduceLT, Int.reduceLE]
  obtain ⟨h1, h3, h4, h7⟩ := h
  have other : a1 ≠ 1 → a1 ≠ 3 → a1 ≠ 4 → a1 ≠ 7 → QR none σ := fun a b c d => hq _ (Or.inr (Or.inr (Or.inr (Or.inr (Or.inr ⟨⟨a, b, c, d⟩, rfl⟩)))))
  have lacks : ∀ σ', a1 = 7 → σ' = (if a2 < 38 ∧ σ 33 a2 = a3 then su (su σ 33 a2 (-1)) 37 a2 (-1) else σ) → QR none σ' := fun σ' e h => hq _ (Or.inr (Or.inr (Or.inr (Or.inr (Or.inl ⟨e, h⟩)))))
  refine ⟨fun e => ⟨h1 e, fun σ' q => hq _ (Or.inl ⟨e, q⟩)⟩, fun n1 => ⟨fun e => other (by omega) (by omega) (by omega) (by omega), fun n2 => ⟨fun e => ⟨fun h38 => ?_, fun h38 => ?_⟩, fun n3 => ⟨fun e => ⟨h4 e, fun σ' q => hq _ (Or.inr (Or.inr (Or.inr (Or.inl ⟨e, q⟩))))⟩, fun n4 => ⟨fun e => other (by omega) (by omega) (by omega) (by omega), fun n5 => ⟨fun e => other (by omega) (by omega) (by omega) (by omega), fun n6 => ⟨fun e => ⟨fun h38 => lacks _ e (by rw [if_neg (by omega)]), fun h38 => ⟨by have := h7 e; omega, fun hn => lacks _ e (by rw [if_neg (fun x => hn x.2)]), fun he => ⟨by have := h7 e; omega, by have := h7 e; omega, lacks _ e (by rw [if_pos ⟨by omega, he⟩])⟩⟩⟩, fun n7 => other n1 n3 n4 n7⟩⟩⟩⟩⟩⟩⟩
  · have := h3 e
    have e1 : z_sub a3 38 = a3 - 38 := by unfold z_sub; exact w32_i _ (by omega) (by omega)
    rw [e1]
    exact ⟨by omega, hq _ (Or.inr (Or.inr (Or.inl ⟨e, h38, rfl⟩)))⟩
  · have := h3 e
    exact ⟨by omega, by omega, hq _ (Or.inr (Or.inl ⟨e, by omega, rfl⟩))⟩
theorem c_M_hears (l : Launch) (ad : Nat → Nat) (D : va_G) (cA : Nat → ClassId) : qC l ad D cA y_M_hears (Cond.code y_M_hears b_M_hears 5 (none) :: lw_g) rm_M_hears pre_M_hears post_M_hears := by
  refine qC_of (own := R_M) (by decide) rfl ⟨rfl, rfl⟩ ?_ ?_
  · intro av σ h; unfold pre_M_hears at h; split at h
    · simp [qen]
    · exact h.elim
  · intro WW QR S Q av σ hav hσ h hq; unfold pre_M_hears at h; split at h
    next o a1 a2 a3 a4 =>
      obtain ⟨rfl, h⟩ := h
      exact w_M_hears S Q a1 a2 a3 a4 σ (hav _ (List.mem_of_getElem? (i := 1) rfl)) (hav _ (List.mem_of_getElem? (i := 2) rfl)) (hav _ (List.mem_of_getElem? (i := 3) rfl)) (hav _ (List.mem_of_getElem? (i := 4) rfl)) hσ h (fun σ' h' => hq _ σ' h')
    next => exact h.elim

