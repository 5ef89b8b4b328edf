def fre (σ : qS) (C : List Int) (j : Int) : Prop := σ 9 j ≠ 0 ∧ j ∉ C ∧ ¬ ∃ k, (0 ≤ k ∧ k < 8) ∧ σ 9 k ≠ 0 ∧ (σ 12 k = σ 10 j ∨ σ 12 k = σ 11 j) ∧ k ∉ C
def ChR (σ : qS) : Nat → List Int → List Int → Prop
  | 0, C, C' => C' = C ∧ ∀ j, 0 ≤ j → j < 8 → ¬ fre σ C j
  | n + 1, C, C' => ∃ j, (0 ≤ j ∧ j < 8) ∧ fre σ C j ∧ (∀ i, 0 ≤ i → i < j → ¬ fre σ C i) ∧ ChR σ n (C ++ [j]) C'
def dup2 (σ : qS) : Prop := ∃ j k, (0 ≤ k ∧ k < j) ∧ j < 8 ∧ σ 9 j ≠ 0 ∧ σ 9 k ≠ 0 ∧ σ 12 k = σ 12 j
def BI (σ0 σ : qS) (C : List Int) : Prop := (∀ q, q ∉ [29, 30] → σ q = σ0 q) ∧ σ 30 0 = C.length ∧ (∀ i : Nat, i < C.length → C[i]? = some (σ 29 i)) ∧ C.Nodup ∧ (∀ x ∈ C, 0 ≤ x ∧ x < 8)
def bgn (σ : qS) : qS := ra (su (su (su (su (su (su (su (su (su σ 14 0 (w32 (σ 14 0 + 1))) 26 0 1) 27 0 1) 28 0 (-1)) 32 0 0) 48 0 0) 49 0 0) 50 0 0) 39 0 0) 61 0 6 (fun _ => 0)
def P_M_begin (σ : qS) : Prop := 0 ≤ σ 31 0 ∧ σ 31 0 < 2000000000
def Q_M_begin (σ : qS) (r : Int) (σ' : qS) : Prop := σ 26 0 = 0 ∧ ¬ dup2 σ ∧ ∃ C σ1, BI σ σ1 C ∧ (∃ n, ChR σ n [] C) ∧ nmd σ 8 ≤ C.length ∧ r = C.length ∧ σ' = nxj (bgn σ1)
def T_M_begin (σ : qS) (t : Nat) (σ' : qS) : Prop := (σ 26 0 ≠ 0 ∧ t = 1 ∧ σ' = σ) ∨ (σ 26 0 = 0 ∧ t = 3 ∧ ∃ C, BI σ σ' C ∧ (dup2 σ ∨ ¬ dup2 σ ∧ (∃ n, ChR σ n [] C) ∧ (C.length : Int) < nmd σ 8))
def pre_M_begin (av : List qA) (σ : qS) : Prop := match av with
  | [.inr (.inr o)] => o = 900 ∧ P_M_begin  σ
  | _ => False
def post_M_begin (av : List qA) (σ : qS) (r : Option qA) (σ' : qS) : Prop := match av, r with
  | [_], some (.inl r) => Q_M_begin  σ r σ'
  | _, _ => False
def oc_M_begin (K : qP) : qP := fun st ls σ => match st with
  | .inr (.inr o) :: st => o = 900 ∧ (st.map qcat).sum ≤ 8 ∧ P_M_begin  σ ∧ ∀ (r : Int) (σ' : qS), Q_M_begin  σ r σ' → K (.inl r :: st) ls σ'
  | _ => False
def pst_M_begin (av : List qA) (σ : qS) (t : Nat) (σ' : qS) : Prop := match av with
  | [_] => T_M_begin  σ t σ'
  | _ => False
def ot_M_begin (QT : Nat → qS → Prop) (K : qP) : qP := fun st ls σ => match st with
  | .inr (.inr o) :: st => o = 900 ∧ (st.map qcat).sum ≤ 8 ∧ P_M_begin  σ ∧ (∀ (r : Int) (σ' : qS), Q_M_begin  σ r σ' → K (.inl r :: st) ls σ') ∧ ∀ (t : Nat) (σ' : qS), T_M_begin  σ t σ' → QT t σ'
  | _ => False
def rm_M_begin : Room := { frames := 8, cells := 1, slots := 6, locals := 121 }
theorem sc_M_467 {l : Launch} {R : Room} {ad : Nat → Nat} {D : va_G} {cA : Nat → ClassId} {cc : ByteArray} {nL : Nat} {WW : Nat → qP} (S : qSnd l R ad D cA R_M cc nL WW) (hR : rm_M_isChained.frames + 1 ≤ R.frames ∧ 8 + (3 + 11) + rm_M_isChained.locals ≤ R.locals) {K : qP} {pc : Nat} (d : decode cc pc = .ok (.invokevirtual 467, 3)) (h : qle K WW (pc + 3)) : qle (oc_M_isChained K) WW pc := by
  intro st ls σ k
  refine S.callV (o := 900) (ci := 0) (N := 82) (base := 0) (C := R_M) (T := F_M) (n := 1) (pre := pre_M_isChained) (post := post_M_isChained) (Or.inl ⟨rfl, rfl, rfl, rfl, rfl, rfl⟩) ⟨lw_at 544 (by decide +kernel) rfl, lw_at 541 (by decide +kernel) rfl, lw_at 59 (by decide +kernel) rfl, by decide, by decide, by decide +kernel⟩ ⟨lw_at 543 (by decide +kernel) rfl, lw_at 6 (by decide +kernel) rfl⟩ ⟨rfl, rfl⟩ hR (c_M_isChained l ad D cA) ?_ d h st ls σ ?_
  · intro av σ h; unfold pre_M_isChained at h; split at h
    · obtain ⟨rfl, h⟩ := h; exact ⟨_, rfl⟩
    · exact h.elim
  · unfold oc_M_isChained at k
    split at k
    next a1 o st =>
      obtain ⟨rfl, hs, hp, k⟩ := k
      refine ⟨[.inr (.inr 900), .inl a1], st, rfl, rfl, hs, ⟨rfl, hp⟩, fun r σ' hq => ?_⟩
      unfold post_M_isChained at hq
      split at hq
      next h1 =>
        cases h1
        exact k _ _ hq
      next => exact hq.elim
    next => exact k.elim
theorem sc_M_470 {l : Launch} {R : Room} {ad : Nat → Nat} {D : va_G} {cA : Nat → ClassId} {cc : ByteArray} {nL : Nat} {WW : Nat → qP} (S : qSnd l R ad D cA R_M cc nL WW) (hR : rm_M_waits.frames + 1 ≤ R.frames ∧ 8 + (5 + 11) + rm_M_waits.locals ≤ R.locals) {K : qP} {pc : Nat} (d : decode cc pc = .ok (.invokevirtual 470, 3)) (h : qle K WW (pc + 3)) : qle (oc_M_waits K) WW pc := by
  intro st ls σ k
  refine S.callV (o := 900) (ci := 0) (N := 82) (base := 0) (C := R_M) (T := F_M) (n := 1) (pre := pre_M_waits) (post := post_M_waits) (Or.inl ⟨rfl, rfl, rfl, rfl, rfl, rfl⟩) ⟨lw_at 548 (by decide +kernel) rfl, lw_at 545 (by decide +kernel) rfl, lw_at 59 (by decide +kernel) rfl, by decide, by decide, by decide +kernel⟩ ⟨lw_at 547 (by decide +kernel) rfl, lw_at 7 (by decide +kernel) rfl⟩ ⟨rfl, rfl⟩ hR (c_M_waits l ad D cA) ?_ d h st ls σ ?_
  · intro av σ h; unfold pre_M_waits at h; split at h
    · obtain ⟨rfl, h⟩ := h; exact ⟨_, rfl⟩
    · exact h.elim
  · unfold oc_M_waits at k
    split at k
    next a1 o st =>
      obtain ⟨rfl, hs, hp, k⟩ := k
      refine ⟨[.inr (.inr 900), .inl a1], st, rfl, rfl, hs, ⟨rfl, hp⟩, fun r σ' hq => ?_⟩
      unfold post_M_waits at hq
      split at hq
      next h1 =>
        cases h1
        exact k _ _ hq
      next => exact hq.elim
    next => exact k.elim
def k_M_begin_259 (QR : Option qA → qS → Prop) (QT : Nat → qS → Prop) (H : Nat → qP) : qP :=
  o_al 0 <| oc_M_nextJob <| o_al 0 <| o_gI 900 30 <| o_ri QR
def k_M_begin_246 (QR : Option qA → qS → Prop) (QT : Nat → qS → Prop) (H : Nat → qP) : qP :=
  o_al 0 <| o_gA 900 61 <| o_il 3 <| o_c (.inl 0) <| o_zsk 61 6 <| o_inc 3 1 <| H 240
def k_M_begin_240 (QR : Option qA → qS → Prop) (QT : Nat → qS → Prop) (H : Nat → qP) : qP :=
  o_il 3 <| o_c (.inl 6) <| o_i2 (fun a b => b ≤ a) (k_M_begin_259 QR QT H) (k_M_begin_246 QR QT H)
def k_M_begin_188 (QR : Option qA → qS → Prop) (QT : Nat → qS → Prop) (H : Nat → qP) : qP :=
  o_al 0 <| o_dup <| o_gI 900 14 <| o_c (.inl 1) <| o_bi z_add <| o_pI 900 14 <| o_al 0 <| o_c (.inl 1) <| o_pZ 900 26 <| o_al 0 <| o_c (.inl 1) <| o_pZ 900 27 <| o_al 0 <| o_c (.inl (-1)) <| o_pI 900 28 <| o_al 0 <| o_c (.inl 0) <| o_pI 900 32 <| o_al 0 <| o_c (.inl 0) <| o_pI 900 48 <| o_al 0 <| o_c (.inl 0) <| o_pI 900 49 <| o_al 0 <| o_c (.inl 0) <| o_pI 900 50 <| o_al 0 <| o_c (.inl 0) <| o_pI 900 39 <| o_c (.inl 0) <| o_is 3 <| H 240
def k_M_begin_180 (QR : Option qA → qS → Prop) (QT : Nat → qS → Prop) (H : Nat → qP) : qP :=
  o_th QT 3
def k_M_begin_172 (QR : Option qA → qS → Prop) (QT : Nat → qS → Prop) (H : Nat → qP) : qP :=
  o_al 0 <| o_gI 900 30 <| o_il 1 <| o_i2 (fun a b => b ≤ a) (H 188) (k_M_begin_180 QR QT H)
def k_M_begin_149 (QR : Option qA → qS → Prop) (QT : Nat → qS → Prop) (H : Nat → qP) : qP :=
  o_al 0 <| o_gA 900 29 <| o_al 0 <| o_gI 900 30 <| o_il 3 <| o_isk 29 8 <| o_al 0 <| o_dup <| o_gI 900 30 <| o_c (.inl 1) <| o_bi z_add <| o_pI 900 30 <| H 87
def k_M_begin_146 (QR : Option qA → qS → Prop) (QT : Nat → qS → Prop) (H : Nat → qP) : qP :=
  H 87
def k_M_begin_141 (QR : Option qA → qS → Prop) (QT : Nat → qS → Prop) (H : Nat → qP) : qP :=
  o_is 2 <| o_il 2 <| o_if (fun a => ¬ a = 0) (H 149) (k_M_begin_146 QR QT H)
def k_M_begin_140 (QR : Option qA → qS → Prop) (QT : Nat → qS → Prop) (H : Nat → qP) : qP :=
  o_c (.inl 0) <| k_M_begin_141 QR QT H
def k_M_begin_136 (QR : Option qA → qS → Prop) (QT : Nat → qS → Prop) (H : Nat → qP) : qP :=
  o_c (.inl 1) <| k_M_begin_141 QR QT H
def k_M_begin_130 (QR : Option qA → qS → Prop) (QT : Nat → qS → Prop) (H : Nat → qP) : qP :=
  o_il 3 <| o_c (.inl 8) <| o_i2 (fun a b => b ≤ a) (k_M_begin_140 QR QT H) (k_M_begin_136 QR QT H)
def k_M_begin_124 (QR : Option qA → qS → Prop) (QT : Nat → qS → Prop) (H : Nat → qP) : qP :=
  o_inc 3 1 <| H 93
def k_M_begin_116 (QR : Option qA → qS → Prop) (QT : Nat → qS → Prop) (H : Nat → qP) : qP :=
  o_al 0 <| o_il 3 <| oc_M_waits <| o_if (fun a => a = 0) (H 130) (H 124)
def k_M_begin_108 (QR : Option qA → qS → Prop) (QT : Nat → qS → Prop) (H : Nat → qP) : qP :=
  o_al 0 <| o_il 3 <| oc_M_isChained <| o_if (fun a => ¬ a = 0) (H 124) (k_M_begin_116 QR QT H)
def k_M_begin_99 (QR : Option qA → qS → Prop) (QT : Nat → qS → Prop) (H : Nat → qP) : qP :=
  o_al 0 <| o_gA 900 9 <| o_il 3 <| o_zak 9 8 <| o_if (fun a => a = 0) (H 124) (k_M_begin_108 QR QT H)
def k_M_begin_93 (QR : Option qA → qS → Prop) (QT : Nat → qS → Prop) (H : Nat → qP) : qP :=
  o_il 3 <| o_c (.inl 8) <| o_i2 (fun a b => b ≤ a) (H 130) (k_M_begin_99 QR QT H)
def k_M_begin_91 (QR : Option qA → qS → Prop) (QT : Nat → qS → Prop) (H : Nat → qP) : qP :=
  o_c (.inl 0) <| o_is 3 <| H 93
def k_M_begin_87 (QR : Option qA → qS → Prop) (QT : Nat → qS → Prop) (H : Nat → qP) : qP :=
  o_il 2 <| o_if (fun a => a = 0) (H 172) (k_M_begin_91 QR QT H)
def k_M_begin_85 (QR : Option qA → qS → Prop) (QT : Nat → qS → Prop) (H : Nat → qP) : qP :=
  o_c (.inl 1) <| o_is 2 <| H 87
def k_M_begin_79 (QR : Option qA → qS → Prop) (QT : Nat → qS → Prop) (H : Nat → qP) : qP :=
  o_inc 2 1 <| H 13
def k_M_begin_73 (QR : Option qA → qS → Prop) (QT : Nat → qS → Prop) (H : Nat → qP) : qP :=
  o_inc 3 1 <| H 36
def k_M_begin_65 (QR : Option qA → qS → Prop) (QT : Nat → qS → Prop) (H : Nat → qP) : qP :=
  o_th QT 3
def k_M_begin_50 (QR : Option qA → qS → Prop) (QT : Nat → qS → Prop) (H : Nat → qP) : qP :=
  o_al 0 <| o_gA 900 12 <| o_il 3 <| o_iak 12 8 <| o_al 0 <| o_gA 900 12 <| o_il 2 <| o_iak 12 8 <| o_i2 (fun a b => ¬ a = b) (H 73) (H 65)
def k_M_begin_41 (QR : Option qA → qS → Prop) (QT : Nat → qS → Prop) (H : Nat → qP) : qP :=
  o_al 0 <| o_gA 900 9 <| o_il 3 <| o_zak 9 8 <| o_if (fun a => a = 0) (H 73) (k_M_begin_50 QR QT H)
def k_M_begin_36 (QR : Option qA → qS → Prop) (QT : Nat → qS → Prop) (H : Nat → qP) : qP :=
  o_il 3 <| o_il 2 <| o_i2 (fun a b => b ≤ a) (H 79) (k_M_begin_41 QR QT H)
def k_M_begin_31 (QR : Option qA → qS → Prop) (QT : Nat → qS → Prop) (H : Nat → qP) : qP :=
  o_inc 1 1 <| o_c (.inl 0) <| o_is 3 <| H 36
def k_M_begin_28 (QR : Option qA → qS → Prop) (QT : Nat → qS → Prop) (H : Nat → qP) : qP :=
  H 79
def k_M_begin_19 (QR : Option qA → qS → Prop) (QT : Nat → qS → Prop) (H : Nat → qP) : qP :=
  o_al 0 <| o_gA 900 9 <| o_il 2 <| o_zak 9 8 <| o_if (fun a => ¬ a = 0) (k_M_begin_31 QR QT H) (k_M_begin_28 QR QT H)
def k_M_begin_13 (QR : Option qA → qS → Prop) (QT : Nat → qS → Prop) (H : Nat → qP) : qP :=
  o_il 2 <| o_c (.inl 8) <| o_i2 (fun a b => b ≤ a) (H 85) (k_M_begin_19 QR QT H)
def k_M_begin_0 (QR : Option qA → qS → Prop) (QT : Nat → qS → Prop) (H : Nat → qP) : qP :=
  o_al 0 <| ot_M_notGoing QT <| o_c (.inl 0) <| o_is 1 <| o_al 0 <| o_c (.inl 0) <| o_pI 900 30 <| o_c (.inl 0) <| o_is 2 <| H 13
set_option maxRecDepth 8000 in
theorem s_M_begin_259 {l : Launch} {ad : Nat → Nat} {D : va_G} {cA : Nat → ClassId} {WW : Nat → qP} {QR : Option qA → qS → Prop} (S : qSnd l rm_M_begin ad D cA R_M b_M_begin 4 WW) (Q : qRet (some .int) b_M_begin WW QR) {QT : Nat → qS → Prop} (Th : qThr l rm_M_begin ad D cA R_M b_M_begin WW QT) : qle (k_M_begin_259 QR QT WW) WW 259 :=
  S.aload_n d_M_begin_259 rfl <| sc_M_335 S (by decide) d_M_begin_260 <| S.aload_n d_M_begin_263 rfl <| S.gI fl_M_264 (by decide) d_M_begin_264 <| Q.1 rfl _ d_M_begin_267
set_option maxRecDepth 8000 in
theorem s_M_begin_246 {l : Launch} {ad : Nat → Nat} {D : va_G} {cA : Nat → ClassId} {WW : Nat → qP} {QR : Option qA → qS → Prop} (S : qSnd l rm_M_begin ad D cA R_M b_M_begin 4 WW) (Q : qRet (some .int) b_M_begin WW QR) {QT : Nat → qS → Prop} (Th : qThr l rm_M_begin ad D cA R_M b_M_begin WW QT) : qle (k_M_begin_246 QR QT WW) WW 246 :=
  S.aload_n d_M_begin_246 rfl <| S.gA fl_M_135 (by decide) d_M_begin_247 <| S.iload_n d_M_begin_250 rfl <| S.iconst d_M_begin_251 (by decide) <| S.zast (by decide) d_M_begin_252 <| S.iinc d_M_begin_253 (by decide) <| S.goto d_M_begin_256 (by decide) (fun _ _ _ h => h)
set_option maxRecDepth 8000 in
theorem s_M_begin_240 {l : Launch} {ad : Nat → Nat} {D : va_G} {cA : Nat → ClassId} {WW : Nat → qP} {QR : Option qA → qS → Prop} (S : qSnd l rm_M_begin ad D cA R_M b_M_begin 4 WW) (Q : qRet (some .int) b_M_begin WW QR) {QT : Nat → qS → Prop} (Th : qThr l rm_M_begin ad D cA R_M b_M_begin WW QT) : qle (k_M_begin_240 QR QT WW) WW 240 :=
  S.iload_n d_M_begin_240 rfl <| S.bipush d_M_begin_241 (by decide) <| S.icmp_ge d_M_begin_243 (by decide) (s_M_begin_259 S Q Th) (s_M_begin_246 S Q Th)
set_option maxRecDepth 8000 in
theorem s_M_begin_188 {l : Launch} {ad : Nat → Nat} {D : va_G} {cA : Nat → ClassId} {WW : Nat → qP} {QR : Option qA → qS → Prop} (S : qSnd l rm_M_begin ad D cA R_M b_M_begin 4 WW) (Q : qRet (some .int) b_M_begin WW QR) {QT : Nat → qS → Prop} (Th : qThr l rm_M_begin ad D cA R_M b_M_begin WW QT) : qle (k_M_begin_188 QR QT WW) WW 188 :=
  S.aload_n d_M_begin_188 rfl <| S.dup d_M_begin_189 <| S.gI fl_M_473 (by decide) d_M_begin_190 <| S.iconst d_M_begin_193 (by decide) <| S.iadd d_M_begin_194 <| S.pI fl_M_473 (by decide) (by decide +kernel) d_M_begin_195 <| S.aload_n d_M_begin_198 rfl <| S.iconst d_M_begin_199 (by decide) <| S.pZ fl_M_422 (by decide) (by decide +kernel) d_M_begin_200 <| S.aload_n d_M_begin_203 rfl <| S.iconst d_M_begin_204 (by decide) <| S.pZ fl_M_267 (by decide) (by decide +kernel) d_M_begin_205 <| S.aload_n d_M_begin_208 rfl <| S.iconst d_M_begin_209 (by decide) <| S.pI fl_M_276 (by decide) (by decide +kernel) d_M_begin_210 <| S.aload_n d_M_begin_213 rfl <| S.iconst d_M_begin_214 (by decide) <| S.pI fl_M_253 (by decide) (by decide +kernel) d_M_begin_215 <| S.aload_n d_M_begin_218 rfl <| S.iconst d_M_begin_219 (by decide) <| S.pI fl_M_279 (by decide) (by decide +kernel) d_M_begin_220 <| S.aload_n d_M_begin_223 rfl <| S.iconst d_M_begin_224 (by decide) <| S.pI fl_M_285 (by decide) (by decide +kernel) d_M_begin_225 <| S.aload_n d_M_begin_228 rfl <| S.iconst d_M_begin_229 (by decide) <| S.pI fl_M_288 (by decide) (by decide +kernel) d_M_begin_230 <| S.aload_n d_M_begin_233 rfl <| S.iconst d_M_begin_234 (by decide) <| S.pI fl_M_305 (by decide) (by decide +kernel) d_M_begin_235 <| S.iconst d_M_begin_238 (by decide) <| S.istore_n d_M_begin_239 rfl (by decide) <| (fun _ _ _ h => h)
set_option maxRecDepth 8000 in
theorem s_M_begin_180 {l : Launch} {ad : Nat → Nat} {D : va_G} {cA : Nat → ClassId} {WW : Nat → qP} {QR : Option qA → qS → Prop} (S : qSnd l rm_M_begin ad D cA R_M b_M_begin 4 WW) (Q : qRet (some .int) b_M_begin WW QR) {QT : Nat → qS → Prop} (Th : qThr l rm_M_begin ad D cA R_M b_M_begin WW QT) : qle (k_M_begin_180 QR QT WW) WW 180 :=
  Th.1 rfl 3 464 180 (by decide) (lw_at 526 (by decide +kernel) rfl) (lw_at 527 (by decide +kernel) rfl) (lw_at 67 (by decide +kernel) rfl) (by decide) d_M_begin_180 d_M_begin_183 d_M_begin_184 d_M_begin_187
set_option maxRecDepth 8000 in
theorem s_M_begin_172 {l : Launch} {ad : Nat → Nat} {D : va_G} {cA : Nat → ClassId} {WW : Nat → qP} {QR : Option qA → qS → Prop} (S : qSnd l rm_M_begin ad D cA R_M b_M_begin 4 WW) (Q : qRet (some .int) b_M_begin WW QR) {QT : Nat → qS → Prop} (Th : qThr l rm_M_begin ad D cA R_M b_M_begin WW QT) : qle (k_M_begin_172 QR QT WW) WW 172 :=
  S.aload_n d_M_begin_172 rfl <| S.gI fl_M_264 (by decide) d_M_begin_173 <| S.iload_n d_M_begin_176 rfl <| S.icmp_ge d_M_begin_177 (by decide) (fun _ _ _ h => h) (s_M_begin_180 S Q Th)
set_option maxRecDepth 8000 in
theorem s_M_begin_149 {l : Launch} {ad : Nat → Nat} {D : va_G} {cA : Nat → ClassId} {WW : Nat → qP} {QR : Option qA → qS → Prop} (S : qSnd l rm_M_begin ad D cA R_M b_M_begin 4 WW) (Q : qRet (some .int) b_M_begin WW QR) {QT : Nat → qS → Prop} (Th : qThr l rm_M_begin ad D cA R_M b_M_begin WW QT) : qle (k_M_begin_149 QR QT WW) WW 149 :=
  S.aload_n d_M_begin_149 rfl <| S.gA fl_M_63 (by decide) d_M_begin_150 <| S.aload_n d_M_begin_153 rfl <| S.gI fl_M_264 (by decide) d_M_begin_154 <| S.iload_n d_M_begin_157 rfl <| S.isk (by decide) d_M_begin_158 <| S.aload_n d_M_begin_159 rfl <| S.dup d_M_begin_160 <| S.gI fl_M_264 (by decide) d_M_begin_161 <| S.iconst d_M_begin_164 (by decide) <| S.iadd d_M_begin_165 <| S.pI fl_M_264 (by decide) (by decide +kernel) d_M_begin_166 <| S.goto d_M_begin_169 (by decide) (fun _ _ _ h => h)
set_option maxRecDepth 8000 in
theorem s_M_begin_146 {l : Launch} {ad : Nat → Nat} {D : va_G} {cA : Nat → ClassId} {WW : Nat → qP} {QR : Option qA → qS → Prop} (S : qSnd l rm_M_begin ad D cA R_M b_M_begin 4 WW) (Q : qRet (some .int) b_M_begin WW QR) {QT : Nat → qS → Prop} (Th : qThr l rm_M_begin ad D cA R_M b_M_begin WW QT) : qle (k_M_begin_146 QR QT WW) WW 146 :=
  S.goto d_M_begin_146 (by decide) (fun _ _ _ h => h)
set_option maxRecDepth 8000 in
theorem s_M_begin_141 {l : Launch} {ad : Nat → Nat} {D : va_G} {cA : Nat → ClassId} {WW : Nat → qP} {QR : Option qA → qS → Prop} (S : qSnd l rm_M_begin ad D cA R_M b_M_begin 4 WW) (Q : qRet (some .int) b_M_begin WW QR) {QT : Nat → qS → Prop} (Th : qThr l rm_M_begin ad D cA R_M b_M_begin WW QT) : qle (k_M_begin_141 QR QT WW) WW 141 :=
  S.istore_n d_M_begin_141 rfl (by decide) <| S.iload_n d_M_begin_142 rfl <| S.if_ne d_M_begin_143 (by decide) (fun _ _ _ h => h) (s_M_begin_146 S Q Th)
set_option maxRecDepth 8000 in
theorem s_M_begin_140 {l : Launch} {ad : Nat → Nat} {D : va_G} {cA : Nat → ClassId} {WW : Nat → qP} {QR : Option qA → qS → Prop} (S : qSnd l rm_M_begin ad D cA R_M b_M_begin 4 WW) (Q : qRet (some .int) b_M_begin WW QR) {QT : Nat → qS → Prop} (Th : qThr l rm_M_begin ad D cA R_M b_M_begin WW QT) : qle (k_M_begin_140 QR QT WW) WW 140 :=
  S.iconst d_M_begin_140 (by decide) <| (s_M_begin_141 S Q Th)
set_option maxRecDepth 8000 in
theorem s_M_begin_136 {l : Launch} {ad : Nat → Nat} {D : va_G} {cA : Nat → ClassId} {WW : Nat → qP} {QR : Option qA → qS → Prop} (S : qSnd l rm_M_begin ad D cA R_M b_M_begin 4 WW) (Q : qRet (some .int) b_M_begin WW QR) {QT : Nat → qS → Prop} (Th : qThr l rm_M_begin ad D cA R_M b_M_begin WW QT) : qle (k_M_begin_136 QR QT WW) WW 136 :=
  S.iconst d_M_begin_136 (by decide) <| S.goto d_M_begin_137 (by decide) (s_M_begin_141 S Q Th)
set_option maxRecDepth 8000 in
theorem s_M_begin_130 {l : Launch} {ad : Nat → Nat} {D : va_G} {cA : Nat → ClassId} {WW : Nat → qP} {QR : Option qA → qS → Prop} (S : qSnd l rm_M_begin ad D cA R_M b_M_begin 4 WW) (Q : qRet (some .int) b_M_begin WW QR) {QT : Nat → qS → Prop} (Th : qThr l rm_M_begin ad D cA R_M b_M_begin WW QT) : qle (k_M_begin_130 QR QT WW) WW 130 :=
  S.iload_n d_M_begin_130 rfl <| S.bipush d_M_begin_131 (by decide) <| S.icmp_ge d_M_begin_133 (by decide) (s_M_begin_140 S Q Th) (s_M_begin_136 S Q Th)
set_option maxRecDepth 8000 in
theorem s_M_begin_124 {l : Launch} {ad : Nat → Nat} {D : va_G} {cA : Nat → ClassId} {WW : Nat → qP} {QR : Option qA → qS → Prop} (S : qSnd l rm_M_begin ad D cA R_M b_M_begin 4 WW) (Q : qRet (some .int) b_M_begin WW QR) {QT : Nat → qS → Prop} (Th : qThr l rm_M_begin ad D cA R_M b_M_begin WW QT) : qle (k_M_begin_124 QR QT WW) WW 124 :=
  S.iinc d_M_begin_124 (by decide) <| S.goto d_M_begin_127 (by decide) (fun _ _ _ h => h)
set_option maxRecDepth 8000 in
theorem s_M_begin_116 {l : Launch} {ad : Nat → Nat} {D : va_G} {cA : Nat → ClassId} {WW : Nat → qP} {QR : Option qA → qS → Prop} (S : qSnd l rm_M_begin ad D cA R_M b_M_begin 4 WW) (Q : qRet (some .int) b_M_begin WW QR) {QT : Nat → qS → Prop} (Th : qThr l rm_M_begin ad D cA R_M b_M_begin WW QT) : qle (k_M_begin_116 QR QT WW) WW 116 :=
  S.aload_n d_M_begin_116 rfl <| S.iload_n d_M_begin_117 rfl <| sc_M_470 S (by decide) d_M_begin_118 <| S.if_eq d_M_begin_121 (by decide) (fun _ _ _ h => h) (fun _ _ _ h => h)
set_option maxRecDepth 8000 in
theorem s_M_begin_108 {l : Launch} {ad : Nat → Nat} {D : va_G} {cA : Nat → ClassId} {WW : Nat → qP} {QR : Option qA → qS → Prop} (S : qSnd l rm_M_begin ad D cA R_M b_M_begin 4 WW) (Q : qRet (some .int) b_M_begin WW QR) {QT : Nat → qS → Prop} (Th : qThr l rm_M_begin ad D cA R_M b_M_begin WW QT) : qle (k_M_begin_108 QR QT WW) WW 108 :=
  S.aload_n d_M_begin_108 rfl <| S.iload_n d_M_begin_109 rfl <| sc_M_467 S (by decide) d_M_begin_110 <| S.if_ne d_M_begin_113 (by decide) (fun _ _ _ h => h) (s_M_begin_116 S Q Th)
set_option maxRecDepth 8000 in
theorem s_M_begin_99 {l : Launch} {ad : Nat → Nat} {D : va_G} {cA : Nat → ClassId} {WW : Nat → qP} {QR : Option qA → qS → Prop} (S : qSnd l rm_M_begin ad D cA R_M b_M_begin 4 WW) (Q : qRet (some .int) b_M_begin WW QR) {QT : Nat → qS → Prop} (Th : qThr l rm_M_begin ad D cA R_M b_M_begin WW QT) : qle (k_M_begin_99 QR QT WW) WW 99 :=
  S.aload_n d_M_begin_99 rfl <| S.gA fl_M_35 (by decide) d_M_begin_100 <| S.iload_n d_M_begin_103 rfl <| S.zak (by decide) d_M_begin_104 <| S.if_eq d_M_begin_105 (by decide) (fun _ _ _ h => h) (s_M_begin_108 S Q Th)
set_option maxRecDepth 8000 in
theorem s_M_begin_93 {l : Launch} {ad : Nat → Nat} {D : va_G} {cA : Nat → ClassId} {WW : Nat → qP} {QR : Option qA → qS → Prop} (S : qSnd l rm_M_begin ad D cA R_M b_M_begin 4 WW) (Q : qRet (some .int) b_M_begin WW QR) {QT : Nat → qS → Prop} (Th : qThr l rm_M_begin ad D cA R_M b_M_begin WW QT) : qle (k_M_begin_93 QR QT WW) WW 93 :=
  S.iload_n d_M_begin_93 rfl <| S.bipush d_M_begin_94 (by decide) <| S.icmp_ge d_M_begin_96 (by decide) (fun _ _ _ h => h) (s_M_begin_99 S Q Th)
set_option maxRecDepth 8000 in
theorem s_M_begin_91 {l : Launch} {ad : Nat → Nat} {D : va_G} {cA : Nat → ClassId} {WW : Nat → qP} {QR : Option qA → qS → Prop} (S : qSnd l rm_M_begin ad D cA R_M b_M_begin 4 WW) (Q : qRet (some .int) b_M_begin WW QR) {QT : Nat → qS → Prop} (Th : qThr l rm_M_begin ad D cA R_M b_M_begin WW QT) : qle (k_M_begin_91 QR QT WW) WW 91 :=
  S.iconst d_M_begin_91 (by decide) <| S.istore_n d_M_begin_92 rfl (by decide) <| (fun _ _ _ h => h)
set_option maxRecDepth 8000 in
theorem s_M_begin_87 {l : Launch} {ad : Nat → Nat} {D : va_G} {cA : Nat → ClassId} {WW : Nat → qP} {QR : Option qA → qS → Prop} (S : qSnd l rm_M_begin ad D cA R_M b_M_begin 4 WW) (Q : qRet (some .int) b_M_begin WW QR) {QT : Nat → qS → Prop} (Th : qThr l rm_M_begin ad D cA R_M b_M_begin WW QT) : qle (k_M_begin_87 QR QT WW) WW 87 :=
  S.iload_n d_M_begin_87 rfl <| S.if_eq d_M_begin_88 (by decide) (fun _ _ _ h => h) (s_M_begin_91 S Q Th)
set_option maxRecDepth 8000 in
theorem s_M_begin_85 {l : Launch} {ad : Nat → Nat} {D : va_G} {cA : Nat → ClassId} {WW : Nat → qP} {QR : Option qA → qS → Prop} (S : qSnd l rm_M_begin ad D cA R_M b_M_begin 4 WW) (Q : qRet (some .int) b_M_begin WW QR) {QT : Nat → qS → Prop} (Th : qThr l rm_M_begin ad D cA R_M b_M_begin WW QT) : qle (k_M_begin_85 QR QT WW) WW 85 :=
  S.iconst d_M_begin_85 (by decide) <| S.istore_n d_M_begin_86 rfl (by decide) <| (fun _ _ _ h => h)
set_option maxRecDepth 8000 in
theorem s_M_begin_79 {l : Launch} {ad : Nat → Nat} {D : va_G} {cA : Nat → ClassId} {WW : Nat → qP} {QR : Option qA → qS → Prop} (S : qSnd l rm_M_begin ad D cA R_M b_M_begin 4 WW) (Q : qRet (some .int) b_M_begin WW QR) {QT : Nat → qS → Prop} (Th : qThr l rm_M_begin ad D cA R_M b_M_begin WW QT) : qle (k_M_begin_79 QR QT WW) WW 79 :=
  S.iinc d_M_begin_79 (by decide) <| S.goto d_M_begin_82 (by decide) (fun _ _ _ h => h)
set_option maxRecDepth 8000 in
theorem s_M_begin_73 {l : Launch} {ad : Nat → Nat} {D : va_G} {cA : Nat → ClassId} {WW : Nat → qP} {QR : Option qA → qS → Prop} (S : qSnd l rm_M_begin ad D cA R_M b_M_begin 4 WW) (Q : qRet (some .int) b_M_begin WW QR) {QT : Nat → qS → Prop} (Th : qThr l rm_M_begin ad D cA R_M b_M_begin WW QT) : qle (k_M_begin_73 QR QT WW) WW 73 :=
  S.iinc d_M_begin_73 (by decide) <| S.goto d_M_begin_76 (by decide) (fun _ _ _ h => h)
set_option maxRecDepth 8000 in
theorem s_M_begin_65 {l : Launch} {ad : Nat → Nat} {D : va_G} {cA : Nat → ClassId} {WW : Nat → qP} {QR : Option qA → qS → Prop} (S : qSnd l rm_M_begin ad D cA R_M b_M_begin 4 WW) (Q : qRet (some .int) b_M_begin WW QR) {QT : Nat → qS → Prop} (Th : qThr l rm_M_begin ad D cA R_M b_M_begin WW QT) : qle (k_M_begin_65 QR QT WW) WW 65 :=
  Th.1 rfl 3 464 65 (by decide) (lw_at 526 (by decide +kernel) rfl) (lw_at 527 (by decide +kernel) rfl) (lw_at 67 (by decide +kernel) rfl) (by decide) d_M_begin_65 d_M_begin_68 d_M_begin_69 d_M_begin_72
set_option maxRecDepth 8000 in
theorem s_M_begin_50 {l : Launch} {ad : Nat → Nat} {D : va_G} {cA : Nat → ClassId} {WW : Nat → qP} {QR : Option qA → qS → Prop} (S : qSnd l rm_M_begin ad D cA R_M b_M_begin 4 WW) (Q : qRet (some .int) b_M_begin WW QR) {QT : Nat → qS → Prop} (Th : qThr l rm_M_begin ad D cA R_M b_M_begin WW QT) : qle (k_M_begin_50 QR QT WW) WW 50 :=
  S.aload_n d_M_begin_50 rfl <| S.gA fl_M_45 (by decide) d_M_begin_51 <| S.iload_n d_M_begin_54 rfl <| S.iak (by decide) d_M_begin_55 <| S.aload_n d_M_begin_56 rfl <| S.gA fl_M_45 (by decide) d_M_begin_57 <| S.iload_n d_M_begin_60 rfl <| S.iak (by decide) d_M_begin_61 <| S.icmp_ne d_M_begin_62 (by decide) (fun _ _ _ h => h) (fun _ _ _ h => h)
set_option maxRecDepth 8000 in
theorem s_M_begin_41 {l : Launch} {ad : Nat → Nat} {D : va_G} {cA : Nat → ClassId} {WW : Nat → qP} {QR : Option qA → qS → Prop} (S : qSnd l rm_M_begin ad D cA R_M b_M_begin 4 WW) (Q : qRet (some .int) b_M_begin WW QR) {QT : Nat → qS → Prop} (Th : qThr l rm_M_begin ad D cA R_M b_M_begin WW QT) : qle (k_M_begin_41 QR QT WW) WW 41 :=
  S.aload_n d_M_begin_41 rfl <| S.gA fl_M_35 (by decide) d_M_begin_42 <| S.iload_n d_M_begin_45 rfl <| S.zak (by decide) d_M_begin_46 <| S.if_eq d_M_begin_47 (by decide) (fun _ _ _ h => h) (s_M_begin_50 S Q Th)
set_option maxRecDepth 8000 in
theorem s_M_begin_36 {l : Launch} {ad : Nat → Nat} {D : va_G} {cA : Nat → ClassId} {WW : Nat → qP} {QR : Option qA → qS → Prop} (S : qSnd l rm_M_begin ad D cA R_M b_M_begin 4 WW) (Q : qRet (some .int) b_M_begin WW QR) {QT : Nat → qS → Prop} (Th : qThr l rm_M_begin ad D cA R_M b_M_begin WW QT) : qle (k_M_begin_36 QR QT WW) WW 36 :=
  S.iload_n d_M_begin_36 rfl <| S.iload_n d_M_begin_37 rfl <| S.icmp_ge d_M_begin_38 (by decide) (fun _ _ _ h => h) (s_M_begin_41 S Q Th)
set_option maxRecDepth 8000 in
theorem s_M_begin_31 {l : Launch} {ad : Nat → Nat} {D : va_G} {cA : Nat → ClassId} {WW : Nat → qP} {QR : Option qA → qS → Prop} (S : qSnd l rm_M_begin ad D cA R_M b_M_begin 4 WW) (Q : qRet (some .int) b_M_begin WW QR) {QT : Nat → qS → Prop} (Th : qThr l rm_M_begin ad D cA R_M b_M_begin WW QT) : qle (k_M_begin_31 QR QT WW) WW 31 :=
  S.iinc d_M_begin_31 (by decide) <| S.iconst d_M_begin_34 (by decide) <| S.istore_n d_M_begin_35 rfl (by decide) <| (fun _ _ _ h => h)
set_option maxRecDepth 8000 in
theorem s_M_begin_28 {l : Launch} {ad : Nat → Nat} {D : va_G} {cA : Nat → ClassId} {WW : Nat → qP} {QR : Option qA → qS → Prop} (S : qSnd l rm_M_begin ad D cA R_M b_M_begin 4 WW) (Q : qRet (some .int) b_M_begin WW QR) {QT : Nat → qS → Prop} (Th : qThr l rm_M_begin ad D cA R_M b_M_begin WW QT) : qle (k_M_begin_28 QR QT WW) WW 28 :=
  S.goto d_M_begin_28 (by decide) (fun _ _ _ h => h)
set_option maxRecDepth 8000 in
theorem s_M_begin_19 {l : Launch} {ad : Nat → Nat} {D : va_G} {cA : Nat → ClassId} {WW : Nat → qP} {QR : Option qA → qS → Prop} (S : qSnd l rm_M_begin ad D cA R_M b_M_begin 4 WW) (Q : qRet (some .int) b_M_begin WW QR) {QT : Nat → qS → Prop} (Th : qThr l rm_M_begin ad D cA R_M b_M_begin WW QT) : qle (k_M_begin_19 QR QT WW) WW 19 :=
  S.aload_n d_M_begin_19 rfl <| S.gA fl_M_35 (by decide) d_M_begin_20 <| S.iload_n d_M_begin_23 rfl <| S.zak (by decide) d_M_begin_24 <| S.if_ne d_M_begin_25 (by decide) (s_M_begin_31 S Q Th) (s_M_begin_28 S Q Th)
set_option maxRecDepth 8000 in
theorem s_M_begin_13 {l : Launch} {ad : Nat → Nat} {D : va_G} {cA : Nat → ClassId} {WW : Nat → qP} {QR : Option qA → qS → Prop} (S : qSnd l rm_M_begin ad D cA R_M b_M_begin 4 WW) (Q : qRet (some .int) b_M_begin WW QR) {QT : Nat → qS → Prop} (Th : qThr l rm_M_begin ad D cA R_M b_M_begin WW QT) : qle (k_M_begin_13 QR QT WW) WW 13 :=
  S.iload_n d_M_begin_13 rfl <| S.bipush d_M_begin_14 (by decide) <| S.icmp_ge d_M_begin_16 (by decide) (fun _ _ _ h => h) (s_M_begin_19 S Q Th)
set_option maxRecDepth 8000 in
theorem s_M_begin_0 {l : Launch} {ad : Nat → Nat} {D : va_G} {cA : Nat → ClassId} {WW : Nat → qP} {QR : Option qA → qS → Prop} (S : qSnd l rm_M_begin ad D cA R_M b_M_begin 4 WW) (Q : qRet (some .int) b_M_begin WW QR) {QT : Nat → qS → Prop} (Th : qThr l rm_M_begin ad D cA R_M b_M_begin WW QT) : qle (k_M_begin_0 QR QT WW) WW 0 :=
  S.aload_n d_M_begin_0 rfl <| st_M_441 Th (by decide) d_M_begin_1 <| S.iconst d_M_begin_4 (by decide) <| S.istore_n d_M_begin_5 rfl (by decide) <| S.aload_n d_M_begin_6 rfl <| S.iconst d_M_begin_7 (by decide) <| S.pI fl_M_264 (by decide) (by decide +kernel) d_M_begin_8 <| S.iconst d_M_begin_11 (by decide) <| S.istore_n d_M_begin_12 rfl (by decide) <| (fun _ _ _ h => h)
theorem bi_chd {σ0 σ : qS} {C : List Int} (h : BI σ0 σ C) (j : Int) : chd σ j ↔ j ∈ C := by
  obtain ⟨-, h1, h2, -, -⟩ := h
  constructor
  · rintro ⟨c, c0, c1, c2⟩
    have := h2 c.toNat (by omega)
    rw [show ((c.toNat : Nat) : Int) = c by omega, c2] at this
    exact List.mem_of_getElem? this
  · intro hj
    obtain ⟨i, hi⟩ := List.getElem?_of_mem hj
    have hlt := (List.getElem?_eq_some_iff.mp hi).1
    have := h2 i hlt
    rw [hi] at this
    exact ⟨i, by omega, by omega, (Option.some.inj this).symm⟩
theorem bi_free {σ0 σ : qS} {C : List Int} (h : BI σ0 σ C) (j : Int) : fre σ0 C j ↔ (σ 9 j ≠ 0 ∧ ¬ chd σ j ∧ ¬ wts σ j) := by
  have hc := bi_chd h
  have e := h.1
  unfold fre wts wts1
  rw [e 9 (by decide), e 12 (by decide), e 10 (by decide), e 11 (by decide), hc j]
  constructor
  · rintro ⟨a, b, c⟩
    exact ⟨a, b, fun ⟨k, k0, k1, x1, x2, x3⟩ => c ⟨k, ⟨k0, k1⟩, x1, x2, fun y => x3 ((hc k).mpr y)⟩⟩
  · rintro ⟨a, b, c⟩
    exact ⟨a, b, fun ⟨k, ⟨k0, k1⟩, x1, x2, x3⟩ => c ⟨k, k0, k1, x1, x2, fun y => x3 ((hc k).mp y)⟩⟩
theorem nd_len : ∀ (n : Nat) (C : List Int), C.Nodup → (∀ x ∈ C, 0 ≤ x ∧ x < n) → C.length ≤ n
  | 0, C, _, h => by
    cases C with
    | nil => exact Nat.le_refl _
    | cons x t => have := h x List.mem_cons_self; omega
  | n + 1, C, hn, h => by
    have h1 := nd_len n (C.erase (n : Int)) (hn.erase _) (fun x hx => by
      have hx' := (hn.mem_erase_iff).mp hx
      have := h x hx'.2
      have := hx'.1
      omega)
    by_cases hm : (n : Int) ∈ C
    · rw [List.length_erase_of_mem hm] at h1; omega
    · rw [List.erase_of_not_mem hm] at h1; omega
theorem bi_len {σ0 σ : qS} {C : List Int} (h : BI σ0 σ C) : C.length ≤ 8 := nd_len 8 C h.2.2.2.1 h.2.2.2.2
theorem bi_push {σ0 σ : qS} {C : List Int} {j : Int} (h : BI σ0 σ C) (hj : 0 ≤ j ∧ j < 8) (hn : j ∉ C) : BI σ0 (su (su σ 29 (C.length : Int) j) 30 0 (C.length + 1)) (C ++ [j]) := by
  obtain ⟨h0, h1, h2, h3, h4⟩ := h
  refine ⟨fun q hq => by rw [su_k (by intro e; subst e; exact hq (by decide)), su_k (by intro e; subst e; exact hq (by decide))]; exact h0 q hq, by rw [su_s]; simp, fun i hi => ?_, ?_, ?_⟩
  · rw [su_k (by decide), su_e]
    by_cases e : i = C.length
    · subst e; simp
    · rw [if_neg (by omega), List.getElem?_append_left (by simp at hi; omega)]; exact h2 i (by simp at hi; omega)
  · rw [List.nodup_append]; exact ⟨h3, by simp, by intro a ha b hb; simp at hb; subst hb; exact fun e => hn (e ▸ ha)⟩
  · intro x hx
    rcases List.mem_append.mp hx with h | h
    · exact h4 x h
    · simp at h; subst h; exact hj
theorem v_M_begin_240 {l : Launch} {ad : Nat → Nat} {D : va_G} {cA : Nat → ClassId} {WW : Nat → qP} {QR : Option qA → qS → Prop} (S : qSnd l rm_M_begin ad D cA R_M b_M_begin 4 WW) (Q : qRet (some .int) b_M_begin WW QR) {QT : Nat → qS → Prop} (Th : qThr l rm_M_begin ad D cA R_M b_M_begin WW QT) (σ : qS) (n : Int) (K : P_M_nextJob (ra σ 61 0 6 (fun _ => 0)) ∧ ∀ σ', Q_M_nextJob (ra σ 61 0 6 (fun _ => 0)) σ' → QR (some (.inl (σ' 30 0))) σ') : ∀ (m k : Nat), k + m = 6 → WW 240 [] [some (.inr (.inr 900)), some (.inl n), none, some (.inl (k : Int))] (ra σ 61 0 k (fun _ => 0)) := by
  intro m
  induction m with
  | zero =>
    intro k hk
    refine s_M_begin_240 S Q Th _ _ _ ?_
    simp only [k_M_begin_0, k_M_begin_13, k_M_begin_19, k_M_begin_28, k_M_begin_31, k_M_begin_36, k_M_begin_41, k_M_begin_50, k_M_begin_65, k_M_begin_73, k_M_begin_79, k_M_begin_85, k_M_begin_87, k_M_begin_91, k_M_begin_93, k_M_begin_99, k_M_begin_108, k_M_begin_116, k_M_begin_124, k_M_begin_130, k_M_begin_136, k_M_begin_140, k_M_begin_141, k_M_begin_146, k_M_begin_149, k_M_begin_172, k_M_begin_180, k_M_begin_188, k_M_begin_240, k_M_begin_246, k_M_begin_259, oc_M_isChained, oc_M_nextJob, ot_M_notGoing, oc_M_waits, o_th, o_c, o_il, o_ll, o_al, o_is, o_as, o_ls, o_inc, o_bi, o_bid, o_bl, o_bld, o_sl, o_i2l, o_l2i, o_dup, o_dup2, o_pop, o_pop2, o_if, o_i2, o_l2, swg, o_sw, o_gI, o_gZ, o_gJ, o_gA, o_gR, o_pI, o_pZ, o_pJ, o_pR, o_ia, o_iak, o_zak, o_ja, o_jak, o_is_, o_isk, o_zsk, o_js_, o_jsk, o_len, o_ri, o_rz, o_rl, o_rv, ls1, ls2, lks, lkj, List.getD_cons_zero, List.getD_cons_succ, List.set_cons_zero, List.set_cons_succ, qcat, true_and, and_true, List.map_nil, List.map_cons, List.sum_nil, List.sum_cons, Nat.reduceAdd, Nat.reduceLeDiff, Nat.zero_le, Int.reduceAdd, Int.reduceNeg, Int.reduceEq, or_true, true_or, Decidable.not_not, false_implies, not_false_eq_true, true_implies, not_true_eq_false, Int.reduceLT, Int.reduceLE]
    rw [show (k : Int) = 6 by omega]
    exact ⟨fun _ => K, fun h => by omega⟩
  | succ m ih =>
    intro k hk
    refine s_M_begin_240 S Q Th _ _ _ ?_
    simp only [k_M_begin_0, k_M_begin_13, k_M_begin_19, k_M_begin_28, k_M_begin_31, k_M_begin_36, k_M_begin_41, k_M_begin_50, k_M_begin_65, k_M_begin_73, k_M_begin_79, k_M_begin_85, k_M_begin_87, k_M_begin_91, k_M_begin_93, k_M_begin_99, k_M_begin_108, k_M_begin_116, k_M_begin_124, k_M_begin_130, k_M_begin_136, k_M_begin_140, k_M_begin_141, k_M_begin_146, k_M_begin_149, k_M_begin_172, k_M_begin_180, k_M_begin_188, k_M_begin_240, k_M_begin_246, k_M_begin_259, oc_M_isChained, oc_M_nextJob, ot_M_notGoing, oc_M_waits, o_th, o_c, o_il, o_ll, o_al, o_is, o_as, o_ls, o_inc, o_bi, o_bid, o_bl, o_bld, o_sl, o_i2l, o_l2i, o_dup, o_dup2, o_pop, o_pop2, o_if, o_i2, o_l2, swg, o_sw, o_gI, o_gZ, o_gJ, o_gA, o_gR, o_pI, o_pZ, o_pJ, o_pR, o_ia, o_iak, o_zak, o_ja, o_jak, o_is_, o_isk, o_zsk, o_js_, o_jsk, o_len, o_ri, o_rz, o_rl, o_rv, ls1, ls2, lks, lkj, List.getD_cons_zero, List.getD_cons_succ, List.set_cons_zero, List.set_cons_succ, qcat, true_and, and_true, List.map_nil, List.map_cons, List.sum_nil, List.sum_cons, Nat.reduceAdd, Nat.reduceLeDiff, Nat.zero_le, Int.reduceAdd, Int.reduceNeg, Int.reduceEq, or_true, true_or, Decidable.not_not, false_implies, not_false_eq_true, true_implies, not_true_eq_false, Int.reduceLT, Int.reduceLE]
    rw [ra_s (by omega) rfl, w32_i _ (by omega) (by omega)]
    exact ⟨fun h => by omega, fun _ => ⟨by omega, ih (k + 1) (by omega)⟩⟩
theorem nxj_ch (σ : qS) : nxj σ 30 = σ 30 := by
  unfold nxj; split
  · rw [su_k (by decide)]
  · rw [su_k (by decide), ra_k (by decide), ra_k (by decide), su_k (by decide)]
theorem v_M_begin_172 {l : Launch} {ad : Nat → Nat} {D : va_G} {cA : Nat → ClassId} {WW : Nat → qP} {QR : Option qA → qS → Prop} (S : qSnd l rm_M_begin ad D cA R_M b_M_begin 4 WW) (Q : qRet (some .int) b_M_begin WW QR) {QT : Nat → qS → Prop} (Th : qThr l rm_M_begin ad D cA R_M b_M_begin WW QT) (σ0 σ : qS) (C : List Int) (hB : BI σ0 σ C) (h : P_M_begin σ0) (hb : σ0 26 0 = 0) (hnd : ¬ dup2 σ0) (hC : ∃ n, ChR σ0 n [] C) (hq : ∀ (r : Int) σ', Q_M_begin σ0 r σ' → QR (some (.inl r)) σ') (ht : ∀ (t : Nat) σ', T_M_begin σ0 t σ' → QT t σ') : WW 172 [] [some (.inr (.inr 900)), some (.inl (nmd σ0 8)), none, none] σ := by
  refine s_M_begin_172 S Q Th _ _ _ ?_
  simp only [k_M_begin_0, k_M_begin_13, k_M_begin_19, k_M_begin_28, k_M_begin_31, k_M_begin_36, k_M_begin_41, k_M_begin_50, k_M_begin_65, k_M_begin_73, k_M_begin_79, k_M_begin_85, k_M_begin_87, k_M_begin_91, k_M_begin_93, k_M_begin_99, k_M_begin_108, k_M_begin_116, k_M_begin_124, k_M_begin_130, k_M_begin_136, k_M_begin_140, k_M_begin_141, k_M_begin_146, k_M_begin_149, k_M_begin_172, k_M_begin_180, k_M_begin_188, k_M_begin_240, k_M_begin_246, k_M_begin_259, oc_M_isChained, oc_M_nextJob, ot_M_notGoing, oc_M_waits, o_th, o_c, o_il, o_ll, o_al, o_is, o_as, o_ls, o_inc, o_bi, o_bid, o_bl, o_bld, o_sl, o_i2l, o_l2i, o_dup, o_dup2, o_pop, o_pop2, o_if, o_i2, o_l2, swg, o_sw, o_gI, o_gZ, o_gJ, o_gA, o_gR, o_pI, o_pZ, o_pJ, o_pR, o_ia, o_iak, o_zak, o_ja, o_jak, o_is_, o_isk, o_zsk, o_js_, o_jsk, o_len, o_ri, o_rz, o_rl, o_rv, ls1, ls2, lks, lkj, List.getD_cons_zero, List.getD_cons_succ, List.set_cons_zero, List.set_cons_succ, qcat, true_and, and_true, List.map_nil, List.map_cons, List.sum_nil, List.sum_cons, Nat.reduceAdd, Nat.reduceLeDiff, Nat.zero_le, Int.reduceAdd, Int.reduceNeg, Int.reduceEq, or_true, true_or, Decidable.not_not, false_implies, not_false_eq_true, true_implies, not_true_eq_false, Int.reduceLT, Int.reduceLE]
  have hl := hB.2.1
  rw [hl]
  refine ⟨fun hle => ?_, fun hgt => ht _ _ (Or.inr ⟨hb, rfl, C, hB, Or.inr ⟨hnd, hC, by omega⟩⟩)⟩
  refine s_M_begin_188 S Q Th _ _ _ ?_
  simp only [k_M_begin_0, k_M_begin_13, k_M_begin_19, k_M_begin_28, k_M_begin_31, k_M_begin_36, k_M_begin_41, k_M_begin_50, k_M_begin_65, k_M_begin_73, k_M_begin_79, k_M_begin_85, k_M_begin_87, k_M_begin_91, k_M_begin_93, k_M_begin_99, k_M_begin_108, k_M_begin_116, k_M_begin_124, k_M_begin_130, k_M_begin_136, k_M_begin_140, k_M_begin_141, k_M_begin_146, k_M_begin_149, k_M_begin_172, k_M_begin_180, k_M_begin_188, k_M_begin_240, k_M_begin_246, k_M_begin_259, oc_M_isChained, oc_M_nextJob, ot_M_notGoing, oc_M_waits, o_th, o_c, o_il, o_ll, o_al, o_is, o_as, o_ls, o_inc, o_bi, o_bid, o_bl, o_bld, o_sl, o_i2l, o_l2i, o_dup, o_dup2, o_pop, o_pop2, o_if, o_i2, o_l2, swg, o_sw, o_gI, o_gZ, o_gJ, o_gA, o_gR, o_pI, o_pZ, o_pJ, o_pR, o_ia, o_iak, o_zak, o_ja, o_jak, o_is_, o_isk, o_zsk, o_js_, o_jsk, o_len, o_ri, o_rz, o_rl, o_rv, ls1, ls2, lks, lkj, List.getD_cons_zero, List.getD_cons_succ, List.set_cons_zero, List.set_cons_succ, qcat, true_and, and_true, List.map_nil, List.map_cons, List.sum_nil, List.sum_cons, Nat.reduceAdd, Nat.reduceLeDiff, Nat.zero_le, Int.reduceAdd, Int.reduceNeg, Int.reduceEq, or_true, true_or, Decidable.not_not, false_implies, not_false_eq_true, true_implies, not_true_eq_false, Int.reduceLT, Int.reduceLE]
  have := v_M_begin_240 S Q Th (su (su (su (su (su (su (su (su (su σ 14 0 (z_add (σ 14 0) 1)) 26 0 1) 27 0 1) 28 0 (-1)) 32 0 0) 48 0 0) 49 0 0) 50 0 0) 39 0 0) (nmd σ0 8) ⟨?_, fun σ' q => ?_⟩ 6 0 (by omega)
  · rw [ra_0 (by omega)] at this; exact this
  · show 0 ≤ _ ∧ _ < _
    rw [ra_k (by decide)]; simp (disch := omega) only [su_k]; rw [hB.1 31 (by decide)]; exact h
  · have q' : σ' = nxj (bgn σ) := q
    have e : σ' 30 0 = C.length := by
      rw [q', nxj_ch]; unfold bgn; rw [ra_k (by decide)]; simp (disch := omega) only [su_k]; exact hl
    rw [e]
    exact hq _ _ ⟨hb, hnd, C, σ, hB, hC, by omega, rfl, q'⟩
theorem v_M_begin_93 {l : Launch} {ad : Nat → Nat} {D : va_G} {cA : Nat → ClassId} {WW : Nat → qP} {QR : Option qA → qS → Prop} (S : qSnd l rm_M_begin ad D cA R_M b_M_begin 4 WW) (Q : qRet (some .int) b_M_begin WW QR) {QT : Nat → qS → Prop} (Th : qThr l rm_M_begin ad D cA R_M b_M_begin WW QT) (σ0 σ : qS) (C : List Int) (hB : BI σ0 σ C) (n : Int) (K1 : (∀ i, 0 ≤ i → i < 8 → ¬ fre σ0 C i) → WW 172 [] [some (.inr (.inr 900)), some (.inl n), none, none] σ) (K2 : ∀ j, (0 ≤ j ∧ j < 8) → fre σ0 C j → (∀ i, 0 ≤ i → i < j → ¬ fre σ0 C i) → WW 149 [] [some (.inr (.inr 900)), some (.inl n), some (.inl 1), some (.inl j)] σ) : ∀ (m k : Nat), k + m = 8 → (∀ i, 0 ≤ i → i < (k : Int) → ¬ fre σ0 C i) → WW 93 [] [some (.inr (.inr 900)), some (.inl n), some (.inl 1), some (.inl (k : Int))] σ := by
  have hlen := bi_len hB
  have hfr := bi_free hB
  have hch : 0 ≤ σ 30 0 ∧ σ 30 0 ≤ 8 := by rw [hB.2.1]; omega
  intro m
  induction m with
  | zero =>
    intro k hk hn
    refine s_M_begin_93 S Q Th _ _ _ ?_
    simp only [k_M_begin_0, k_M_begin_13, k_M_begin_19, k_M_begin_28, k_M_begin_31, k_M_begin_36, k_M_begin_41, k_M_begin_50, k_M_begin_65, k_M_begin_73, k_M_begin_79, k_M_begin_85, k_M_begin_87, k_M_begin_91, k_M_begin_93, k_M_begin_99, k_M_begin_108, k_M_begin_116, k_M_begin_124, k_M_begin_130, k_M_begin_136, k_M_begin_140, k_M_begin_141, k_M_begin_146, k_M_begin_149, k_M_begin_172, k_M_begin_180, k_M_begin_188, k_M_begin_240, k_M_begin_246, k_M_begin_259, oc_M_isChained, oc_M_nextJob, ot_M_notGoing, oc_M_waits, o_th, o_c, o_il, o_ll, o_al, o_is, o_as, o_ls, o_inc, o_bi, o_bid, o_bl, o_bld, o_sl, o_i2l, o_l2i, o_dup, o_dup2, o_pop, o_pop2, o_if, o_i2, o_l2, swg, o_sw, o_gI, o_gZ, o_gJ, o_gA, o_gR, o_pI, o_pZ, o_pJ, o_pR, o_ia, o_iak, o_zak, o_ja, o_jak, o_is_, o_isk, o_zsk, o_js_, o_jsk, o_len, o_ri, o_rz, o_rl, o_rv, ls1, ls2, lks, lkj, List.getD_cons_zero, List.getD_cons_succ, List.set_cons_zero, List.set_cons_succ, qcat, true_and, and_true, List.map_nil, List.map_cons, List.sum_nil, List.sum_cons, Nat.reduceAdd, Nat.reduceLeDiff, Nat.zero_le, Int.reduceAdd, Int.reduceNeg, Int.reduceEq, or_true, true_or, Decidable.not_not, false_implies, not_false_eq_true, true_implies, not_true_eq_false, Int.reduceLT, Int.reduceLE]
    refine ⟨fun _ => ?_, fun h => by omega⟩
    refine s_M_begin_130 S Q Th _ _ _ ?_
    simp only [k_M_begin_0, k_M_begin_13, k_M_begin_19, k_M_begin_28, k_M_begin_31, k_M_begin_36, k_M_begin_41, k_M_begin_50, k_M_begin_65, k_M_begin_73, k_M_begin_79, k_M_begin_85, k_M_begin_87, k_M_begin_91, k_M_begin_93, k_M_begin_99, k_M_begin_108, k_M_begin_116, k_M_begin_124, k_M_begin_130, k_M_begin_136, k_M_begin_140, k_M_begin_141, k_M_begin_146, k_M_begin_149, k_M_begin_172, k_M_begin_180, k_M_begin_188, k_M_begin_240, k_M_begin_246, k_M_begin_259, oc_M_isChained, oc_M_nextJob, ot_M_notGoing, oc_M_waits, o_th, o_c, o_il, o_ll, o_al, o_is, o_as, o_ls, o_inc, o_bi, o_bid, o_bl, o_bld, o_sl, o_i2l, o_l2i, o_dup, o_dup2, o_pop, o_pop2, o_if, o_i2, o_l2, swg, o_sw, o_gI, o_gZ, o_gJ, o_gA, o_gR, o_pI, o_pZ, o_pJ, o_pR, o_ia, o_iak, o_zak, o_ja, o_jak, o_is_, o_isk, o_zsk, o_js_, o_jsk, o_len, o_ri, o_rz, o_rl, o_rv, ls1, ls2, lks, lkj, List.getD_cons_zero, List.getD_cons_succ, List.set_cons_zero, List.set_cons_succ, qcat, true_and, and_true, List.map_nil, List.map_cons, List.sum_nil, List.sum_cons, Nat.reduceAdd, Nat.reduceLeDiff, Nat.zero_le, Int.reduceAdd, Int.reduceNeg, Int.reduceEq, or_true, true_or, Decidable.not_not, false_implies, not_false_eq_true, true_implies, not_true_eq_false, Int.reduceLT, Int.reduceLE]
    refine ⟨fun _ => ?_, fun h => by omega⟩
    refine S.fg (ls' := [some (.inr (.inr 900)), some (.inl n), some (.inl 0), none]) ⟨rfl, rfl, rfl, trivial⟩ ?_
    refine s_M_begin_87 S Q Th _ _ _ ?_
    simp only [k_M_begin_0, k_M_begin_13, k_M_begin_19, k_M_begin_28, k_M_begin_31, k_M_begin_36, k_M_begin_41, k_M_begin_50, k_M_begin_65, k_M_begin_73, k_M_begin_79, k_M_begin_85, k_M_begin_87, k_M_begin_91, k_M_begin_93, k_M_begin_99, k_M_begin_108, k_M_begin_116, k_M_begin_124, k_M_begin_130, k_M_begin_136, k_M_begin_140, k_M_begin_141, k_M_begin_146, k_M_begin_149, k_M_begin_172, k_M_begin_180, k_M_begin_188, k_M_begin_240, k_M_begin_246, k_M_begin_259, oc_M_isChained, oc_M_nextJob, ot_M_notGoing, oc_M_waits, o_th, o_c, o_il, o_ll, o_al, o_is, o_as, o_ls, o_inc, o_bi, o_bid, o_bl, o_bld, o_sl, o_i2l, o_l2i, o_dup, o_dup2, o_pop, o_pop2, o_if, o_i2, o_l2, swg, o_sw, o_gI, o_gZ, o_gJ, o_gA, o_gR, o_pI, o_pZ, o_pJ, o_pR, o_ia, o_iak, o_zak, o_ja, o_jak, o_is_, o_isk, o_zsk, o_js_, o_jsk, o_len, o_ri, o_rz, o_rl, o_rv, ls1, ls2, lks, lkj, List.getD_cons_zero, List.getD_cons_succ, List.set_cons_zero, List.set_cons_succ, qcat, true_and, and_true, List.map_nil, List.map_cons, List.sum_nil, List.sum_cons, Nat.reduceAdd, Nat.reduceLeDiff, Nat.zero_le, Int.reduceAdd, Int.reduceNeg, Int.reduceEq, or_true, true_or, Decidable.not_not, false_implies, not_false_eq_true, true_implies, not_true_eq_false, Int.reduceLT, Int.reduceLE]
    exact S.fg (ls' := [some (.inr (.inr 900)), some (.inl n), none, none]) ⟨rfl, rfl, trivial⟩ (K1 (fun i h0 h1 => hn i h0 (by omega)))
  | succ m ih =>
    intro k hk hn
    have nx : ¬ fre σ0 C k → WW 124 [] [some (.inr (.inr 900)), some (.inl n), some (.inl 1), some (.inl (k : Int))] σ := fun hf => by
      refine s_M_begin_124 S Q Th _ _ _ ?_
      simp only [k_M_begin_0, k_M_begin_13, k_M_begin_19, k_M_begin_28, k_M_begin_31, k_M_begin_36, k_M_begin_41, k_M_begin_50, k_M_begin_65, k_M_begin_73, k_M_begin_79, k_M_begin_85, k_M_begin_87, k_M_begin_91, k_M_begin_93, k_M_begin_99, k_M_begin_108, k_M_begin_116, k_M_begin_124, k_M_begin_130, k_M_begin_136, k_M_begin_140, k_M_begin_141, k_M_begin_146, k_M_begin_149, k_M_begin_172, k_M_begin_180, k_M_begin_188, k_M_begin_240, k_M_begin_246, k_M_begin_259, oc_M_isChained, oc_M_nextJob, ot_M_notGoing, oc_M_waits, o_th, o_c, o_il, o_ll, o_al, o_is, o_as, o_ls, o_inc, o_bi, o_bid, o_bl, o_bld, o_sl, o_i2l, o_l2i, o_dup, o_dup2, o_pop, o_pop2, o_if, o_i2, o_l2, swg, o_sw, o_gI, o_gZ, o_gJ, o_gA, o_gR, o_pI, o_pZ, o_pJ, o_pR, o_ia, o_iak, o_zak, o_ja, o_jak, o_is_, o_isk, o_zsk, o_js_, o_jsk, o_len, o_ri, o_rz, o_rl, o_rv, ls1, ls2, lks, lkj, List.getD_cons_zero, List.getD_cons_succ, List.set_cons_zero, List.set_cons_succ, qcat, true_and, and_true, List.map_nil, List.map_cons, List.sum_nil, List.sum_cons, Nat.reduceAdd, Nat.reduceLeDiff, Nat.zero_le, Int.reduceAdd, Int.reduceNeg, Int.reduceEq, or_true, true_or, Decidable.not_not, false_implies, not_false_eq_true, true_implies, not_true_eq_false, Int.reduceLT, Int.reduceLE]
      rw [w32_i _ (by omega) (by omega)]
      exact ih (k + 1) (by omega) (fun i h0 h1 => by by_cases e : i = (k : Int); rw [e]; exact hf; exact hn i h0 (by omega))
    refine s_M_begin_93 S Q Th _ _ _ ?_
    simp only [k_M_begin_0, k_M_begin_13, k_M_begin_19, k_M_begin_28, k_M_begin_31, k_M_begin_36, k_M_begin_41, k_M_begin_50, k_M_begin_65, k_M_begin_73, k_M_begin_79, k_M_begin_85, k_M_begin_87, k_M_begin_91, k_M_begin_93, k_M_begin_99, k_M_begin_108, k_M_begin_116, k_M_begin_124, k_M_begin_130, k_M_begin_136, k_M_begin_140, k_M_begin_141, k_M_begin_146, k_M_begin_149, k_M_begin_172, k_M_begin_180, k_M_begin_188, k_M_begin_240, k_M_begin_246, k_M_begin_259, oc_M_isChained, oc_M_nextJob, ot_M_notGoing, oc_M_waits, o_th, o_c, o_il, o_ll, o_al, o_is, o_as, o_ls, o_inc, o_bi, o_bid, o_bl, o_bld, o_sl, o_i2l, o_l2i, o_dup, o_dup2, o_pop, o_pop2, o_if, o_i2, o_l2, swg, o_sw, o_gI, o_gZ, o_gJ, o_gA, o_gR, o_pI, o_pZ, o_pJ, o_pR, o_ia, o_iak, o_zak, o_ja, o_jak, o_is_, o_isk, o_zsk, o_js_, o_jsk, o_len, o_ri, o_rz, o_rl, o_rv, ls1, ls2, lks, lkj, List.getD_cons_zero, List.getD_cons_succ, List.set_cons_zero, List.set_cons_succ, qcat, true_and, and_true, List.map_nil, List.map_cons, List.sum_nil, List.sum_cons, Nat.reduceAdd, Nat.reduceLeDiff, Nat.zero_le, Int.reduceAdd, Int.reduceNeg, Int.reduceEq, or_true, true_or, Decidable.not_not, false_implies, not_false_eq_true, true_implies, not_true_eq_false, Int.reduceLT, Int.reduceLE]
    refine ⟨fun h => by omega, fun _ => ⟨by omega, fun _ => ⟨fun h0 => nx (fun hf => ((hfr k).mp hf).1 h0), fun h0 => ⟨hch, fun r σ1 q1 => ?_⟩⟩⟩⟩
    obtain ⟨e9, hm⟩ := q1; subst e9
    refine ⟨fun hr => nx (fun hf => ?_), fun hr => ⟨⟨by omega, hch⟩, fun r2 σ2 q2 => ?_⟩⟩
    · rcases hm with ⟨x, _⟩ | ⟨_, x⟩
      · exact hr x
      · exact ((hfr k).mp hf).2.1 x
    · obtain ⟨e9, hm2⟩ := q2; subst e9
      have hnc : ¬ chd σ2 k := by rcases hm with ⟨_, x⟩ | ⟨x, _⟩; exact x; omega
      refine ⟨fun hr2 => ?_, fun hr2 => nx (fun hf => ?_)⟩
      · have hnw : ¬ wts σ2 k := by rcases hm2 with ⟨_, x⟩ | ⟨x, _⟩; exact x; omega
        refine s_M_begin_130 S Q Th _ _ _ ?_
        simp only [k_M_begin_0, k_M_begin_13, k_M_begin_19, k_M_begin_28, k_M_begin_31, k_M_begin_36, k_M_begin_41, k_M_begin_50, k_M_begin_65, k_M_begin_73, k_M_begin_79, k_M_begin_85, k_M_begin_87, k_M_begin_91, k_M_begin_93, k_M_begin_99, k_M_begin_108, k_M_begin_116, k_M_begin_124, k_M_begin_130, k_M_begin_136, k_M_begin_140, k_M_begin_141, k_M_begin_146, k_M_begin_149, k_M_begin_172, k_M_begin_180, k_M_begin_188, k_M_begin_240, k_M_begin_246, k_M_begin_259, oc_M_isChained, oc_M_nextJob, ot_M_notGoing, oc_M_waits, o_th, o_c, o_il, o_ll, o_al, o_is, o_as, o_ls, o_inc, o_bi, o_bid, o_bl, o_bld, o_sl, o_i2l, o_l2i, o_dup, o_dup2, o_pop, o_pop2, o_if, o_i2, o_l2, swg, o_sw, o_gI, o_gZ, o_gJ, o_gA, o_gR, o_pI, o_pZ, o_pJ, o_pR, o_ia, o_iak, o_zak, o_ja, o_jak, o_is_, o_isk, o_zsk, o_js_, o_jsk, o_len, o_ri, o_rz, o_rl, o_rv, ls1, ls2, lks, lkj, List.getD_cons_zero, List.getD_cons_succ, List.set_cons_zero, List.set_cons_succ, qcat, true_and, and_true, List.map_nil, List.map_cons, List.sum_nil, List.sum_cons, Nat.reduceAdd, Nat.reduceLeDiff, Nat.zero_le, Int.reduceAdd, Int.reduceNeg, Int.reduceEq, or_true, true_or, Decidable.not_not, false_implies, not_false_eq_true, true_implies, not_true_eq_false, Int.reduceLT, Int.reduceLE]
        exact ⟨fun h => by omega, fun _ => K2 k (by omega) ((hfr k).mpr ⟨h0, hnc, hnw⟩) hn⟩
      · rcases hm2 with ⟨x, _⟩ | ⟨_, x⟩
        · exact hr2 x
        · exact ((hfr k).mp hf).2.2 x
theorem v_M_begin_87 {l : Launch} {ad : Nat → Nat} {D : va_G} {cA : Nat → ClassId} {WW : Nat → qP} {QR : Option qA → qS → Prop} (S : qSnd l rm_M_begin ad D cA R_M b_M_begin 4 WW) (Q : qRet (some .int) b_M_begin WW QR) {QT : Nat → qS → Prop} (Th : qThr l rm_M_begin ad D cA R_M b_M_begin WW QT) (σ0 : qS) (h : P_M_begin σ0) (hb : σ0 26 0 = 0) (hnd : ¬ dup2 σ0) (hq : ∀ (r : Int) σ', Q_M_begin σ0 r σ' → QR (some (.inl r)) σ') (ht : ∀ (t : Nat) σ', T_M_begin σ0 t σ' → QT t σ') : ∀ (f : Nat) (C : List Int) (σ : qS), 8 - C.length ≤ f → BI σ0 σ C → (∀ n C', ChR σ0 n C C' → ∃ n', ChR σ0 n' [] C') → WW 87 [] [some (.inr (.inr 900)), some (.inl (nmd σ0 8)), some (.inl 1), none] σ := by
  intro f
  induction f with
  | zero =>
    intro C σ hf hB hr
    refine s_M_begin_87 S Q Th _ _ _ ?_
    simp only [k_M_begin_0, k_M_begin_13, k_M_begin_19, k_M_begin_28, k_M_begin_31, k_M_begin_36, k_M_begin_41, k_M_begin_50, k_M_begin_65, k_M_begin_73, k_M_begin_79, k_M_begin_85, k_M_begin_87, k_M_begin_91, k_M_begin_93, k_M_begin_99, k_M_begin_108, k_M_begin_116, k_M_begin_124, k_M_begin_130, k_M_begin_136, k_M_begin_140, k_M_begin_141, k_M_begin_146, k_M_begin_149, k_M_begin_172, k_M_begin_180, k_M_begin_188, k_M_begin_240, k_M_begin_246, k_M_begin_259, oc_M_isChained, oc_M_nextJob, ot_M_notGoing, oc_M_waits, o_th, o_c, o_il, o_ll, o_al, o_is, o_as, o_ls, o_inc, o_bi, o_bid, o_bl, o_bld, o_sl, o_i2l, o_l2i, o_dup, o_dup2, o_pop, o_pop2, o_if, o_i2, o_l2, swg, o_sw, o_gI, o_gZ, o_gJ, o_gA, o_gR, o_pI, o_pZ, o_pJ, o_pR, o_ia, o_iak, o_zak, o_ja, o_jak, o_is_, o_isk, o_zsk, o_js_, o_jsk, o_len, o_ri, o_rz, o_rl, o_rv, ls1, ls2, lks, lkj, List.getD_cons_zero, List.getD_cons_succ, List.set_cons_zero, List.set_cons_succ, qcat, true_and, and_true, List.map_nil, List.map_cons, List.sum_nil, List.sum_cons, Nat.reduceAdd, Nat.reduceLeDiff, Nat.zero_le, Int.reduceAdd, Int.reduceNeg, Int.reduceEq, or_true, true_or, Decidable.not_not, false_implies, not_false_eq_true, true_implies, not_true_eq_false, Int.reduceLT, Int.reduceLE]
    refine v_M_begin_93 S Q Th σ0 σ C hB _ (fun hn => v_M_begin_172 S Q Th σ0 σ C hB h hb hnd (hr 0 C ⟨rfl, hn⟩) hq ht) (fun j hj hfj hmin => ?_) 8 0 (by omega) (fun i h0 h1 => by omega)
    have := bi_len (bi_push hB hj hfj.2.1)
    simp at this; omega
  | succ f ih =>
    intro C σ hf hB hr
    refine s_M_begin_87 S Q Th _ _ _ ?_
    simp only [k_M_begin_0, k_M_begin_13, k_M_begin_19, k_M_begin_28, k_M_begin_31, k_M_begin_36, k_M_begin_41, k_M_begin_50, k_M_begin_65, k_M_begin_73, k_M_begin_79, k_M_begin_85, k_M_begin_87, k_M_begin_91, k_M_begin_93, k_M_begin_99, k_M_begin_108, k_M_begin_116, k_M_begin_124, k_M_begin_130, k_M_begin_136, k_M_begin_140, k_M_begin_141, k_M_begin_146, k_M_begin_149, k_M_begin_172, k_M_begin_180, k_M_begin_188, k_M_begin_240, k_M_begin_246, k_M_begin_259, oc_M_isChained, oc_M_nextJob, ot_M_notGoing, oc_M_waits, o_th, o_c, o_il, o_ll, o_al, o_is, o_as, o_ls, o_inc, o_bi, o_bid, o_bl, o_bld, o_sl, o_i2l, o_l2i, o_dup, o_dup2, o_pop, o_pop2, o_if, o_i2, o_l2, swg, o_sw, o_gI, o_gZ, o_gJ, o_gA, o_gR, o_pI, o_pZ, o_pJ, o_pR, o_ia, o_iak, o_zak, o_ja, o_jak, o_is_, o_isk, o_zsk, o_js_, o_jsk, o_len, o_ri, o_rz, o_rl, o_rv, ls1, ls2, lks, lkj, List.getD_cons_zero, List.getD_cons_succ, List.set_cons_zero, List.set_cons_succ, qcat, true_and, and_true, List.map_nil, List.map_cons, List.sum_nil, List.sum_cons, Nat.reduceAdd, Nat.reduceLeDiff, Nat.zero_le, Int.reduceAdd, Int.reduceNeg, Int.reduceEq, or_true, true_or, Decidable.not_not, false_implies, not_false_eq_true, true_implies, not_true_eq_false, Int.reduceLT, Int.reduceLE]
    refine v_M_begin_93 S Q Th σ0 σ C hB _ (fun hn => v_M_begin_172 S Q Th σ0 σ C hB h hb hnd (hr 0 C ⟨rfl, hn⟩) hq ht) (fun j hj hfj hmin => ?_) 8 0 (by omega) (fun i h0 h1 => by omega)
    have hp := bi_push hB hj hfj.2.1
    have hl8 := bi_len hp
    simp only [List.length_append, List.length_singleton] at hl8
    refine s_M_begin_149 S Q Th _ _ _ ?_
    simp only [k_M_begin_0, k_M_begin_13, k_M_begin_19, k_M_begin_28, k_M_begin_31, k_M_begin_36, k_M_begin_41, k_M_begin_50, k_M_begin_65, k_M_begin_73, k_M_begin_79, k_M_begin_85, k_M_begin_87, k_M_begin_91, k_M_begin_93, k_M_begin_99, k_M_begin_108, k_M_begin_116, k_M_begin_124, k_M_begin_130, k_M_begin_136, k_M_begin_140, k_M_begin_141, k_M_begin_146, k_M_begin_149, k_M_begin_172, k_M_begin_180, k_M_begin_188, k_M_begin_240, k_M_begin_246, k_M_begin_259, oc_M_isChained, oc_M_nextJob, ot_M_notGoing, oc_M_waits, o_th, o_c, o_il, o_ll, o_al, o_is, o_as, o_ls, o_inc, o_bi, o_bid, o_bl, o_bld, o_sl, o_i2l, o_l2i, o_dup, o_dup2, o_pop, o_pop2, o_if, o_i2, o_l2, swg, o_sw, o_gI, o_gZ, o_gJ, o_gA, o_gR, o_pI, o_pZ, o_pJ, o_pR, o_ia, o_iak, o_zak, o_ja, o_jak, o_is_, o_isk, o_zsk, o_js_, o_jsk, o_len, o_ri, o_rz, o_rl, o_rv, ls1, ls2, lks, lkj, List.getD_cons_zero, List.getD_cons_succ, List.set_cons_zero, List.set_cons_succ, qcat, true_and, and_true, List.map_nil, List.map_cons, List.sum_nil, List.sum_cons, Nat.reduceAdd, Nat.reduceLeDiff, Nat.zero_le, Int.reduceAdd, Int.reduceNeg, Int.reduceEq, or_true, true_or, Decidable.not_not, false_implies, not_false_eq_true, true_implies, not_true_eq_false, Int.reduceLT, Int.reduceLE]
    simp (disch := omega) only [su_k]
    have e1 : z_add (C.length : Int) 1 = C.length + 1 := by unfold z_add; exact w32_i _ (by omega) (by omega)
    rw [hB.2.1, e1]
    refine ⟨by omega, S.fg (ls' := [some (.inr (.inr 900)), some (.inl (nmd σ0 8)), some (.inl 1), none]) ⟨rfl, rfl, rfl, trivial⟩ ?_⟩
    exact ih (C ++ [j]) _ (by simp; omega) hp (fun n C' hc => hr (n + 1) C' ⟨j, hj, hfj, hmin, hc⟩)
theorem v_M_begin_36 {l : Launch} {ad : Nat → Nat} {D : va_G} {cA : Nat → ClassId} {WW : Nat → qP} {QR : Option qA → qS → Prop} (S : qSnd l rm_M_begin ad D cA R_M b_M_begin 4 WW) (Q : qRet (some .int) b_M_begin WW QR) {QT : Nat → qS → Prop} (Th : qThr l rm_M_begin ad D cA R_M b_M_begin WW QT) (σ0 σ : qS) (C : List Int) (hB : BI σ0 σ C) (n : Int) (k : Nat) (hk : k < 8) (hmk : σ0 9 k ≠ 0) (bad : dup2 σ0 → QT 3 σ) (K : (∀ i, 0 ≤ i → i < (k : Int) → ¬ (σ0 9 i ≠ 0 ∧ σ0 12 i = σ0 12 k)) → WW 79 [] [some (.inr (.inr 900)), some (.inl n), some (.inl (k : Int)), none] σ) : ∀ (m j : Nat), j + m = k → (∀ i, 0 ≤ i → i < (j : Int) → ¬ (σ0 9 i ≠ 0 ∧ σ0 12 i = σ0 12 k)) → WW 36 [] [some (.inr (.inr 900)), some (.inl n), some (.inl (k : Int)), some (.inl (j : Int))] σ := by
  have em : σ 9 = σ0 9 := hB.1 _ (by decide)
  have eo : σ 12 = σ0 12 := hB.1 _ (by decide)
  intro m
  induction m with
  | zero =>
    intro j hj hn
    refine s_M_begin_36 S Q Th _ _ _ ?_
    simp only [k_M_begin_0, k_M_begin_13, k_M_begin_19, k_M_begin_28, k_M_begin_31, k_M_begin_36, k_M_begin_41, k_M_begin_50, k_M_begin_65, k_M_begin_73, k_M_begin_79, k_M_begin_85, k_M_begin_87, k_M_begin_91, k_M_begin_93, k_M_begin_99, k_M_begin_108, k_M_begin_116, k_M_begin_124, k_M_begin_130, k_M_begin_136, k_M_begin_140, k_M_begin_141, k_M_begin_146, k_M_begin_149, k_M_begin_172, k_M_begin_180, k_M_begin_188, k_M_begin_240, k_M_begin_246, k_M_begin_259, oc_M_isChained, oc_M_nextJob, ot_M_notGoing, oc_M_waits, o_th, o_c, o_il, o_ll, o_al, o_is, o_as, o_ls, o_inc, o_bi, o_bid, o_bl, o_bld, o_sl, o_i2l, o_l2i, o_dup, o_dup2, o_pop, o_pop2, o_if, o_i2, o_l2, swg, o_sw, o_gI, o_gZ, o_gJ, o_gA, o_gR, o_pI, o_pZ, o_pJ, o_pR, o_ia, o_iak, o_zak, o_ja, o_jak, o_is_, o_isk, o_zsk, o_js_, o_jsk, o_len, o_ri, o_rz, o_rl, o_rv, ls1, ls2, lks, lkj, List.getD_cons_zero, List.getD_cons_succ, List.set_cons_zero, List.set_cons_succ, qcat, true_and, and_true, List.map_nil, List.map_cons, List.sum_nil, List.sum_cons, Nat.reduceAdd, Nat.reduceLeDiff, Nat.zero_le, Int.reduceAdd, Int.reduceNeg, Int.reduceEq, or_true, true_or, Decidable.not_not, false_implies, not_false_eq_true, true_implies, not_true_eq_false, Int.reduceLT, Int.reduceLE]
    exact ⟨fun _ => S.fg (ls' := [some (.inr (.inr 900)), some (.inl n), some (.inl (k : Int)), none]) ⟨rfl, rfl, rfl, trivial⟩ (K (fun i h0 h1 => hn i h0 (by omega))), fun h => by omega⟩
  | succ m ih =>
    intro j hj hn
    have nx : ¬ (σ0 9 j ≠ 0 ∧ σ0 12 j = σ0 12 k) → WW 73 [] [some (.inr (.inr 900)), some (.inl n), some (.inl (k : Int)), some (.inl (j : Int))] σ := fun hf => by
      refine s_M_begin_73 S Q Th _ _ _ ?_
      simp only [k_M_begin_0, k_M_begin_13, k_M_begin_19, k_M_begin_28, k_M_begin_31, k_M_begin_36, k_M_begin_41, k_M_begin_50, k_M_begin_65, k_M_begin_73, k_M_begin_79, k_M_begin_85, k_M_begin_87, k_M_begin_91, k_M_begin_93, k_M_begin_99, k_M_begin_108, k_M_begin_116, k_M_begin_124, k_M_begin_130, k_M_begin_136, k_M_begin_140, k_M_begin_141, k_M_begin_146, k_M_begin_149, k_M_begin_172, k_M_begin_180, k_M_begin_188, k_M_begin_240, k_M_begin_246, k_M_begin_259, oc_M_isChained, oc_M_nextJob, ot_M_notGoing, oc_M_waits, o_th, o_c, o_il, o_ll, o_al, o_is, o_as, o_ls, o_inc, o_bi, o_bid, o_bl, o_bld, o_sl, o_i2l, o_l2i, o_dup, o_dup2, o_pop, o_pop2, o_if, o_i2, o_l2, swg, o_sw, o_gI, o_gZ, o_gJ, o_gA, o_gR, o_pI, o_pZ, o_pJ, o_pR, o_ia, o_iak, o_zak, o_ja, o_jak, o_is_, o_isk, o_zsk, o_js_, o_jsk, o_len, o_ri, o_rz, o_rl, o_rv, ls1, ls2, lks, lkj, List.getD_cons_zero, List.getD_cons_succ, List.set_cons_zero, List.set_cons_succ, qcat, true_and, and_true, List.map_nil, List.map_cons, List.sum_nil, List.sum_cons, Nat.reduceAdd, Nat.reduceLeDiff, Nat.zero_le, Int.reduceAdd, Int.reduceNeg, Int.reduceEq, or_true, true_or, Decidable.not_not, false_implies, not_false_eq_true, true_implies, not_true_eq_false, Int.reduceLT, Int.reduceLE]
      rw [w32_i _ (by omega) (by omega)]
      exact ih (j + 1) (by omega) (fun i h0 h1 => by by_cases e : i = (j : Int); rw [e]; exact hf; exact hn i h0 (by omega))
    refine s_M_begin_36 S Q Th _ _ _ ?_
    simp only [k_M_begin_0, k_M_begin_13, k_M_begin_19, k_M_begin_28, k_M_begin_31, k_M_begin_36, k_M_begin_41, k_M_begin_50, k_M_begin_65, k_M_begin_73, k_M_begin_79, k_M_begin_85, k_M_begin_87, k_M_begin_91, k_M_begin_93, k_M_begin_99, k_M_begin_108, k_M_begin_116, k_M_begin_124, k_M_begin_130, k_M_begin_136, k_M_begin_140, k_M_begin_141, k_M_begin_146, k_M_begin_149, k_M_begin_172, k_M_begin_180, k_M_begin_188, k_M_begin_240, k_M_begin_246, k_M_begin_259, oc_M_isChained, oc_M_nextJob, ot_M_notGoing, oc_M_waits, o_th, o_c, o_il, o_ll, o_al, o_is, o_as, o_ls, o_inc, o_bi, o_bid, o_bl, o_bld, o_sl, o_i2l, o_l2i, o_dup, o_dup2, o_pop, o_pop2, o_if, o_i2, o_l2, swg, o_sw, o_gI, o_gZ, o_gJ, o_gA, o_gR, o_pI, o_pZ, o_pJ, o_pR, o_ia, o_iak, o_zak, o_ja, o_jak, o_is_, o_isk, o_zsk, o_js_, o_jsk, o_len, o_ri, o_rz, o_rl, o_rv, ls1, ls2, lks, lkj, List.getD_cons_zero, List.getD_cons_succ, List.set_cons_zero, List.set_cons_succ, qcat, true_and, and_true, List.map_nil, List.map_cons, List.sum_nil, List.sum_cons, Nat.reduceAdd, Nat.reduceLeDiff, Nat.zero_le, Int.reduceAdd, Int.reduceNeg, Int.reduceEq, or_true, true_or, Decidable.not_not, false_implies, not_false_eq_true, true_implies, not_true_eq_false, Int.reduceLT, Int.reduceLE]
    rw [em, eo]
    refine ⟨fun h => by omega, fun _ => ⟨by omega, fun _ => ⟨fun h0 => nx (fun x => x.1 h0), fun h0 => ⟨by omega, by omega, fun ho => nx (fun x => ho x.2), fun ho => ?_⟩⟩⟩⟩
    refine s_M_begin_65 S Q Th _ _ _ ?_
    simp only [k_M_begin_0, k_M_begin_13, k_M_begin_19, k_M_begin_28, k_M_begin_31, k_M_begin_36, k_M_begin_41, k_M_begin_50, k_M_begin_65, k_M_begin_73, k_M_begin_79, k_M_begin_85, k_M_begin_87, k_M_begin_91, k_M_begin_93, k_M_begin_99, k_M_begin_108, k_M_begin_116, k_M_begin_124, k_M_begin_130, k_M_begin_136, k_M_begin_140, k_M_begin_141, k_M_begin_146, k_M_begin_149, k_M_begin_172, k_M_begin_180, k_M_begin_188, k_M_begin_240, k_M_begin_246, k_M_begin_259, oc_M_isChained, oc_M_nextJob, ot_M_notGoing, oc_M_waits, o_th, o_c, o_il, o_ll, o_al, o_is, o_as, o_ls, o_inc, o_bi, o_bid, o_bl, o_bld, o_sl, o_i2l, o_l2i, o_dup, o_dup2, o_pop, o_pop2, o_if, o_i2, o_l2, swg, o_sw, o_gI, o_gZ, o_gJ, o_gA, o_gR, o_pI, o_pZ, o_pJ, o_pR, o_ia, o_iak, o_zak, o_ja, o_jak, o_is_, o_isk, o_zsk, o_js_, o_jsk, o_len, o_ri, o_rz, o_rl, o_rv, ls1, ls2, lks, lkj, List.getD_cons_zero, List.getD_cons_succ, List.set_cons_zero, List.set_cons_succ, qcat, true_and, and_true, List.map_nil, List.map_cons, List.sum_nil, List.sum_cons, Nat.reduceAdd, Nat.reduceLeDiff, Nat.zero_le, Int.reduceAdd, Int.reduceNeg, Int.reduceEq, or_true, true_or, Decidable.not_not, false_implies, not_false_eq_true, true_implies, not_true_eq_false, Int.reduceLT, Int.reduceLE]
    exact bad ⟨k, j, by omega, by omega, hmk, h0, ho⟩
theorem v_M_begin_13 {l : Launch} {ad : Nat → Nat} {D : va_G} {cA : Nat → ClassId} {WW : Nat → qP} {QR : Option qA → qS → Prop} (S : qSnd l rm_M_begin ad D cA R_M b_M_begin 4 WW) (Q : qRet (some .int) b_M_begin WW QR) {QT : Nat → qS → Prop} (Th : qThr l rm_M_begin ad D cA R_M b_M_begin WW QT) (σ0 σ : qS) (C : List Int) (hB : BI σ0 σ C) (bad : dup2 σ0 → QT 3 σ) (K : ¬ dup2 σ0 → WW 87 [] [some (.inr (.inr 900)), some (.inl (nmd σ0 8)), some (.inl 1), none] σ) : ∀ (m k : Nat), k + m = 8 → (∀ j, 0 ≤ j → j < (k : Int) → σ0 9 j ≠ 0 → ∀ i, 0 ≤ i → i < j → ¬ (σ0 9 i ≠ 0 ∧ σ0 12 i = σ0 12 j)) → WW 13 [] [some (.inr (.inr 900)), some (.inl (nmd σ0 k)), some (.inl (k : Int)), none] σ := by
  have em : σ 9 = σ0 9 := hB.1 _ (by decide)
  intro m
  induction m with
  | zero =>
    intro k hk hn
    refine s_M_begin_13 S Q Th _ _ _ ?_
    simp only [k_M_begin_0, k_M_begin_13, k_M_begin_19, k_M_begin_28, k_M_begin_31, k_M_begin_36, k_M_begin_41, k_M_begin_50, k_M_begin_65, k_M_begin_73, k_M_begin_79, k_M_begin_85, k_M_begin_87, k_M_begin_91, k_M_begin_93, k_M_begin_99, k_M_begin_108, k_M_begin_116, k_M_begin_124, k_M_begin_130, k_M_begin_136, k_M_begin_140, k_M_begin_141, k_M_begin_146, k_M_begin_149, k_M_begin_172, k_M_begin_180, k_M_begin_188, k_M_begin_240, k_M_begin_246, k_M_begin_259, oc_M_isChained, oc_M_nextJob, ot_M_notGoing, oc_M_waits, o_th, o_c, o_il, o_ll, o_al, o_is, o_as, o_ls, o_inc, o_bi, o_bid, o_bl, o_bld, o_sl, o_i2l, o_l2i, o_dup, o_dup2, o_pop, o_pop2, o_if, o_i2, o_l2, swg, o_sw, o_gI, o_gZ, o_gJ, o_gA, o_gR, o_pI, o_pZ, o_pJ, o_pR, o_ia, o_iak, o_zak, o_ja, o_jak, o_is_, o_isk, o_zsk, o_js_, o_jsk, o_len, o_ri, o_rz, o_rl, o_rv, ls1, ls2, lks, lkj, List.getD_cons_zero, List.getD_cons_succ, List.set_cons_zero, List.set_cons_succ, qcat, true_and, and_true, List.map_nil, List.map_cons, List.sum_nil, List.sum_cons, Nat.reduceAdd, Nat.reduceLeDiff, Nat.zero_le, Int.reduceAdd, Int.reduceNeg, Int.reduceEq, or_true, true_or, Decidable.not_not, false_implies, not_false_eq_true, true_implies, not_true_eq_false, Int.reduceLT, Int.reduceLE]
    refine ⟨fun _ => ?_, fun h => by omega⟩
    rw [show k = 8 by omega]
    refine S.fg (ls' := [some (.inr (.inr 900)), some (.inl (nmd σ0 8)), none, none]) ⟨rfl, rfl, trivial⟩ ?_
    refine s_M_begin_85 S Q Th _ _ _ ?_
    simp only [k_M_begin_0, k_M_begin_13, k_M_begin_19, k_M_begin_28, k_M_begin_31, k_M_begin_36, k_M_begin_41, k_M_begin_50, k_M_begin_65, k_M_begin_73, k_M_begin_79, k_M_begin_85, k_M_begin_87, k_M_begin_91, k_M_begin_93, k_M_begin_99, k_M_begin_108, k_M_begin_116, k_M_begin_124, k_M_begin_130, k_M_begin_136, k_M_begin_140, k_M_begin_141, k_M_begin_146, k_M_begin_149, k_M_begin_172, k_M_begin_180, k_M_begin_188, k_M_begin_240, k_M_begin_246, k_M_begin_259, oc_M_isChained, oc_M_nextJob, ot_M_notGoing, oc_M_waits, o_th, o_c, o_il, o_ll, o_al, o_is, o_as, o_ls, o_inc, o_bi, o_bid, o_bl, o_bld, o_sl, o_i2l, o_l2i, o_dup, o_dup2, o_pop, o_pop2, o_if, o_i2, o_l2, swg, o_sw, o_gI, o_gZ, o_gJ, o_gA, o_gR, o_pI, o_pZ, o_pJ, o_pR, o_ia, o_iak, o_zak, o_ja, o_jak, o_is_, o_isk, o_zsk, o_js_, o_jsk, o_len, o_ri, o_rz, o_rl, o_rv, ls1, ls2, lks, lkj, List.getD_cons_zero, List.getD_cons_succ, List.set_cons_zero, List.set_cons_succ, qcat, true_and, and_true, List.map_nil, List.map_cons, List.sum_nil, List.sum_cons, Nat.reduceAdd, Nat.reduceLeDiff, Nat.zero_le, Int.reduceAdd, Int.reduceNeg, Int.reduceEq, or_true, true_or, Decidable.not_not, false_implies, not_false_eq_true, true_implies, not_true_eq_false, Int.reduceLT, Int.reduceLE]
    exact K (fun ⟨j, i, x1, x2, x3, x4, x5⟩ => hn j (by omega) (by omega) x3 i x1.1 x1.2 ⟨x4, x5⟩)
  | succ m ih =>
    intro k hk hn
    have hbn := nmd_b σ0 k
    have nx : ∀ v, v = nmd σ0 (k + 1) → (σ0 9 k ≠ 0 → ∀ i, 0 ≤ i → i < (k : Int) → ¬ (σ0 9 i ≠ 0 ∧ σ0 12 i = σ0 12 k)) → WW 79 [] [some (.inr (.inr 900)), some (.inl v), some (.inl (k : Int)), none] σ := fun v hv hf => by
      refine s_M_begin_79 S Q Th _ _ _ ?_
      simp only [k_M_begin_0, k_M_begin_13, k_M_begin_19, k_M_begin_28, k_M_begin_31, k_M_begin_36, k_M_begin_41, k_M_begin_50, k_M_begin_65, k_M_begin_73, k_M_begin_79, k_M_begin_85, k_M_begin_87, k_M_begin_91, k_M_begin_93, k_M_begin_99, k_M_begin_108, k_M_begin_116, k_M_begin_124, k_M_begin_130, k_M_begin_136, k_M_begin_140, k_M_begin_141, k_M_begin_146, k_M_begin_149, k_M_begin_172, k_M_begin_180, k_M_begin_188, k_M_begin_240, k_M_begin_246, k_M_begin_259, oc_M_isChained, oc_M_nextJob, ot_M_notGoing, oc_M_waits, o_th, o_c, o_il, o_ll, o_al, o_is, o_as, o_ls, o_inc, o_bi, o_bid, o_bl, o_bld, o_sl, o_i2l, o_l2i, o_dup, o_dup2, o_pop, o_pop2, o_if, o_i2, o_l2, swg, o_sw, o_gI, o_gZ, o_gJ, o_gA, o_gR, o_pI, o_pZ, o_pJ, o_pR, o_ia, o_iak, o_zak, o_ja, o_jak, o_is_, o_isk, o_zsk, o_js_, o_jsk, o_len, o_ri, o_rz, o_rl, o_rv, ls1, ls2, lks, lkj, List.getD_cons_zero, List.getD_cons_succ, List.set_cons_zero, List.set_cons_succ, qcat, true_and, and_true, List.map_nil, List.map_cons, List.sum_nil, List.sum_cons, Nat.reduceAdd, Nat.reduceLeDiff, Nat.zero_le, Int.reduceAdd, Int.reduceNeg, Int.reduceEq, or_true, true_or, Decidable.not_not, false_implies, not_false_eq_true, true_implies, not_true_eq_false, Int.reduceLT, Int.reduceLE]
      rw [w32_i _ (by omega) (by omega), hv]
      exact ih (k + 1) (by omega) (fun j h0 h1 hm => by by_cases e : j = (k : Int); rw [e] at hm ⊢; exact hf hm; exact hn j h0 (by omega) hm)
    refine s_M_begin_13 S Q Th _ _ _ ?_
    simp only [k_M_begin_0, k_M_begin_13, k_M_begin_19, k_M_begin_28, k_M_begin_31, k_M_begin_36, k_M_begin_41, k_M_begin_50, k_M_begin_65, k_M_begin_73, k_M_begin_79, k_M_begin_85, k_M_begin_87, k_M_begin_91, k_M_begin_93, k_M_begin_99, k_M_begin_108, k_M_begin_116, k_M_begin_124, k_M_begin_130, k_M_begin_136, k_M_begin_140, k_M_begin_141, k_M_begin_146, k_M_begin_149, k_M_begin_172, k_M_begin_180, k_M_begin_188, k_M_begin_240, k_M_begin_246, k_M_begin_259, oc_M_isChained, oc_M_nextJob, ot_M_notGoing, oc_M_waits, o_th, o_c, o_il, o_ll, o_al, o_is, o_as, o_ls, o_inc, o_bi, o_bid, o_bl, o_bld, o_sl, o_i2l, o_l2i, o_dup, o_dup2, o_pop, o_pop2, o_if, o_i2, o_l2, swg, o_sw, o_gI, o_gZ, o_gJ, o_gA, o_gR, o_pI, o_pZ, o_pJ, o_pR, o_ia, o_iak, o_zak, o_ja, o_jak, o_is_, o_isk, o_zsk, o_js_, o_jsk, o_len, o_ri, o_rz, o_rl, o_rv, ls1, ls2, lks, lkj, List.getD_cons_zero, List.getD_cons_succ, List.set_cons_zero, List.set_cons_succ, qcat, true_and, and_true, List.map_nil, List.map_cons, List.sum_nil, List.sum_cons, Nat.reduceAdd, Nat.reduceLeDiff, Nat.zero_le, Int.reduceAdd, Int.reduceNeg, Int.reduceEq, or_true, true_or, Decidable.not_not, false_implies, not_false_eq_true, true_implies, not_true_eq_false, Int.reduceLT, Int.reduceLE]
    rw [em, w32_i (nmd σ0 k + 1) (by omega) (by omega)]
    refine ⟨fun h => by omega, fun _ => ⟨by omega, fun _ => ⟨fun h0 => ?_, fun h0 => ?_⟩⟩⟩
    · exact v_M_begin_36 S Q Th σ0 σ C hB _ k (by omega) h0 bad (fun hf => nx _ (by rw [nmd, if_neg h0]) (fun _ => hf)) k 0 (by omega) (fun i x y => by omega)
    · exact nx _ (by rw [nmd, if_pos h0]; omega) (fun x => absurd h0 x)
theorem w_M_begin {l : Launch} {ad : Nat → Nat} {D : va_G} {cA : Nat → ClassId} {WW : Nat → qP} {QR : Option qA → qS → Prop} (S : qSnd l rm_M_begin ad D cA R_M b_M_begin 4 WW) (Q : qRet (some .int) b_M_begin WW QR) {QT : Nat → qS → Prop} (Th : qThr l rm_M_begin ad D cA R_M b_M_begin WW QT)  (σ : qS)  (hσ : qoS σ) (h : P_M_begin  σ) (hq : ∀ (r : Int) σ', Q_M_begin  σ r σ' → QR (some (.inl r)) σ') (ht : ∀ (t : Nat) σ', T_M_begin  σ t σ' → QT t σ') : WW 0 [] [some (.inr (.inr 900)), none, none, none] σ := by
  refine s_M_begin_0 S Q Th _ _ _ ?_
  simp only [k_M_begin_0, k_M_begin_13, k_M_begin_19, k_M_begin_28, k_M_begin_31, k_M_begin_36, k_M_begin_41, k_M_begin_50, k_M_begin_65, k_M_begin_73, k_M_begin_79, k_M_begin_85, k_M_begin_87, k_M_begin_91, k_M_begin_93, k_M_begin_99, k_M_begin_108, k_M_begin_116, k_M_begin_124, k_M_begin_130, k_M_begin_136, k_M_begin_140, k_M_begin_141, k_M_begin_146, k_M_begin_149, k_M_begin_172, k_M_begin_180, k_M_begin_188, k_M_begin_240, k_M_begin_246, k_M_begin_259, oc_M_isChained, oc_M_nextJob, ot_M_notGoing, oc_M_waits, o_th, o_c, o_il, o_ll, o_al, o_is, o_as, o_ls, o_inc, o_bi, o_bid, o_bl, o_bld, o_sl, o_i2l, o_l2i, o_dup, o_dup2, o_pop, o_pop2, o_if, o_i2, o_l2, swg, o_sw, o_gI, o_gZ, o_gJ, o_gA, o_gR, o_pI, o_pZ, o_pJ, o_pR, o_ia, o_iak, o_zak, o_ja, o_jak, o_is_, o_isk, o_zsk, o_js_, o_jsk, o_len, o_ri, o_rz, o_rl, o_rv, ls1, ls2, lks, lkj, List.getD_cons_zero, List.getD_cons_succ, List.set_cons_zero, List.set_cons_succ, qcat, true_and, and_true, List.map_nil, List.map_cons, List.sum_nil, List.sum_cons, Nat.reduceAdd, Nat.reduceLeDiff, Nat.zero_le, Int.reduceAdd, Int.reduceNeg, Int.reduceEq, or_true, true_or, Decidable.not_not, false_implies, not_false_eq_true, true_implies, not_true_eq_false, Int.reduceLT, Int.reduceLE]
  refine notG (fun hb => ?_) (fun hb => ht _ _ (Or.inl ⟨hb, rfl, rfl⟩))
  have hB : BI σ (su σ 30 0 0) [] := ⟨fun q hq => su_k (by intro e; subst e; exact hq (by decide)), by rw [su_s]; rfl, fun i hi => by simp at hi, List.nodup_nil, fun x hx => by cases hx⟩
  exact v_M_begin_13 S Q Th σ _ [] hB (fun hd => ht _ _ (Or.inr ⟨hb, rfl, [], hB, Or.inl hd⟩)) (fun hnd => v_M_begin_87 S Q Th σ h hb hnd hq ht 8 [] _ (by simp) hB (fun n C' hc => ⟨n, hc⟩)) 8 0 (by omega) (fun j h0 h1 => by omega)
theorem c_M_begin (l : Launch) (ad : Nat → Nat) (D : va_G) (cA : Nat → ClassId) : qT l ad D cA y_M_begin (Cond.code y_M_begin b_M_begin 4 (some .int) :: lw_g) rm_M_begin pre_M_begin post_M_begin pst_M_begin := by
  refine qT_of (own := R_M) (by decide) rfl ?_ ?_
  · intro av σ h; unfold pre_M_begin at h; split at h
    · simp [qen]
    · exact h.elim
  · intro WW QR QT S Q Th av σ hav hσ h hq ht; unfold pre_M_begin at h; split at h
    next o =>
      obtain ⟨rfl, h⟩ := h
      exact w_M_begin S Q Th  σ  hσ h (fun r σ' h' => hq _ σ' h') (fun t σ' h' => ht t σ' h')
    next => exact h.elim

