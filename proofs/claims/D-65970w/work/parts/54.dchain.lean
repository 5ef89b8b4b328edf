def dfre (σ : qS) (C : List Int) (j : Int) : Prop := σ 113 j ≠ 0 ∧ j ∉ C ∧ ¬ ∃ k, (0 ≤ k ∧ k < 8) ∧ σ 113 k ≠ 0 ∧ (σ 108 j = σ 110 k ∨ σ 109 j = σ 110 k) ∧ k ∉ C
def dChR (σ : qS) : Nat → List Int → List Int → Prop
  | 0, C, C' => C' = C ∧ ∀ j, 0 ≤ j → j < 8 → ¬ dfre σ C j
  | n + 1, C, C' => ∃ j, (0 ≤ j ∧ j < 8) ∧ dfre σ C j ∧ (∀ i, 0 ≤ i → i < j → ¬ dfre σ C i) ∧ dChR σ n (C ++ [j]) C'
def dbd (σ : qS) (j i : Int) : Prop := σ 113 i ≠ 0 ∧ σ 113 j ≠ 0 ∧ ((i < j ∧ σ 110 i = σ 110 j) ∨ (i = j ∧ (σ 108 j = σ 110 j ∨ σ 109 j = σ 110 j)))
def dbad (σ : qS) : Prop := ∃ j i, (0 ≤ j ∧ j < 8) ∧ (0 ≤ i ∧ i < 8) ∧ dbd σ j i
def DF (σ0 σ : qS) : Prop := ∀ q, q ∉ [114, 112, 117] → σ q = σ0 q
def DI (σ0 σ : qS) (C : List Int) : Prop := DF σ0 σ ∧ σ 117 0 = C.length ∧ (∀ i : Nat, i < C.length → C[i]? = some (σ 112 i)) ∧ C.Nodup ∧ (∀ x ∈ C, 0 ≤ x ∧ x < 8) ∧ ∀ k, 0 ≤ k → k < 8 → (σ 114 k ≠ 0 ↔ (σ0 113 k = 0 ∨ k ∈ C))
def P_D_isChain (_σ : qS) : Prop := True
def Q_D_isChain (σ : qS) (r : Int) (σ' : qS) : Prop := (dbad σ ∧ r = 0 ∧ DF σ σ') ∨ (¬ dbad σ ∧ ∃ C, DI σ σ' C ∧ (∃ n, dChR σ n [] C) ∧ ((r = 1 ∧ ∀ j, 0 ≤ j → j < 8 → σ 113 j ≠ 0 → j ∈ C) ∨ (r = 0 ∧ ∃ j, 0 ≤ j ∧ j < 8 ∧ σ 113 j ≠ 0 ∧ j ∉ C)))
def pre_D_isChain (av : List qA) (σ : qS) : Prop := match av with
  | [.inr (.inr o)] => o = 901 ∧ P_D_isChain  σ
  | _ => False
def post_D_isChain (av : List qA) (σ : qS) (r : Option qA) (σ' : qS) : Prop := match av, r with
  | [_], some (.inl r) => Q_D_isChain  σ r σ'
  | _, _ => False
def oc_D_isChain (K : qP) : qP := fun st ls σ => match st with
  | .inr (.inr o) :: st => o = 901 ∧ (st.map qcat).sum ≤ 8 ∧ P_D_isChain  σ ∧ ∀ (r : Int) (σ' : qS), Q_D_isChain  σ r σ' → K (.inl r :: st) ls σ'
  | _ => False
def rm_D_isChain : Room := { frames := 1, cells := 0, slots := 0, locals := 22 }
theorem fl_D_47 : qF R_D 901 1 32 100 R_D F_D 47 12 := ⟨Or.inr ⟨rfl, rfl, rfl, rfl, rfl, rfl⟩, by decide, lw_at 801 (by decide +kernel) rfl⟩
theorem fl_D_54 : qF R_D 901 1 32 100 R_D F_D 54 14 := ⟨Or.inr ⟨rfl, rfl, rfl, rfl, rfl, rfl⟩, by decide, lw_at 803 (by decide +kernel) rfl⟩
theorem fl_D_129 : qF R_D 901 1 32 100 R_D F_D 129 17 := ⟨Or.inr ⟨rfl, rfl, rfl, rfl, rfl, rfl⟩, by decide, lw_at 806 (by decide +kernel) rfl⟩
theorem sc_D_132 {l : Launch} {R : Room} {ad : Nat → Nat} {D : va_G} {cA : Nat → ClassId} {cc : ByteArray} {nL : Nat} {WW : Nat → qP} (S : qSnd l R ad D cA R_D cc nL WW) (hR : rm_D_isInput.frames + 1 ≤ R.frames ∧ 8 + (3 + 11) + rm_D_isInput.locals ≤ R.locals) {K : qP} {pc : Nat} (d : decode cc pc = .ok (.invokevirtual 132, 3)) (h : qle K WW (pc + 3)) : qle (oc_D_isInput K) WW pc := by
  intro st ls σ k
  refine S.callV (o := 901) (ci := 1) (N := 32) (base := 100) (C := R_D) (T := F_D) (n := 2) (pre := pre_D_isInput) (post := post_D_isInput) (Or.inr ⟨rfl, rfl, rfl, rfl, rfl, rfl⟩) ⟨lw_at 930 (by decide +kernel) rfl, lw_at 927 (by decide +kernel) rfl, lw_at 60 (by decide +kernel) rfl, by decide, by decide, by decide +kernel⟩ ⟨lw_at 929 (by decide +kernel) rfl, lw_at 53 (by decide +kernel) rfl⟩ ⟨rfl, rfl⟩ hR (c_D_isInput l ad D cA) ?_ d h st ls σ ?_
  · intro av σ h; unfold pre_D_isInput at h; split at h
    · obtain ⟨rfl, h⟩ := h; exact ⟨_, rfl⟩
    · exact h.elim
  · unfold oc_D_isInput at k
    split at k
    next a2 a1 o st =>
      obtain ⟨rfl, hs, hp, k⟩ := k
      refine ⟨[.inr (.inr 901), .inl a1, .inl a2], st, rfl, rfl, hs, ⟨rfl, hp⟩, fun r σ' hq => ?_⟩
      unfold post_D_isInput at hq
      split at hq
      next h1 =>
        cases h1
        exact k _ _ hq
      next => exact hq.elim
    next => exact k.elim
def k_D_isChain_211 (QR : Option qA → qS → Prop) (H : Nat → qP) : qP :=
  o_al 0 <| o_gA 901 112 <| o_al 0 <| o_gI 901 117 <| o_il 1 <| o_isk 112 8 <| o_al 0 <| o_dup <| o_gI 901 117 <| o_c (.inl 1) <| o_bi z_add <| o_pI 901 117 <| o_al 0 <| o_gA 901 114 <| o_il 1 <| o_c (.inl 1) <| o_zsk 114 8 <| H 112
def k_D_isChain_210 (QR : Option qA → qS → Prop) (H : Nat → qP) : qP :=
  o_rz QR
def k_D_isChain_209 (QR : Option qA → qS → Prop) (H : Nat → qP) : qP :=
  o_c (.inl 0) <| k_D_isChain_210 QR H
def k_D_isChain_205 (QR : Option qA → qS → Prop) (H : Nat → qP) : qP :=
  o_c (.inl 1) <| k_D_isChain_210 QR H
def k_D_isChain_201 (QR : Option qA → qS → Prop) (H : Nat → qP) : qP :=
  o_il 2 <| o_if (fun a => ¬ a = 0) (k_D_isChain_209 QR H) (k_D_isChain_205 QR H)
def k_D_isChain_197 (QR : Option qA → qS → Prop) (H : Nat → qP) : qP :=
  o_il 1 <| o_if (fun a => 0 ≤ a) (H 211) (k_D_isChain_201 QR H)
def k_D_isChain_191 (QR : Option qA → qS → Prop) (H : Nat → qP) : qP :=
  o_inc 3 (-1) <| H 119
def k_D_isChain_189 (QR : Option qA → qS → Prop) (H : Nat → qP) : qP :=
  o_il 3 <| o_is 1 <| H 191
def k_D_isChain_184 (QR : Option qA → qS → Prop) (H : Nat → qP) : qP :=
  o_il 4 <| o_if (fun a => a = 0) (H 191) (k_D_isChain_189 QR H)
def k_D_isChain_178 (QR : Option qA → qS → Prop) (H : Nat → qP) : qP :=
  o_inc 5 1 <| H 143
def k_D_isChain_175 (QR : Option qA → qS → Prop) (H : Nat → qP) : qP :=
  o_c (.inl 0) <| o_is 4 <| H 178
def k_D_isChain_160 (QR : Option qA → qS → Prop) (H : Nat → qP) : qP :=
  o_al 0 <| o_il 3 <| o_al 0 <| o_gA 901 110 <| o_il 5 <| o_iak 110 8 <| oc_D_isInput <| o_if (fun a => a = 0) (H 178) (k_D_isChain_175 QR H)
def k_D_isChain_150 (QR : Option qA → qS → Prop) (H : Nat → qP) : qP :=
  o_al 0 <| o_gA 901 114 <| o_il 5 <| o_zak 114 8 <| o_if (fun a => ¬ a = 0) (H 178) (k_D_isChain_160 QR H)
def k_D_isChain_143 (QR : Option qA → qS → Prop) (H : Nat → qP) : qP :=
  o_il 5 <| o_c (.inl 8) <| o_i2 (fun a b => b ≤ a) (H 184) (k_D_isChain_150 QR H)
def k_D_isChain_135 (QR : Option qA → qS → Prop) (H : Nat → qP) : qP :=
  o_c (.inl 1) <| o_is 2 <| o_c (.inl 1) <| o_is 4 <| o_c (.inl 0) <| o_is 5 <| H 143
def k_D_isChain_132 (QR : Option qA → qS → Prop) (H : Nat → qP) : qP :=
  H 191
def k_D_isChain_123 (QR : Option qA → qS → Prop) (H : Nat → qP) : qP :=
  o_al 0 <| o_gA 901 114 <| o_il 3 <| o_zak 114 8 <| o_if (fun a => a = 0) (k_D_isChain_135 QR H) (k_D_isChain_132 QR H)
def k_D_isChain_119 (QR : Option qA → qS → Prop) (H : Nat → qP) : qP :=
  o_il 3 <| o_if (fun a => a < 0) (H 197) (k_D_isChain_123 QR H)
def k_D_isChain_112 (QR : Option qA → qS → Prop) (H : Nat → qP) : qP :=
  o_c (.inl (-1)) <| o_is 1 <| o_c (.inl 0) <| o_is 2 <| o_c (.inl 7) <| o_is 3 <| H 119
def k_D_isChain_106 (QR : Option qA → qS → Prop) (H : Nat → qP) : qP :=
  o_inc 1 1 <| H 7
def k_D_isChain_100 (QR : Option qA → qS → Prop) (H : Nat → qP) : qP :=
  o_inc 2 1 <| H 35
def k_D_isChain_98 (QR : Option qA → qS → Prop) (H : Nat → qP) : qP :=
  o_c (.inl 0) <| o_rz QR
def k_D_isChain_84 (QR : Option qA → qS → Prop) (H : Nat → qP) : qP :=
  o_al 0 <| o_il 1 <| o_al 0 <| o_gA 901 110 <| o_il 1 <| o_iak 110 8 <| oc_D_isInput <| o_if (fun a => a = 0) (H 100) (H 98)
def k_D_isChain_79 (QR : Option qA → qS → Prop) (H : Nat → qP) : qP :=
  o_il 2 <| o_il 1 <| o_i2 (fun a b => ¬ a = b) (H 100) (k_D_isChain_84 QR H)
def k_D_isChain_64 (QR : Option qA → qS → Prop) (H : Nat → qP) : qP :=
  o_al 0 <| o_gA 901 110 <| o_il 2 <| o_iak 110 8 <| o_al 0 <| o_gA 901 110 <| o_il 1 <| o_iak 110 8 <| o_i2 (fun a b => a = b) (H 98) (k_D_isChain_79 QR H)
def k_D_isChain_59 (QR : Option qA → qS → Prop) (H : Nat → qP) : qP :=
  o_il 2 <| o_il 1 <| o_i2 (fun a b => b ≤ a) (k_D_isChain_79 QR H) (k_D_isChain_64 QR H)
def k_D_isChain_50 (QR : Option qA → qS → Prop) (H : Nat → qP) : qP :=
  o_al 0 <| o_gA 901 113 <| o_il 1 <| o_zak 113 8 <| o_if (fun a => a = 0) (H 100) (k_D_isChain_59 QR H)
def k_D_isChain_41 (QR : Option qA → qS → Prop) (H : Nat → qP) : qP :=
  o_al 0 <| o_gA 901 113 <| o_il 2 <| o_zak 113 8 <| o_if (fun a => a = 0) (H 100) (k_D_isChain_50 QR H)
def k_D_isChain_35 (QR : Option qA → qS → Prop) (H : Nat → qP) : qP :=
  o_il 2 <| o_c (.inl 8) <| o_i2 (fun a b => b ≤ a) (H 106) (k_D_isChain_41 QR H)
def k_D_isChain_32 (QR : Option qA → qS → Prop) (H : Nat → qP) : qP :=
  o_zsk 114 8 <| o_c (.inl 0) <| o_is 2 <| H 35
def k_D_isChain_31 (QR : Option qA → qS → Prop) (H : Nat → qP) : qP :=
  o_c (.inl 0) <| k_D_isChain_32 QR H
def k_D_isChain_27 (QR : Option qA → qS → Prop) (H : Nat → qP) : qP :=
  o_c (.inl 1) <| k_D_isChain_32 QR H
def k_D_isChain_13 (QR : Option qA → qS → Prop) (H : Nat → qP) : qP :=
  o_al 0 <| o_gA 901 114 <| o_il 1 <| o_al 0 <| o_gA 901 113 <| o_il 1 <| o_zak 113 8 <| o_if (fun a => ¬ a = 0) (k_D_isChain_31 QR H) (k_D_isChain_27 QR H)
def k_D_isChain_7 (QR : Option qA → qS → Prop) (H : Nat → qP) : qP :=
  o_il 1 <| o_c (.inl 8) <| o_i2 (fun a b => b ≤ a) (H 112) (k_D_isChain_13 QR H)
def k_D_isChain_0 (QR : Option qA → qS → Prop) (H : Nat → qP) : qP :=
  o_al 0 <| o_c (.inl 0) <| o_pI 901 117 <| o_c (.inl 0) <| o_is 1 <| H 7
set_option maxRecDepth 8000 in
theorem s_D_isChain_211 {l : Launch} {ad : Nat → Nat} {D : va_G} {cA : Nat → ClassId} {WW : Nat → qP} {QR : Option qA → qS → Prop} (S : qSnd l rm_D_isChain ad D cA R_D b_D_isChain 6 WW) (Q : qRet (some .boolean) b_D_isChain WW QR) : qle (k_D_isChain_211 QR WW) WW 211 :=
  S.aload_n d_D_isChain_211 rfl <| S.gA fl_D_47 (by decide) d_D_isChain_212 <| S.aload_n d_D_isChain_215 rfl <| S.gI fl_D_129 (by decide) d_D_isChain_216 <| S.iload_n d_D_isChain_219 rfl <| S.isk (by decide) d_D_isChain_220 <| S.aload_n d_D_isChain_221 rfl <| S.dup d_D_isChain_222 <| S.gI fl_D_129 (by decide) d_D_isChain_223 <| S.iconst d_D_isChain_226 (by decide) <| S.iadd d_D_isChain_227 <| S.pI fl_D_129 (by decide) (by decide +kernel) d_D_isChain_228 <| S.aload_n d_D_isChain_231 rfl <| S.gA fl_D_54 (by decide) d_D_isChain_232 <| S.iload_n d_D_isChain_235 rfl <| S.iconst d_D_isChain_236 (by decide) <| S.zast (by decide) d_D_isChain_237 <| S.goto d_D_isChain_238 (by decide) (fun _ _ _ h => h)
set_option maxRecDepth 8000 in
theorem s_D_isChain_210 {l : Launch} {ad : Nat → Nat} {D : va_G} {cA : Nat → ClassId} {WW : Nat → qP} {QR : Option qA → qS → Prop} (S : qSnd l rm_D_isChain ad D cA R_D b_D_isChain 6 WW) (Q : qRet (some .boolean) b_D_isChain WW QR) : qle (k_D_isChain_210 QR WW) WW 210 :=
  Q.2.1 rfl _ d_D_isChain_210
set_option maxRecDepth 8000 in
theorem s_D_isChain_209 {l : Launch} {ad : Nat → Nat} {D : va_G} {cA : Nat → ClassId} {WW : Nat → qP} {QR : Option qA → qS → Prop} (S : qSnd l rm_D_isChain ad D cA R_D b_D_isChain 6 WW) (Q : qRet (some .boolean) b_D_isChain WW QR) : qle (k_D_isChain_209 QR WW) WW 209 :=
  S.iconst d_D_isChain_209 (by decide) <| (s_D_isChain_210 S Q)
set_option maxRecDepth 8000 in
theorem s_D_isChain_205 {l : Launch} {ad : Nat → Nat} {D : va_G} {cA : Nat → ClassId} {WW : Nat → qP} {QR : Option qA → qS → Prop} (S : qSnd l rm_D_isChain ad D cA R_D b_D_isChain 6 WW) (Q : qRet (some .boolean) b_D_isChain WW QR) : qle (k_D_isChain_205 QR WW) WW 205 :=
  S.iconst d_D_isChain_205 (by decide) <| S.goto d_D_isChain_206 (by decide) (s_D_isChain_210 S Q)
set_option maxRecDepth 8000 in
theorem s_D_isChain_201 {l : Launch} {ad : Nat → Nat} {D : va_G} {cA : Nat → ClassId} {WW : Nat → qP} {QR : Option qA → qS → Prop} (S : qSnd l rm_D_isChain ad D cA R_D b_D_isChain 6 WW) (Q : qRet (some .boolean) b_D_isChain WW QR) : qle (k_D_isChain_201 QR WW) WW 201 :=
  S.iload_n d_D_isChain_201 rfl <| S.if_ne d_D_isChain_202 (by decide) (s_D_isChain_209 S Q) (s_D_isChain_205 S Q)
set_option maxRecDepth 8000 in
theorem s_D_isChain_197 {l : Launch} {ad : Nat → Nat} {D : va_G} {cA : Nat → ClassId} {WW : Nat → qP} {QR : Option qA → qS → Prop} (S : qSnd l rm_D_isChain ad D cA R_D b_D_isChain 6 WW) (Q : qRet (some .boolean) b_D_isChain WW QR) : qle (k_D_isChain_197 QR WW) WW 197 :=
  S.iload_n d_D_isChain_197 rfl <| S.if_ge d_D_isChain_198 (by decide) (fun _ _ _ h => h) (s_D_isChain_201 S Q)
set_option maxRecDepth 8000 in
theorem s_D_isChain_191 {l : Launch} {ad : Nat → Nat} {D : va_G} {cA : Nat → ClassId} {WW : Nat → qP} {QR : Option qA → qS → Prop} (S : qSnd l rm_D_isChain ad D cA R_D b_D_isChain 6 WW) (Q : qRet (some .boolean) b_D_isChain WW QR) : qle (k_D_isChain_191 QR WW) WW 191 :=
  S.iinc d_D_isChain_191 (by decide) <| S.goto d_D_isChain_194 (by decide) (fun _ _ _ h => h)
set_option maxRecDepth 8000 in
theorem s_D_isChain_189 {l : Launch} {ad : Nat → Nat} {D : va_G} {cA : Nat → ClassId} {WW : Nat → qP} {QR : Option qA → qS → Prop} (S : qSnd l rm_D_isChain ad D cA R_D b_D_isChain 6 WW) (Q : qRet (some .boolean) b_D_isChain WW QR) : qle (k_D_isChain_189 QR WW) WW 189 :=
  S.iload_n d_D_isChain_189 rfl <| S.istore_n d_D_isChain_190 rfl (by decide) <| (fun _ _ _ h => h)
set_option maxRecDepth 8000 in
theorem s_D_isChain_184 {l : Launch} {ad : Nat → Nat} {D : va_G} {cA : Nat → ClassId} {WW : Nat → qP} {QR : Option qA → qS → Prop} (S : qSnd l rm_D_isChain ad D cA R_D b_D_isChain 6 WW) (Q : qRet (some .boolean) b_D_isChain WW QR) : qle (k_D_isChain_184 QR WW) WW 184 :=
  S.iload d_D_isChain_184 <| S.if_eq d_D_isChain_186 (by decide) (fun _ _ _ h => h) (s_D_isChain_189 S Q)
set_option maxRecDepth 8000 in
theorem s_D_isChain_178 {l : Launch} {ad : Nat → Nat} {D : va_G} {cA : Nat → ClassId} {WW : Nat → qP} {QR : Option qA → qS → Prop} (S : qSnd l rm_D_isChain ad D cA R_D b_D_isChain 6 WW) (Q : qRet (some .boolean) b_D_isChain WW QR) : qle (k_D_isChain_178 QR WW) WW 178 :=
  S.iinc d_D_isChain_178 (by decide) <| S.goto d_D_isChain_181 (by decide) (fun _ _ _ h => h)
set_option maxRecDepth 8000 in
theorem s_D_isChain_175 {l : Launch} {ad : Nat → Nat} {D : va_G} {cA : Nat → ClassId} {WW : Nat → qP} {QR : Option qA → qS → Prop} (S : qSnd l rm_D_isChain ad D cA R_D b_D_isChain 6 WW) (Q : qRet (some .boolean) b_D_isChain WW QR) : qle (k_D_isChain_175 QR WW) WW 175 :=
  S.iconst d_D_isChain_175 (by decide) <| S.istore d_D_isChain_176 (by decide) <| (fun _ _ _ h => h)
set_option maxRecDepth 8000 in
theorem s_D_isChain_160 {l : Launch} {ad : Nat → Nat} {D : va_G} {cA : Nat → ClassId} {WW : Nat → qP} {QR : Option qA → qS → Prop} (S : qSnd l rm_D_isChain ad D cA R_D b_D_isChain 6 WW) (Q : qRet (some .boolean) b_D_isChain WW QR) : qle (k_D_isChain_160 QR WW) WW 160 :=
  S.aload_n d_D_isChain_160 rfl <| S.iload_n d_D_isChain_161 rfl <| S.aload_n d_D_isChain_162 rfl <| S.gA fl_D_41 (by decide) d_D_isChain_163 <| S.iload d_D_isChain_166 <| S.iak (by decide) d_D_isChain_168 <| sc_D_132 S (by decide) d_D_isChain_169 <| S.if_eq d_D_isChain_172 (by decide) (fun _ _ _ h => h) (s_D_isChain_175 S Q)
set_option maxRecDepth 8000 in
theorem s_D_isChain_150 {l : Launch} {ad : Nat → Nat} {D : va_G} {cA : Nat → ClassId} {WW : Nat → qP} {QR : Option qA → qS → Prop} (S : qSnd l rm_D_isChain ad D cA R_D b_D_isChain 6 WW) (Q : qRet (some .boolean) b_D_isChain WW QR) : qle (k_D_isChain_150 QR WW) WW 150 :=
  S.aload_n d_D_isChain_150 rfl <| S.gA fl_D_54 (by decide) d_D_isChain_151 <| S.iload d_D_isChain_154 <| S.zak (by decide) d_D_isChain_156 <| S.if_ne d_D_isChain_157 (by decide) (fun _ _ _ h => h) (s_D_isChain_160 S Q)
set_option maxRecDepth 8000 in
theorem s_D_isChain_143 {l : Launch} {ad : Nat → Nat} {D : va_G} {cA : Nat → ClassId} {WW : Nat → qP} {QR : Option qA → qS → Prop} (S : qSnd l rm_D_isChain ad D cA R_D b_D_isChain 6 WW) (Q : qRet (some .boolean) b_D_isChain WW QR) : qle (k_D_isChain_143 QR WW) WW 143 :=
  S.iload d_D_isChain_143 <| S.bipush d_D_isChain_145 (by decide) <| S.icmp_ge d_D_isChain_147 (by decide) (fun _ _ _ h => h) (s_D_isChain_150 S Q)
set_option maxRecDepth 8000 in
theorem s_D_isChain_135 {l : Launch} {ad : Nat → Nat} {D : va_G} {cA : Nat → ClassId} {WW : Nat → qP} {QR : Option qA → qS → Prop} (S : qSnd l rm_D_isChain ad D cA R_D b_D_isChain 6 WW) (Q : qRet (some .boolean) b_D_isChain WW QR) : qle (k_D_isChain_135 QR WW) WW 135 :=
  S.iconst d_D_isChain_135 (by decide) <| S.istore_n d_D_isChain_136 rfl (by decide) <| S.iconst d_D_isChain_137 (by decide) <| S.istore d_D_isChain_138 (by decide) <| S.iconst d_D_isChain_140 (by decide) <| S.istore d_D_isChain_141 (by decide) <| (fun _ _ _ h => h)
set_option maxRecDepth 8000 in
theorem s_D_isChain_132 {l : Launch} {ad : Nat → Nat} {D : va_G} {cA : Nat → ClassId} {WW : Nat → qP} {QR : Option qA → qS → Prop} (S : qSnd l rm_D_isChain ad D cA R_D b_D_isChain 6 WW) (Q : qRet (some .boolean) b_D_isChain WW QR) : qle (k_D_isChain_132 QR WW) WW 132 :=
  S.goto d_D_isChain_132 (by decide) (fun _ _ _ h => h)
set_option maxRecDepth 8000 in
theorem s_D_isChain_123 {l : Launch} {ad : Nat → Nat} {D : va_G} {cA : Nat → ClassId} {WW : Nat → qP} {QR : Option qA → qS → Prop} (S : qSnd l rm_D_isChain ad D cA R_D b_D_isChain 6 WW) (Q : qRet (some .boolean) b_D_isChain WW QR) : qle (k_D_isChain_123 QR WW) WW 123 :=
  S.aload_n d_D_isChain_123 rfl <| S.gA fl_D_54 (by decide) d_D_isChain_124 <| S.iload_n d_D_isChain_127 rfl <| S.zak (by decide) d_D_isChain_128 <| S.if_eq d_D_isChain_129 (by decide) (s_D_isChain_135 S Q) (s_D_isChain_132 S Q)
set_option maxRecDepth 8000 in
theorem s_D_isChain_119 {l : Launch} {ad : Nat → Nat} {D : va_G} {cA : Nat → ClassId} {WW : Nat → qP} {QR : Option qA → qS → Prop} (S : qSnd l rm_D_isChain ad D cA R_D b_D_isChain 6 WW) (Q : qRet (some .boolean) b_D_isChain WW QR) : qle (k_D_isChain_119 QR WW) WW 119 :=
  S.iload_n d_D_isChain_119 rfl <| S.if_lt d_D_isChain_120 (by decide) (fun _ _ _ h => h) (s_D_isChain_123 S Q)
set_option maxRecDepth 8000 in
theorem s_D_isChain_112 {l : Launch} {ad : Nat → Nat} {D : va_G} {cA : Nat → ClassId} {WW : Nat → qP} {QR : Option qA → qS → Prop} (S : qSnd l rm_D_isChain ad D cA R_D b_D_isChain 6 WW) (Q : qRet (some .boolean) b_D_isChain WW QR) : qle (k_D_isChain_112 QR WW) WW 112 :=
  S.iconst d_D_isChain_112 (by decide) <| S.istore_n d_D_isChain_113 rfl (by decide) <| S.iconst d_D_isChain_114 (by decide) <| S.istore_n d_D_isChain_115 rfl (by decide) <| S.bipush d_D_isChain_116 (by decide) <| S.istore_n d_D_isChain_118 rfl (by decide) <| (fun _ _ _ h => h)
set_option maxRecDepth 8000 in
theorem s_D_isChain_106 {l : Launch} {ad : Nat → Nat} {D : va_G} {cA : Nat → ClassId} {WW : Nat → qP} {QR : Option qA → qS → Prop} (S : qSnd l rm_D_isChain ad D cA R_D b_D_isChain 6 WW) (Q : qRet (some .boolean) b_D_isChain WW QR) : qle (k_D_isChain_106 QR WW) WW 106 :=
  S.iinc d_D_isChain_106 (by decide) <| S.goto d_D_isChain_109 (by decide) (fun _ _ _ h => h)
set_option maxRecDepth 8000 in
theorem s_D_isChain_100 {l : Launch} {ad : Nat → Nat} {D : va_G} {cA : Nat → ClassId} {WW : Nat → qP} {QR : Option qA → qS → Prop} (S : qSnd l rm_D_isChain ad D cA R_D b_D_isChain 6 WW) (Q : qRet (some .boolean) b_D_isChain WW QR) : qle (k_D_isChain_100 QR WW) WW 100 :=
  S.iinc d_D_isChain_100 (by decide) <| S.goto d_D_isChain_103 (by decide) (fun _ _ _ h => h)
set_option maxRecDepth 8000 in
theorem s_D_isChain_98 {l : Launch} {ad : Nat → Nat} {D : va_G} {cA : Nat → ClassId} {WW : Nat → qP} {QR : Option qA → qS → Prop} (S : qSnd l rm_D_isChain ad D cA R_D b_D_isChain 6 WW) (Q : qRet (some .boolean) b_D_isChain WW QR) : qle (k_D_isChain_98 QR WW) WW 98 :=
  S.iconst d_D_isChain_98 (by decide) <| Q.2.1 rfl _ d_D_isChain_99
set_option maxRecDepth 8000 in
theorem s_D_isChain_84 {l : Launch} {ad : Nat → Nat} {D : va_G} {cA : Nat → ClassId} {WW : Nat → qP} {QR : Option qA → qS → Prop} (S : qSnd l rm_D_isChain ad D cA R_D b_D_isChain 6 WW) (Q : qRet (some .boolean) b_D_isChain WW QR) : qle (k_D_isChain_84 QR WW) WW 84 :=
  S.aload_n d_D_isChain_84 rfl <| S.iload_n d_D_isChain_85 rfl <| S.aload_n d_D_isChain_86 rfl <| S.gA fl_D_41 (by decide) d_D_isChain_87 <| S.iload_n d_D_isChain_90 rfl <| S.iak (by decide) d_D_isChain_91 <| sc_D_132 S (by decide) d_D_isChain_92 <| S.if_eq d_D_isChain_95 (by decide) (fun _ _ _ h => h) (fun _ _ _ h => h)
set_option maxRecDepth 8000 in
theorem s_D_isChain_79 {l : Launch} {ad : Nat → Nat} {D : va_G} {cA : Nat → ClassId} {WW : Nat → qP} {QR : Option qA → qS → Prop} (S : qSnd l rm_D_isChain ad D cA R_D b_D_isChain 6 WW) (Q : qRet (some .boolean) b_D_isChain WW QR) : qle (k_D_isChain_79 QR WW) WW 79 :=
  S.iload_n d_D_isChain_79 rfl <| S.iload_n d_D_isChain_80 rfl <| S.icmp_ne d_D_isChain_81 (by decide) (fun _ _ _ h => h) (s_D_isChain_84 S Q)
set_option maxRecDepth 8000 in
theorem s_D_isChain_64 {l : Launch} {ad : Nat → Nat} {D : va_G} {cA : Nat → ClassId} {WW : Nat → qP} {QR : Option qA → qS → Prop} (S : qSnd l rm_D_isChain ad D cA R_D b_D_isChain 6 WW) (Q : qRet (some .boolean) b_D_isChain WW QR) : qle (k_D_isChain_64 QR WW) WW 64 :=
  S.aload_n d_D_isChain_64 rfl <| S.gA fl_D_41 (by decide) d_D_isChain_65 <| S.iload_n d_D_isChain_68 rfl <| S.iak (by decide) d_D_isChain_69 <| S.aload_n d_D_isChain_70 rfl <| S.gA fl_D_41 (by decide) d_D_isChain_71 <| S.iload_n d_D_isChain_74 rfl <| S.iak (by decide) d_D_isChain_75 <| S.icmp_eq d_D_isChain_76 (by decide) (fun _ _ _ h => h) (s_D_isChain_79 S Q)
set_option maxRecDepth 8000 in
theorem s_D_isChain_59 {l : Launch} {ad : Nat → Nat} {D : va_G} {cA : Nat → ClassId} {WW : Nat → qP} {QR : Option qA → qS → Prop} (S : qSnd l rm_D_isChain ad D cA R_D b_D_isChain 6 WW) (Q : qRet (some .boolean) b_D_isChain WW QR) : qle (k_D_isChain_59 QR WW) WW 59 :=
  S.iload_n d_D_isChain_59 rfl <| S.iload_n d_D_isChain_60 rfl <| S.icmp_ge d_D_isChain_61 (by decide) (s_D_isChain_79 S Q) (s_D_isChain_64 S Q)
set_option maxRecDepth 8000 in
theorem s_D_isChain_50 {l : Launch} {ad : Nat → Nat} {D : va_G} {cA : Nat → ClassId} {WW : Nat → qP} {QR : Option qA → qS → Prop} (S : qSnd l rm_D_isChain ad D cA R_D b_D_isChain 6 WW) (Q : qRet (some .boolean) b_D_isChain WW QR) : qle (k_D_isChain_50 QR WW) WW 50 :=
  S.aload_n d_D_isChain_50 rfl <| S.gA fl_D_50 (by decide) d_D_isChain_51 <| S.iload_n d_D_isChain_54 rfl <| S.zak (by decide) d_D_isChain_55 <| S.if_eq d_D_isChain_56 (by decide) (fun _ _ _ h => h) (s_D_isChain_59 S Q)
set_option maxRecDepth 8000 in
theorem s_D_isChain_41 {l : Launch} {ad : Nat → Nat} {D : va_G} {cA : Nat → ClassId} {WW : Nat → qP} {QR : Option qA → qS → Prop} (S : qSnd l rm_D_isChain ad D cA R_D b_D_isChain 6 WW) (Q : qRet (some .boolean) b_D_isChain WW QR) : qle (k_D_isChain_41 QR WW) WW 41 :=
  S.aload_n d_D_isChain_41 rfl <| S.gA fl_D_50 (by decide) d_D_isChain_42 <| S.iload_n d_D_isChain_45 rfl <| S.zak (by decide) d_D_isChain_46 <| S.if_eq d_D_isChain_47 (by decide) (fun _ _ _ h => h) (s_D_isChain_50 S Q)
set_option maxRecDepth 8000 in
theorem s_D_isChain_35 {l : Launch} {ad : Nat → Nat} {D : va_G} {cA : Nat → ClassId} {WW : Nat → qP} {QR : Option qA → qS → Prop} (S : qSnd l rm_D_isChain ad D cA R_D b_D_isChain 6 WW) (Q : qRet (some .boolean) b_D_isChain WW QR) : qle (k_D_isChain_35 QR WW) WW 35 :=
  S.iload_n d_D_isChain_35 rfl <| S.bipush d_D_isChain_36 (by decide) <| S.icmp_ge d_D_isChain_38 (by decide) (fun _ _ _ h => h) (s_D_isChain_41 S Q)
set_option maxRecDepth 8000 in
theorem s_D_isChain_32 {l : Launch} {ad : Nat → Nat} {D : va_G} {cA : Nat → ClassId} {WW : Nat → qP} {QR : Option qA → qS → Prop} (S : qSnd l rm_D_isChain ad D cA R_D b_D_isChain 6 WW) (Q : qRet (some .boolean) b_D_isChain WW QR) : qle (k_D_isChain_32 QR WW) WW 32 :=
  S.zast (by decide) d_D_isChain_32 <| S.iconst d_D_isChain_33 (by decide) <| S.istore_n d_D_isChain_34 rfl (by decide) <| (fun _ _ _ h => h)
set_option maxRecDepth 8000 in
theorem s_D_isChain_31 {l : Launch} {ad : Nat → Nat} {D : va_G} {cA : Nat → ClassId} {WW : Nat → qP} {QR : Option qA → qS → Prop} (S : qSnd l rm_D_isChain ad D cA R_D b_D_isChain 6 WW) (Q : qRet (some .boolean) b_D_isChain WW QR) : qle (k_D_isChain_31 QR WW) WW 31 :=
  S.iconst d_D_isChain_31 (by decide) <| (s_D_isChain_32 S Q)
set_option maxRecDepth 8000 in
theorem s_D_isChain_27 {l : Launch} {ad : Nat → Nat} {D : va_G} {cA : Nat → ClassId} {WW : Nat → qP} {QR : Option qA → qS → Prop} (S : qSnd l rm_D_isChain ad D cA R_D b_D_isChain 6 WW) (Q : qRet (some .boolean) b_D_isChain WW QR) : qle (k_D_isChain_27 QR WW) WW 27 :=
  S.iconst d_D_isChain_27 (by decide) <| S.goto d_D_isChain_28 (by decide) (s_D_isChain_32 S Q)
set_option maxRecDepth 8000 in
theorem s_D_isChain_13 {l : Launch} {ad : Nat → Nat} {D : va_G} {cA : Nat → ClassId} {WW : Nat → qP} {QR : Option qA → qS → Prop} (S : qSnd l rm_D_isChain ad D cA R_D b_D_isChain 6 WW) (Q : qRet (some .boolean) b_D_isChain WW QR) : qle (k_D_isChain_13 QR WW) WW 13 :=
  S.aload_n d_D_isChain_13 rfl <| S.gA fl_D_54 (by decide) d_D_isChain_14 <| S.iload_n d_D_isChain_17 rfl <| S.aload_n d_D_isChain_18 rfl <| S.gA fl_D_50 (by decide) d_D_isChain_19 <| S.iload_n d_D_isChain_22 rfl <| S.zak (by decide) d_D_isChain_23 <| S.if_ne d_D_isChain_24 (by decide) (s_D_isChain_31 S Q) (s_D_isChain_27 S Q)
set_option maxRecDepth 8000 in
theorem s_D_isChain_7 {l : Launch} {ad : Nat → Nat} {D : va_G} {cA : Nat → ClassId} {WW : Nat → qP} {QR : Option qA → qS → Prop} (S : qSnd l rm_D_isChain ad D cA R_D b_D_isChain 6 WW) (Q : qRet (some .boolean) b_D_isChain WW QR) : qle (k_D_isChain_7 QR WW) WW 7 :=
  S.iload_n d_D_isChain_7 rfl <| S.bipush d_D_isChain_8 (by decide) <| S.icmp_ge d_D_isChain_10 (by decide) (fun _ _ _ h => h) (s_D_isChain_13 S Q)
set_option maxRecDepth 8000 in
theorem s_D_isChain_0 {l : Launch} {ad : Nat → Nat} {D : va_G} {cA : Nat → ClassId} {WW : Nat → qP} {QR : Option qA → qS → Prop} (S : qSnd l rm_D_isChain ad D cA R_D b_D_isChain 6 WW) (Q : qRet (some .boolean) b_D_isChain WW QR) : qle (k_D_isChain_0 QR WW) WW 0 :=
  S.aload_n d_D_isChain_0 rfl <| S.iconst d_D_isChain_1 (by decide) <| S.pI fl_D_129 (by decide) (by decide +kernel) d_D_isChain_2 <| S.iconst d_D_isChain_5 (by decide) <| S.istore_n d_D_isChain_6 rfl (by decide) <| (fun _ _ _ h => h)
theorem disI {j f : Int} {σ : qS} {A B : qS → Prop} (hj : 0 ≤ j ∧ j < 8) (h1 : (σ 108 j = f ∨ σ 109 j = f) → B σ) (h2 : ¬ (σ 108 j = f ∨ σ 109 j = f) → A σ) : P_D_isInput j f σ ∧ ∀ r σ1, Q_D_isInput j f σ r σ1 → (r = 0 → A σ1) ∧ (¬ r = 0 → B σ1) := by
  refine ⟨hj, fun r σ1 q1 => ?_⟩
  obtain ⟨e9, rfl⟩ := q1; replace e9 := e9.symm; subst e9
  by_cases hh : σ 108 j = f ∨ σ 109 j = f
  · rw [if_pos hh]; exact ⟨fun e => by omega, fun _ => h1 hh⟩
  · rw [if_neg hh]; exact ⟨fun _ => h2 hh, fun e => absurd rfl e⟩
theorem v_D_isChain_35 {l : Launch} {ad : Nat → Nat} {D : va_G} {cA : Nat → ClassId} {WW : Nat → qP} {QR : Option qA → qS → Prop} (S : qSnd l rm_D_isChain ad D cA R_D b_D_isChain 6 WW) (Q : qRet (some .boolean) b_D_isChain WW QR) (σ0 σ : qS) (hF : DF σ0 σ) (j : Nat) (hj : j < 8) (bad : dbad σ0 → QR (some (.inl 0)) σ) (K : (∀ i, 0 ≤ i → i < 8 → ¬ dbd σ0 j i) → WW 106 [] [some (.inr (.inr 901)), some (.inl (j : Int)), none, none, none, none] σ) : ∀ (m i : Nat), i + m = 8 → (∀ x, 0 ≤ x → x < (i : Int) → ¬ dbd σ0 j x) → WW 35 [] [some (.inr (.inr 901)), some (.inl (j : Int)), some (.inl (i : Int)), none, none, none] σ := by
  have em : σ 113 = σ0 113 := hF _ (by decide)
  have eo : σ 110 = σ0 110 := hF _ (by decide)
  have e1 : σ 108 = σ0 108 := hF _ (by decide)
  have e2 : σ 109 = σ0 109 := hF _ (by decide)
  intro m
  induction m with
  | zero =>
    intro i hi hn
    refine s_D_isChain_35 S Q _ _ _ ?_
    simp only [k_D_isChain_0, k_D_isChain_7, k_D_isChain_13, k_D_isChain_27, k_D_isChain_31, k_D_isChain_32, k_D_isChain_35, k_D_isChain_41, k_D_isChain_50, k_D_isChain_59, k_D_isChain_64, k_D_isChain_79, k_D_isChain_84, k_D_isChain_98, k_D_isChain_100, k_D_isChain_106, k_D_isChain_112, k_D_isChain_119, k_D_isChain_123, k_D_isChain_132, k_D_isChain_135, k_D_isChain_143, k_D_isChain_150, k_D_isChain_160, k_D_isChain_175, k_D_isChain_178, k_D_isChain_184, k_D_isChain_189, k_D_isChain_191, k_D_isChain_197, k_D_isChain_201, k_D_isChain_205, k_D_isChain_209, k_D_isChain_210, k_D_isChain_211, oc_D_isInput, o_c, o_il, o_ll, o_al, o_is, o_as, o_ls, o_inc, o_bi, o_bid, o_bl, o_bld, o_sl, o_i2l, o_l2i, o_dup, o_dup2, o_pop, o_pop2, o_if, o_i2, o_l2, swg, o_sw, o_gI, o_gZ, o_gJ, o_gA, o_gR, o_pI, o_pZ, o_pJ, o_pR, o_ia, o_iak, o_zak, o_ja, o_jak, o_is_, o_isk, o_zsk, o_js_, o_jsk, o_len, o_ri, o_rz, o_rl, o_rv, ls1, ls2, lks, lkj, List.getD_cons_zero, List.getD_cons_succ, List.set_cons_zero, List.set_cons_succ, qcat, true_and, and_true, List.map_nil, List.map_cons, List.sum_nil, List.sum_cons, Nat.reduceAdd, Nat.reduceLeDiff, Nat.zero_le, Int.reduceAdd, Int.reduceNeg, Int.reduceEq, or_true, true_or, Decidable.not_not, false_implies, not_false_eq_true, true_implies, not_true_eq_false, Int.reduceLT, Int.reduceLE]
    exact ⟨fun _ => S.fg (ls' := [some (.inr (.inr 901)), some (.inl (j : Int)), none, none, none, none]) ⟨rfl, rfl, trivial⟩ (K (fun x h0 h1 => hn x h0 (by omega))), fun h => by omega⟩
  | succ m ih =>
    intro i hi hn
    have nx : ¬ dbd σ0 j i → WW 100 [] [some (.inr (.inr 901)), some (.inl (j : Int)), some (.inl (i : Int)), none, none, none] σ := fun hb => by
      refine s_D_isChain_100 S Q _ _ _ ?_
      simp only [k_D_isChain_0, k_D_isChain_7, k_D_isChain_13, k_D_isChain_27, k_D_isChain_31, k_D_isChain_32, k_D_isChain_35, k_D_isChain_41, k_D_isChain_50, k_D_isChain_59, k_D_isChain_64, k_D_isChain_79, k_D_isChain_84, k_D_isChain_98, k_D_isChain_100, k_D_isChain_106, k_D_isChain_112, k_D_isChain_119, k_D_isChain_123, k_D_isChain_132, k_D_isChain_135, k_D_isChain_143, k_D_isChain_150, k_D_isChain_160, k_D_isChain_175, k_D_isChain_178, k_D_isChain_184, k_D_isChain_189, k_D_isChain_191, k_D_isChain_197, k_D_isChain_201, k_D_isChain_205, k_D_isChain_209, k_D_isChain_210, k_D_isChain_211, oc_D_isInput, o_c, o_il, o_ll, o_al, o_is, o_as, o_ls, o_inc, o_bi, o_bid, o_bl, o_bld, o_sl, o_i2l, o_l2i, o_dup, o_dup2, o_pop, o_pop2, o_if, o_i2, o_l2, swg, o_sw, o_gI, o_gZ, o_gJ, o_gA, o_gR, o_pI, o_pZ, o_pJ, o_pR, o_ia, o_iak, o_zak, o_ja, o_jak, o_is_, o_isk, o_zsk, o_js_, o_jsk, o_len, o_ri, o_rz, o_rl, o_rv, ls1, ls2, lks, lkj, List.getD_cons_zero, List.getD_cons_succ, List.set_cons_zero, List.set_cons_succ, qcat, true_and, and_true, List.map_nil, List.map_cons, List.sum_nil, List.sum_cons, Nat.reduceAdd, Nat.reduceLeDiff, Nat.zero_le, Int.reduceAdd, Int.reduceNeg, Int.reduceEq, or_true, true_or, Decidable.not_not, false_implies, not_false_eq_true, true_implies, not_true_eq_false, Int.reduceLT, Int.reduceLE]
      rw [w32_i _ (by omega) (by omega)]
      exact ih (i + 1) (by omega) (fun x h0 h1 => by by_cases e : x = (i : Int); rw [e]; exact hb; exact hn x h0 (by omega))
    have bd : dbd σ0 j i → WW 98 [] [some (.inr (.inr 901)), some (.inl (j : Int)), some (.inl (i : Int)), none, none, none] σ := fun hb => by
      refine s_D_isChain_98 S Q _ _ _ ?_
      simp only [k_D_isChain_0, k_D_isChain_7, k_D_isChain_13, k_D_isChain_27, k_D_isChain_31, k_D_isChain_32, k_D_isChain_35, k_D_isChain_41, k_D_isChain_50, k_D_isChain_59, k_D_isChain_64, k_D_isChain_79, k_D_isChain_84, k_D_isChain_98, k_D_isChain_100, k_D_isChain_106, k_D_isChain_112, k_D_isChain_119, k_D_isChain_123, k_D_isChain_132, k_D_isChain_135, k_D_isChain_143, k_D_isChain_150, k_D_isChain_160, k_D_isChain_175, k_D_isChain_178, k_D_isChain_184, k_D_isChain_189, k_D_isChain_191, k_D_isChain_197, k_D_isChain_201, k_D_isChain_205, k_D_isChain_209, k_D_isChain_210, k_D_isChain_211, oc_D_isInput, o_c, o_il, o_ll, o_al, o_is, o_as, o_ls, o_inc, o_bi, o_bid, o_bl, o_bld, o_sl, o_i2l, o_l2i, o_dup, o_dup2, o_pop, o_pop2, o_if, o_i2, o_l2, swg, o_sw, o_gI, o_gZ, o_gJ, o_gA, o_gR, o_pI, o_pZ, o_pJ, o_pR, o_ia, o_iak, o_zak, o_ja, o_jak, o_is_, o_isk, o_zsk, o_js_, o_jsk, o_len, o_ri, o_rz, o_rl, o_rv, ls1, ls2, lks, lkj, List.getD_cons_zero, List.getD_cons_succ, List.set_cons_zero, List.set_cons_succ, qcat, true_and, and_true, List.map_nil, List.map_cons, List.sum_nil, List.sum_cons, Nat.reduceAdd, Nat.reduceLeDiff, Nat.zero_le, Int.reduceAdd, Int.reduceNeg, Int.reduceEq, or_true, true_or, Decidable.not_not, false_implies, not_false_eq_true, true_implies, not_true_eq_false, Int.reduceLT, Int.reduceLE]
      exact bad ⟨j, i, by omega, by omega, hb⟩
    refine s_D_isChain_35 S Q _ _ _ ?_
    simp only [k_D_isChain_0, k_D_isChain_7, k_D_isChain_13, k_D_isChain_27, k_D_isChain_31, k_D_isChain_32, k_D_isChain_35, k_D_isChain_41, k_D_isChain_50, k_D_isChain_59, k_D_isChain_64, k_D_isChain_79, k_D_isChain_84, k_D_isChain_98, k_D_isChain_100, k_D_isChain_106, k_D_isChain_112, k_D_isChain_119, k_D_isChain_123, k_D_isChain_132, k_D_isChain_135, k_D_isChain_143, k_D_isChain_150, k_D_isChain_160, k_D_isChain_175, k_D_isChain_178, k_D_isChain_184, k_D_isChain_189, k_D_isChain_191, k_D_isChain_197, k_D_isChain_201, k_D_isChain_205, k_D_isChain_209, k_D_isChain_210, k_D_isChain_211, oc_D_isInput, o_c, o_il, o_ll, o_al, o_is, o_as, o_ls, o_inc, o_bi, o_bid, o_bl, o_bld, o_sl, o_i2l, o_l2i, o_dup, o_dup2, o_pop, o_pop2, o_if, o_i2, o_l2, swg, o_sw, o_gI, o_gZ, o_gJ, o_gA, o_gR, o_pI, o_pZ, o_pJ, o_pR, o_ia, o_iak, o_zak, o_ja, o_jak, o_is_, o_isk, o_zsk, o_js_, o_jsk, o_len, o_ri, o_rz, o_rl, o_rv, ls1, ls2, lks, lkj, List.getD_cons_zero, List.getD_cons_succ, List.set_cons_zero, List.set_cons_succ, qcat, true_and, and_true, List.map_nil, List.map_cons, List.sum_nil, List.sum_cons, Nat.reduceAdd, Nat.reduceLeDiff, Nat.zero_le, Int.reduceAdd, Int.reduceNeg, Int.reduceEq, or_true, true_or, Decidable.not_not, false_implies, not_false_eq_true, true_implies, not_true_eq_false, Int.reduceLT, Int.reduceLE]
    rw [em, eo]
    have ne1 : ¬ (i : Int) = j → (j : Int) ≤ i → ¬ dbd σ0 j i := fun ne hge b => by
      rcases b.2.2 with ⟨x, _⟩ | ⟨x, _⟩
      · omega
      · exact ne x
    refine ⟨fun h => by omega, fun _ => ⟨by omega, fun _ => ⟨fun z => nx (fun b => b.1 z), fun mi => ⟨by omega, fun _ => ⟨fun z => nx (fun b => b.2.1 z), fun mj => ⟨fun hge => ⟨fun ne => nx (ne1 ne hge), fun eq => ⟨by omega, disI (by omega) (fun hin => bd ⟨mi, mj, Or.inr ⟨eq, by rw [e1, e2] at hin; exact hin⟩⟩) (fun hin => nx (fun b => ?_))⟩⟩, fun hlt => ⟨by omega, by omega, fun eo' => bd ⟨mi, mj, Or.inl ⟨by omega, eo'⟩⟩, fun no' => ⟨fun ne => nx (fun b => ?_), fun eq => by omega⟩⟩⟩⟩⟩⟩⟩⟩
    · rw [e1, e2] at hin
      rcases b.2.2 with ⟨x, _⟩ | ⟨_, x⟩
      · omega
      · exact hin x
    · rcases b.2.2 with ⟨_, x⟩ | ⟨x, _⟩
      · exact no' x
      · exact ne x
def DJ (σ0 σ : qS) (j : Int) : Prop := DF σ0 σ ∧ σ 117 0 = 0 ∧ ∀ k, 0 ≤ k → k < j → (σ 114 k ≠ 0 ↔ σ0 113 k = 0)
theorem v_D_isChain_7 {l : Launch} {ad : Nat → Nat} {D : va_G} {cA : Nat → ClassId} {WW : Nat → qP} {QR : Option qA → qS → Prop} (S : qSnd l rm_D_isChain ad D cA R_D b_D_isChain 6 WW) (Q : qRet (some .boolean) b_D_isChain WW QR) (σ0 : qS) (bad : ∀ σ, DF σ0 σ → dbad σ0 → QR (some (.inl 0)) σ) (K : ∀ σ, DJ σ0 σ 8 → ¬ dbad σ0 → WW 112 [] [some (.inr (.inr 901)), none, none, none, none, none] σ) : ∀ (m j : Nat) (σ : qS), j + m = 8 → DJ σ0 σ j → (∀ y, 0 ≤ y → y < (j : Int) → ∀ x, 0 ≤ x → x < 8 → ¬ dbd σ0 y x) → WW 7 [] [some (.inr (.inr 901)), some (.inl (j : Int)), none, none, none, none] σ := by
  intro m
  induction m with
  | zero =>
    intro j σ hj hD hn
    refine s_D_isChain_7 S Q _ _ _ ?_
    simp only [k_D_isChain_0, k_D_isChain_7, k_D_isChain_13, k_D_isChain_27, k_D_isChain_31, k_D_isChain_32, k_D_isChain_35, k_D_isChain_41, k_D_isChain_50, k_D_isChain_59, k_D_isChain_64, k_D_isChain_79, k_D_isChain_84, k_D_isChain_98, k_D_isChain_100, k_D_isChain_106, k_D_isChain_112, k_D_isChain_119, k_D_isChain_123, k_D_isChain_132, k_D_isChain_135, k_D_isChain_143, k_D_isChain_150, k_D_isChain_160, k_D_isChain_175, k_D_isChain_178, k_D_isChain_184, k_D_isChain_189, k_D_isChain_191, k_D_isChain_197, k_D_isChain_201, k_D_isChain_205, k_D_isChain_209, k_D_isChain_210, k_D_isChain_211, oc_D_isInput, o_c, o_il, o_ll, o_al, o_is, o_as, o_ls, o_inc, o_bi, o_bid, o_bl, o_bld, o_sl, o_i2l, o_l2i, o_dup, o_dup2, o_pop, o_pop2, o_if, o_i2, o_l2, swg, o_sw, o_gI, o_gZ, o_gJ, o_gA, o_gR, o_pI, o_pZ, o_pJ, o_pR, o_ia, o_iak, o_zak, o_ja, o_jak, o_is_, o_isk, o_zsk, o_js_, o_jsk, o_len, o_ri, o_rz, o_rl, o_rv, ls1, ls2, lks, lkj, List.getD_cons_zero, List.getD_cons_succ, List.set_cons_zero, List.set_cons_succ, qcat, true_and, and_true, List.map_nil, List.map_cons, List.sum_nil, List.sum_cons, Nat.reduceAdd, Nat.reduceLeDiff, Nat.zero_le, Int.reduceAdd, Int.reduceNeg, Int.reduceEq, or_true, true_or, Decidable.not_not, false_implies, not_false_eq_true, true_implies, not_true_eq_false, Int.reduceLT, Int.reduceLE]
    have e8 : (j : Int) = 8 := by omega
    rw [e8] at hD
    exact ⟨fun _ => S.fg (ls' := [some (.inr (.inr 901)), none, none, none, none, none]) ⟨rfl, trivial⟩ (K σ hD (fun ⟨y, x, h1, h2, h3⟩ => hn y h1.1 (by omega) x h2.1 h2.2 h3)), fun h => by omega⟩
  | succ m ih =>
    intro j σ hj hD hn
    have em : σ 113 = σ0 113 := hD.1 _ (by decide)
    have go : ∀ v, (v ≠ 0 ↔ σ0 113 j = 0) → WW 35 [] [some (.inr (.inr 901)), some (.inl (j : Int)), some (.inl 0), none, none, none] (su σ 114 j v) := fun v hv => by
      have hF : DF σ0 (su σ 114 j v) := fun q hq' => by rw [su_k (by intro e; subst e; exact hq' (by decide))]; exact hD.1 q hq'
      refine v_D_isChain_35 S Q σ0 _ hF j (by omega) (bad _ hF) (fun hok => ?_) 8 0 (by omega) (fun x h0 h1 => by omega)
      refine s_D_isChain_106 S Q _ _ _ ?_
      simp only [k_D_isChain_0, k_D_isChain_7, k_D_isChain_13, k_D_isChain_27, k_D_isChain_31, k_D_isChain_32, k_D_isChain_35, k_D_isChain_41, k_D_isChain_50, k_D_isChain_59, k_D_isChain_64, k_D_isChain_79, k_D_isChain_84, k_D_isChain_98, k_D_isChain_100, k_D_isChain_106, k_D_isChain_112, k_D_isChain_119, k_D_isChain_123, k_D_isChain_132, k_D_isChain_135, k_D_isChain_143, k_D_isChain_150, k_D_isChain_160, k_D_isChain_175, k_D_isChain_178, k_D_isChain_184, k_D_isChain_189, k_D_isChain_191, k_D_isChain_197, k_D_isChain_201, k_D_isChain_205, k_D_isChain_209, k_D_isChain_210, k_D_isChain_211, oc_D_isInput, o_c, o_il, o_ll, o_al, o_is, o_as, o_ls, o_inc, o_bi, o_bid, o_bl, o_bld, o_sl, o_i2l, o_l2i, o_dup, o_dup2, o_pop, o_pop2, o_if, o_i2, o_l2, swg, o_sw, o_gI, o_gZ, o_gJ, o_gA, o_gR, o_pI, o_pZ, o_pJ, o_pR, o_ia, o_iak, o_zak, o_ja, o_jak, o_is_, o_isk, o_zsk, o_js_, o_jsk, o_len, o_ri, o_rz, o_rl, o_rv, ls1, ls2, lks, lkj, List.getD_cons_zero, List.getD_cons_succ, List.set_cons_zero, List.set_cons_succ, qcat, true_and, and_true, List.map_nil, List.map_cons, List.sum_nil, List.sum_cons, Nat.reduceAdd, Nat.reduceLeDiff, Nat.zero_le, Int.reduceAdd, Int.reduceNeg, Int.reduceEq, or_true, true_or, Decidable.not_not, false_implies, not_false_eq_true, true_implies, not_true_eq_false, Int.reduceLT, Int.reduceLE]
      rw [w32_i _ (by omega) (by omega)]
      refine ih (j + 1) _ (by omega) ⟨hF, by rw [su_k (by decide)]; exact hD.2.1, fun k h0 h1 => ?_⟩ (fun y h0 h1 => by by_cases e : y = (j : Int); rw [e]; exact hok; exact hn y h0 (by omega))
      rw [su_e]
      by_cases e : k = (j : Int)
      · rw [if_pos e, e]; exact hv
      · rw [if_neg e]; exact hD.2.2 k h0 (by omega)
    refine s_D_isChain_7 S Q _ _ _ ?_
    simp only [k_D_isChain_0, k_D_isChain_7, k_D_isChain_13, k_D_isChain_27, k_D_isChain_31, k_D_isChain_32, k_D_isChain_35, k_D_isChain_41, k_D_isChain_50, k_D_isChain_59, k_D_isChain_64, k_D_isChain_79, k_D_isChain_84, k_D_isChain_98, k_D_isChain_100, k_D_isChain_106, k_D_isChain_112, k_D_isChain_119, k_D_isChain_123, k_D_isChain_132, k_D_isChain_135, k_D_isChain_143, k_D_isChain_150, k_D_isChain_160, k_D_isChain_175, k_D_isChain_178, k_D_isChain_184, k_D_isChain_189, k_D_isChain_191, k_D_isChain_197, k_D_isChain_201, k_D_isChain_205, k_D_isChain_209, k_D_isChain_210, k_D_isChain_211, oc_D_isInput, o_c, o_il, o_ll, o_al, o_is, o_as, o_ls, o_inc, o_bi, o_bid, o_bl, o_bld, o_sl, o_i2l, o_l2i, o_dup, o_dup2, o_pop, o_pop2, o_if, o_i2, o_l2, swg, o_sw, o_gI, o_gZ, o_gJ, o_gA, o_gR, o_pI, o_pZ, o_pJ, o_pR, o_ia, o_iak, o_zak, o_ja, o_jak, o_is_, o_isk, o_zsk, o_js_, o_jsk, o_len, o_ri, o_rz, o_rl, o_rv, ls1, ls2, lks, lkj, List.getD_cons_zero, List.getD_cons_succ, List.set_cons_zero, List.set_cons_succ, qcat, true_and, and_true, List.map_nil, List.map_cons, List.sum_nil, List.sum_cons, Nat.reduceAdd, Nat.reduceLeDiff, Nat.zero_le, Int.reduceAdd, Int.reduceNeg, Int.reduceEq, or_true, true_or, Decidable.not_not, false_implies, not_false_eq_true, true_implies, not_true_eq_false, Int.reduceLT, Int.reduceLE]
    rw [em]
    refine ⟨fun h => by omega, fun _ => ⟨by omega, fun _ => ⟨fun h0 => ?_, fun h0 => ?_⟩⟩⟩
    · exact ⟨by omega, go 0 ⟨fun h => absurd rfl h, fun h => absurd h h0⟩⟩
    · exact ⟨by omega, go 1 ⟨fun _ => h0, fun _ => by omega⟩⟩
def dblk (σ : qS) (C : List Int) (j k : Int) : Prop := σ 113 k ≠ 0 ∧ (σ 108 j = σ 110 k ∨ σ 109 j = σ 110 k) ∧ k ∉ C
theorem di_nd {σ0 σ : qS} {C : List Int} (h : DI σ0 σ C) (k : Int) (h0 : 0 ≤ k) (h1 : k < 8) : σ 114 k = 0 ↔ (σ0 113 k ≠ 0 ∧ k ∉ C) := by
  have := h.2.2.2.2.2 k h0 h1
  constructor
  · intro e
    exact ⟨fun x => (this.mpr (Or.inl x)) e, fun x => (this.mpr (Or.inr x)) e⟩
  · rintro ⟨a, b⟩
    exact Classical.byContradiction (fun e => (this.mp e).elim a b)
theorem v_D_isChain_143 {l : Launch} {ad : Nat → Nat} {D : va_G} {cA : Nat → ClassId} {WW : Nat → qP} {QR : Option qA → qS → Prop} (S : qSnd l rm_D_isChain ad D cA R_D b_D_isChain 6 WW) (Q : qRet (some .boolean) b_D_isChain WW QR) (σ0 σ : qS) (C : List Int) (hD : DI σ0 σ C) (nx lf j : Int) (hj : 0 ≤ j ∧ j < 8) (K : ∀ may, (may = 1 ∧ ¬ ∃ k, (0 ≤ k ∧ k < 8) ∧ dblk σ0 C j k) ∨ (may = 0 ∧ ∃ k, (0 ≤ k ∧ k < 8) ∧ dblk σ0 C j k) → WW 184 [] [some (.inr (.inr 901)), some (.inl nx), some (.inl lf), some (.inl j), some (.inl may), none] σ) : ∀ (m i : Nat) (may : Int), i + m = 8 → ((may = 1 ∧ ∀ k, 0 ≤ k → k < (i : Int) → ¬ dblk σ0 C j k) ∨ (may = 0 ∧ ∃ k, (0 ≤ k ∧ k < 8) ∧ dblk σ0 C j k)) → WW 143 [] [some (.inr (.inr 901)), some (.inl nx), some (.inl lf), some (.inl j), some (.inl may), some (.inl (i : Int))] σ := by
  have eo : σ 110 = σ0 110 := hD.1 _ (by decide)
  have e1 : σ 108 = σ0 108 := hD.1 _ (by decide)
  have e2 : σ 109 = σ0 109 := hD.1 _ (by decide)
  intro m
  induction m with
  | zero =>
    intro i may hi hm
    refine s_D_isChain_143 S Q _ _ _ ?_
    simp only [k_D_isChain_0, k_D_isChain_7, k_D_isChain_13, k_D_isChain_27, k_D_isChain_31, k_D_isChain_32, k_D_isChain_35, k_D_isChain_41, k_D_isChain_50, k_D_isChain_59, k_D_isChain_64, k_D_isChain_79, k_D_isChain_84, k_D_isChain_98, k_D_isChain_100, k_D_isChain_106, k_D_isChain_112, k_D_isChain_119, k_D_isChain_123, k_D_isChain_132, k_D_isChain_135, k_D_isChain_143, k_D_isChain_150, k_D_isChain_160, k_D_isChain_175, k_D_isChain_178, k_D_isChain_184, k_D_isChain_189, k_D_isChain_191, k_D_isChain_197, k_D_isChain_201, k_D_isChain_205, k_D_isChain_209, k_D_isChain_210, k_D_isChain_211, oc_D_isInput, o_c, o_il, o_ll, o_al, o_is, o_as, o_ls, o_inc, o_bi, o_bid, o_bl, o_bld, o_sl, o_i2l, o_l2i, o_dup, o_dup2, o_pop, o_pop2, o_if, o_i2, o_l2, swg, o_sw, o_gI, o_gZ, o_gJ, o_gA, o_gR, o_pI, o_pZ, o_pJ, o_pR, o_ia, o_iak, o_zak, o_ja, o_jak, o_is_, o_isk, o_zsk, o_js_, o_jsk, o_len, o_ri, o_rz, o_rl, o_rv, ls1, ls2, lks, lkj, List.getD_cons_zero, List.getD_cons_succ, List.set_cons_zero, List.set_cons_succ, qcat, true_and, and_true, List.map_nil, List.map_cons, List.sum_nil, List.sum_cons, Nat.reduceAdd, Nat.reduceLeDiff, Nat.zero_le, Int.reduceAdd, Int.reduceNeg, Int.reduceEq, or_true, true_or, Decidable.not_not, false_implies, not_false_eq_true, true_implies, not_true_eq_false, Int.reduceLT, Int.reduceLE]
    refine ⟨fun _ => S.fg (ls' := [some (.inr (.inr 901)), some (.inl nx), some (.inl lf), some (.inl j), some (.inl may), none]) ⟨rfl, rfl, rfl, rfl, rfl, trivial⟩ (K may ?_), fun h => by omega⟩
    rcases hm with ⟨a, b⟩ | h
    · exact Or.inl ⟨a, fun ⟨k, k0, k1⟩ => b k k0.1 (by omega) k1⟩
    · exact Or.inr h
  | succ m ih =>
    intro i may hi hm
    have go : ∀ may', ((may' = 1 ∧ ∀ k, 0 ≤ k → k < ((i + 1 : Nat) : Int) → ¬ dblk σ0 C j k) ∨ (may' = 0 ∧ ∃ k, (0 ≤ k ∧ k < 8) ∧ dblk σ0 C j k)) → WW 178 [] [some (.inr (.inr 901)), some (.inl nx), some (.inl lf), some (.inl j), some (.inl may'), some (.inl (i : Int))] σ := fun may' h' => by
      refine s_D_isChain_178 S Q _ _ _ ?_
      simp only [k_D_isChain_0, k_D_isChain_7, k_D_isChain_13, k_D_isChain_27, k_D_isChain_31, k_D_isChain_32, k_D_isChain_35, k_D_isChain_41, k_D_isChain_50, k_D_isChain_59, k_D_isChain_64, k_D_isChain_79, k_D_isChain_84, k_D_isChain_98, k_D_isChain_100, k_D_isChain_106, k_D_isChain_112, k_D_isChain_119, k_D_isChain_123, k_D_isChain_132, k_D_isChain_135, k_D_isChain_143, k_D_isChain_150, k_D_isChain_160, k_D_isChain_175, k_D_isChain_178, k_D_isChain_184, k_D_isChain_189, k_D_isChain_191, k_D_isChain_197, k_D_isChain_201, k_D_isChain_205, k_D_isChain_209, k_D_isChain_210, k_D_isChain_211, oc_D_isInput, o_c, o_il, o_ll, o_al, o_is, o_as, o_ls, o_inc, o_bi, o_bid, o_bl, o_bld, o_sl, o_i2l, o_l2i, o_dup, o_dup2, o_pop, o_pop2, o_if, o_i2, o_l2, swg, o_sw, o_gI, o_gZ, o_gJ, o_gA, o_gR, o_pI, o_pZ, o_pJ, o_pR, o_ia, o_iak, o_zak, o_ja, o_jak, o_is_, o_isk, o_zsk, o_js_, o_jsk, o_len, o_ri, o_rz, o_rl, o_rv, ls1, ls2, lks, lkj, List.getD_cons_zero, List.getD_cons_succ, List.set_cons_zero, List.set_cons_succ, qcat, true_and, and_true, List.map_nil, List.map_cons, List.sum_nil, List.sum_cons, Nat.reduceAdd, Nat.reduceLeDiff, Nat.zero_le, Int.reduceAdd, Int.reduceNeg, Int.reduceEq, or_true, true_or, Decidable.not_not, false_implies, not_false_eq_true, true_implies, not_true_eq_false, Int.reduceLT, Int.reduceLE]
      rw [w32_i _ (by omega) (by omega)]
      exact ih (i + 1) may' (by omega) h'
    have ok : ¬ dblk σ0 C j i → ((may = 1 ∧ ∀ k, 0 ≤ k → k < ((i + 1 : Nat) : Int) → ¬ dblk σ0 C j k) ∨ (may = 0 ∧ ∃ k, (0 ≤ k ∧ k < 8) ∧ dblk σ0 C j k)) := fun hb => by
      rcases hm with ⟨a, b⟩ | h
      · exact Or.inl ⟨a, fun k h0 h1 => by by_cases e : k = (i : Int); rw [e]; exact hb; exact b k h0 (by omega)⟩
      · exact Or.inr h
    have hnd := di_nd hD i (by omega) (by omega)
    refine s_D_isChain_143 S Q _ _ _ ?_
    simp only [k_D_isChain_0, k_D_isChain_7, k_D_isChain_13, k_D_isChain_27, k_D_isChain_31, k_D_isChain_32, k_D_isChain_35, k_D_isChain_41, k_D_isChain_50, k_D_isChain_59, k_D_isChain_64, k_D_isChain_79, k_D_isChain_84, k_D_isChain_98, k_D_isChain_100, k_D_isChain_106, k_D_isChain_112, k_D_isChain_119, k_D_isChain_123, k_D_isChain_132, k_D_isChain_135, k_D_isChain_143, k_D_isChain_150, k_D_isChain_160, k_D_isChain_175, k_D_isChain_178, k_D_isChain_184, k_D_isChain_189, k_D_isChain_191, k_D_isChain_197, k_D_isChain_201, k_D_isChain_205, k_D_isChain_209, k_D_isChain_210, k_D_isChain_211, oc_D_isInput, o_c, o_il, o_ll, o_al, o_is, o_as, o_ls, o_inc, o_bi, o_bid, o_bl, o_bld, o_sl, o_i2l, o_l2i, o_dup, o_dup2, o_pop, o_pop2, o_if, o_i2, o_l2, swg, o_sw, o_gI, o_gZ, o_gJ, o_gA, o_gR, o_pI, o_pZ, o_pJ, o_pR, o_ia, o_iak, o_zak, o_ja, o_jak, o_is_, o_isk, o_zsk, o_js_, o_jsk, o_len, o_ri, o_rz, o_rl, o_rv, ls1, ls2, lks, lkj, List.getD_cons_zero, List.getD_cons_succ, List.set_cons_zero, List.set_cons_succ, qcat, true_and, and_true, List.map_nil, List.map_cons, List.sum_nil, List.sum_cons, Nat.reduceAdd, Nat.reduceLeDiff, Nat.zero_le, Int.reduceAdd, Int.reduceNeg, Int.reduceEq, or_true, true_or, Decidable.not_not, false_implies, not_false_eq_true, true_implies, not_true_eq_false, Int.reduceLT, Int.reduceLE]
    rw [eo]
    refine ⟨fun h => by omega, fun _ => ⟨by omega, fun _ => ⟨fun hd => ?_, fun hd => ?_⟩⟩⟩
    · first | exact go may (ok (fun b => hd (hnd.mpr ⟨b.1, b.2.2⟩))) | exact ⟨by omega, disI hj (fun hin => go 0 (Or.inr ⟨rfl, i, by omega, (hnd.mp hd).1, by rw [e1, e2] at hin; exact hin, (hnd.mp hd).2⟩)) (fun hin => go may (ok (fun b => by rw [e1, e2] at hin; exact hin b.2.1)))⟩
    · first | exact go may (ok (fun b => hd (hnd.mpr ⟨b.1, b.2.2⟩))) | exact ⟨by omega, disI hj (fun hin => go 0 (Or.inr ⟨rfl, i, by omega, (hnd.mp hd).1, by rw [e1, e2] at hin; exact hin, (hnd.mp hd).2⟩)) (fun hin => go may (ok (fun b => by rw [e1, e2] at hin; exact hin b.2.1)))⟩
def dNx (σ0 : qS) (C : List Int) (m nx : Int) : Prop := (nx = -1 ∧ ∀ j, m ≤ j → j < 8 → ¬ dfre σ0 C j) ∨ ((m ≤ nx ∧ nx < 8) ∧ dfre σ0 C nx ∧ ∀ j, m ≤ j → j < nx → ¬ dfre σ0 C j)
def dLf (σ0 : qS) (C : List Int) (m lf : Int) : Prop := (lf = 0 ∧ ∀ j, m ≤ j → j < 8 → σ0 113 j ≠ 0 → j ∈ C) ∨ (lf = 1 ∧ ∃ j, m ≤ j ∧ j < 8 ∧ σ0 113 j ≠ 0 ∧ j ∉ C)
theorem v_D_isChain_119 {l : Launch} {ad : Nat → Nat} {D : va_G} {cA : Nat → ClassId} {WW : Nat → qP} {QR : Option qA → qS → Prop} (S : qSnd l rm_D_isChain ad D cA R_D b_D_isChain 6 WW) (Q : qRet (some .boolean) b_D_isChain WW QR) (σ0 σ : qS) (C : List Int) (hD : DI σ0 σ C) (K : ∀ nx lf, dNx σ0 C 0 nx → dLf σ0 C 0 lf → WW 197 [] [some (.inr (.inr 901)), some (.inl nx), some (.inl lf), none, none, none] σ) : ∀ (m : Nat) (nx lf : Int), m ≤ 8 → dNx σ0 C m nx → dLf σ0 C m lf → WW 119 [] [some (.inr (.inr 901)), some (.inl nx), some (.inl lf), some (.inl ((m : Int) - 1)), none, none] σ := by
  intro m
  induction m with
  | zero =>
    intro nx lf hm hN hL
    refine s_D_isChain_119 S Q _ _ _ ?_
    simp only [k_D_isChain_0, k_D_isChain_7, k_D_isChain_13, k_D_isChain_27, k_D_isChain_31, k_D_isChain_32, k_D_isChain_35, k_D_isChain_41, k_D_isChain_50, k_D_isChain_59, k_D_isChain_64, k_D_isChain_79, k_D_isChain_84, k_D_isChain_98, k_D_isChain_100, k_D_isChain_106, k_D_isChain_112, k_D_isChain_119, k_D_isChain_123, k_D_isChain_132, k_D_isChain_135, k_D_isChain_143, k_D_isChain_150, k_D_isChain_160, k_D_isChain_175, k_D_isChain_178, k_D_isChain_184, k_D_isChain_189, k_D_isChain_191, k_D_isChain_197, k_D_isChain_201, k_D_isChain_205, k_D_isChain_209, k_D_isChain_210, k_D_isChain_211, oc_D_isInput, o_c, o_il, o_ll, o_al, o_is, o_as, o_ls, o_inc, o_bi, o_bid, o_bl, o_bld, o_sl, o_i2l, o_l2i, o_dup, o_dup2, o_pop, o_pop2, o_if, o_i2, o_l2, swg, o_sw, o_gI, o_gZ, o_gJ, o_gA, o_gR, o_pI, o_pZ, o_pJ, o_pR, o_ia, o_iak, o_zak, o_ja, o_jak, o_is_, o_isk, o_zsk, o_js_, o_jsk, o_len, o_ri, o_rz, o_rl, o_rv, ls1, ls2, lks, lkj, List.getD_cons_zero, List.getD_cons_succ, List.set_cons_zero, List.set_cons_succ, qcat, true_and, and_true, List.map_nil, List.map_cons, List.sum_nil, List.sum_cons, Nat.reduceAdd, Nat.reduceLeDiff, Nat.zero_le, Int.reduceAdd, Int.reduceNeg, Int.reduceEq, or_true, true_or, Decidable.not_not, false_implies, not_false_eq_true, true_implies, not_true_eq_false, Int.reduceLT, Int.reduceLE]
    exact ⟨fun _ => S.fg (ls' := [some (.inr (.inr 901)), some (.inl nx), some (.inl lf), none, none, none]) ⟨rfl, rfl, rfl, trivial⟩ (K nx lf hN hL), fun h => by omega⟩
  | succ m ih =>
    intro nx lf hm hN hL
    rw [show ((m + 1 : Nat) : Int) - 1 = (m : Int) by omega]
    have hnd := di_nd hD m (by omega) (by omega)
    have go : ∀ nx' lf', dNx σ0 C m nx' → dLf σ0 C m lf' → WW 191 [] [some (.inr (.inr 901)), some (.inl nx'), some (.inl lf'), some (.inl (m : Int)), none, none] σ := fun nx' lf' h1 h2 => by
      refine s_D_isChain_191 S Q _ _ _ ?_
      simp only [k_D_isChain_0, k_D_isChain_7, k_D_isChain_13, k_D_isChain_27, k_D_isChain_31, k_D_isChain_32, k_D_isChain_35, k_D_isChain_41, k_D_isChain_50, k_D_isChain_59, k_D_isChain_64, k_D_isChain_79, k_D_isChain_84, k_D_isChain_98, k_D_isChain_100, k_D_isChain_106, k_D_isChain_112, k_D_isChain_119, k_D_isChain_123, k_D_isChain_132, k_D_isChain_135, k_D_isChain_143, k_D_isChain_150, k_D_isChain_160, k_D_isChain_175, k_D_isChain_178, k_D_isChain_184, k_D_isChain_189, k_D_isChain_191, k_D_isChain_197, k_D_isChain_201, k_D_isChain_205, k_D_isChain_209, k_D_isChain_210, k_D_isChain_211, oc_D_isInput, o_c, o_il, o_ll, o_al, o_is, o_as, o_ls, o_inc, o_bi, o_bid, o_bl, o_bld, o_sl, o_i2l, o_l2i, o_dup, o_dup2, o_pop, o_pop2, o_if, o_i2, o_l2, swg, o_sw, o_gI, o_gZ, o_gJ, o_gA, o_gR, o_pI, o_pZ, o_pJ, o_pR, o_ia, o_iak, o_zak, o_ja, o_jak, o_is_, o_isk, o_zsk, o_js_, o_jsk, o_len, o_ri, o_rz, o_rl, o_rv, ls1, ls2, lks, lkj, List.getD_cons_zero, List.getD_cons_succ, List.set_cons_zero, List.set_cons_succ, qcat, true_and, and_true, List.map_nil, List.map_cons, List.sum_nil, List.sum_cons, Nat.reduceAdd, Nat.reduceLeDiff, Nat.zero_le, Int.reduceAdd, Int.reduceNeg, Int.reduceEq, or_true, true_or, Decidable.not_not, false_implies, not_false_eq_true, true_implies, not_true_eq_false, Int.reduceLT, Int.reduceLE]
      rw [w32_i _ (by omega) (by omega)]
      exact ih nx' lf' (by omega) h1 h2
    have keepN : ¬ dfre σ0 C m → dNx σ0 C m nx := fun hf => by
      rcases hN with ⟨a, b⟩ | ⟨a, b, c⟩
      · exact Or.inl ⟨a, fun j h0 h1 => by by_cases e : j = (m : Int); rw [e]; exact hf; exact b j (by omega) h1⟩
      · exact Or.inr ⟨by omega, b, fun j h0 h1 => by by_cases e : j = (m : Int); rw [e]; exact hf; exact c j (by omega) h1⟩
    have hf8 : σ 114 m = 0 → ∀ may : Int, (may = 1 ∧ ¬ ∃ k, (0 ≤ k ∧ k < 8) ∧ dblk σ0 C m k) ∨ (may = 0 ∧ ∃ k, (0 ≤ k ∧ k < 8) ∧ dblk σ0 C m k) → (may = 0 → ¬ dfre σ0 C m) ∧ (may ≠ 0 → dfre σ0 C m) := fun h0 may hm' => by
      rcases hm' with ⟨a, b⟩ | ⟨a, b⟩
      · exact ⟨fun e => by omega, fun _ => ⟨(hnd.mp h0).1, (hnd.mp h0).2, fun ⟨k, k0, k1, k2, k3⟩ => b ⟨k, k0, k1, k2, k3⟩⟩⟩
      · exact ⟨fun _ f => by obtain ⟨k, k0, k1, k2, k3⟩ := b; exact f.2.2 ⟨k, k0, k1, k2, k3⟩, fun e => absurd a e⟩
    refine s_D_isChain_119 S Q _ _ _ ?_
    simp only [k_D_isChain_0, k_D_isChain_7, k_D_isChain_13, k_D_isChain_27, k_D_isChain_31, k_D_isChain_32, k_D_isChain_35, k_D_isChain_41, k_D_isChain_50, k_D_isChain_59, k_D_isChain_64, k_D_isChain_79, k_D_isChain_84, k_D_isChain_98, k_D_isChain_100, k_D_isChain_106, k_D_isChain_112, k_D_isChain_119, k_D_isChain_123, k_D_isChain_132, k_D_isChain_135, k_D_isChain_143, k_D_isChain_150, k_D_isChain_160, k_D_isChain_175, k_D_isChain_178, k_D_isChain_184, k_D_isChain_189, k_D_isChain_191, k_D_isChain_197, k_D_isChain_201, k_D_isChain_205, k_D_isChain_209, k_D_isChain_210, k_D_isChain_211, oc_D_isInput, o_c, o_il, o_ll, o_al, o_is, o_as, o_ls, o_inc, o_bi, o_bid, o_bl, o_bld, o_sl, o_i2l, o_l2i, o_dup, o_dup2, o_pop, o_pop2, o_if, o_i2, o_l2, swg, o_sw, o_gI, o_gZ, o_gJ, o_gA, o_gR, o_pI, o_pZ, o_pJ, o_pR, o_ia, o_iak, o_zak, o_ja, o_jak, o_is_, o_isk, o_zsk, o_js_, o_jsk, o_len, o_ri, o_rz, o_rl, o_rv, ls1, ls2, lks, lkj, List.getD_cons_zero, List.getD_cons_succ, List.set_cons_zero, List.set_cons_succ, qcat, true_and, and_true, List.map_nil, List.map_cons, List.sum_nil, List.sum_cons, Nat.reduceAdd, Nat.reduceLeDiff, Nat.zero_le, Int.reduceAdd, Int.reduceNeg, Int.reduceEq, or_true, true_or, Decidable.not_not, false_implies, not_false_eq_true, true_implies, not_true_eq_false, Int.reduceLT, Int.reduceLE]
    refine ⟨fun h => by omega, fun _ => ⟨by omega, fun _ => ⟨fun h0 => ?_, fun h0 => go nx lf (keepN (fun f => h0 (hnd.mpr ⟨f.1, f.2.1⟩))) ?_⟩⟩⟩
    · refine v_D_isChain_143 S Q σ0 σ C hD nx 1 m (by omega) (fun may hm' => ?_) 8 0 1 (by omega) (Or.inl ⟨rfl, fun k h0 h1 => by omega⟩)
      have hL1 : dLf σ0 C m 1 := Or.inr ⟨rfl, m, by omega, by omega, (hnd.mp h0).1, (hnd.mp h0).2⟩
      refine s_D_isChain_184 S Q _ _ _ ?_
      simp only [k_D_isChain_0, k_D_isChain_7, k_D_isChain_13, k_D_isChain_27, k_D_isChain_31, k_D_isChain_32, k_D_isChain_35, k_D_isChain_41, k_D_isChain_50, k_D_isChain_59, k_D_isChain_64, k_D_isChain_79, k_D_isChain_84, k_D_isChain_98, k_D_isChain_100, k_D_isChain_106, k_D_isChain_112, k_D_isChain_119, k_D_isChain_123, k_D_isChain_132, k_D_isChain_135, k_D_isChain_143, k_D_isChain_150, k_D_isChain_160, k_D_isChain_175, k_D_isChain_178, k_D_isChain_184, k_D_isChain_189, k_D_isChain_191, k_D_isChain_197, k_D_isChain_201, k_D_isChain_205, k_D_isChain_209, k_D_isChain_210, k_D_isChain_211, oc_D_isInput, o_c, o_il, o_ll, o_al, o_is, o_as, o_ls, o_inc, o_bi, o_bid, o_bl, o_bld, o_sl, o_i2l, o_l2i, o_dup, o_dup2, o_pop, o_pop2, o_if, o_i2, o_l2, swg, o_sw, o_gI, o_gZ, o_gJ, o_gA, o_gR, o_pI, o_pZ, o_pJ, o_pR, o_ia, o_iak, o_zak, o_ja, o_jak, o_is_, o_isk, o_zsk, o_js_, o_jsk, o_len, o_ri, o_rz, o_rl, o_rv, ls1, ls2, lks, lkj, List.getD_cons_zero, List.getD_cons_succ, List.set_cons_zero, List.set_cons_succ, qcat, true_and, and_true, List.map_nil, List.map_cons, List.sum_nil, List.sum_cons, Nat.reduceAdd, Nat.reduceLeDiff, Nat.zero_le, Int.reduceAdd, Int.reduceNeg, Int.reduceEq, or_true, true_or, Decidable.not_not, false_implies, not_false_eq_true, true_implies, not_true_eq_false, Int.reduceLT, Int.reduceLE]
      refine ⟨fun e => S.fg (ls' := [some (.inr (.inr 901)), some (.inl nx), some (.inl 1), some (.inl (m : Int)), none, none]) ⟨rfl, rfl, rfl, rfl, trivial⟩ (go nx 1 (keepN ((hf8 h0 may hm').1 e)) hL1), fun e => S.fg (ls' := [some (.inr (.inr 901)), some (.inl (m : Int)), some (.inl 1), some (.inl (m : Int)), none, none]) ⟨rfl, rfl, rfl, rfl, trivial⟩ (go m 1 (Or.inr ⟨by omega, (hf8 h0 may hm').2 e, fun j h0 h1 => by omega⟩) hL1)⟩
    · rcases hL with ⟨a, b⟩ | ⟨a, j, b, c⟩
      · exact Or.inl ⟨a, fun j h1 h2 hmd => by
          by_cases e : j = (m : Int)
          · rw [e] at hmd ⊢
            exact Classical.byContradiction (fun x => h0 (hnd.mpr ⟨hmd, x⟩))
          · exact b j (by omega) h2 hmd⟩
      · exact Or.inr ⟨a, j, by omega, c⟩
theorem di_push {σ0 σ : qS} {C : List Int} {j : Int} (h : DI σ0 σ C) (hj : 0 ≤ j ∧ j < 8) (hn : j ∉ C) : DI σ0 (su (su (su σ 112 (C.length : Int) j) 117 0 (C.length + 1)) 114 j 1) (C ++ [j]) := by
  obtain ⟨h0, h1, h2, h3, h4, h5⟩ := h
  refine ⟨fun q hq => by rw [su_k (by intro e; subst e; exact hq (by decide)), su_k (by intro e; subst e; exact hq (by decide)), su_k (by intro e; subst e; exact hq (by decide))]; exact h0 q hq, by rw [su_k (by decide), su_s]; simp, fun i hi => ?_, ?_, ?_, fun k k0 k1 => ?_⟩
  · rw [su_k (by decide), su_k (by decide), su_e]
    by_cases e : i = C.length
    · subst e; simp
    · rw [if_neg (by omega), List.getElem?_append_left (by simp at hi; omega)]; exact h2 i (by simp at hi; omega)
  · rw [List.nodup_append]; exact ⟨h3, by simp, by intro a ha b hb; simp at hb; subst hb; exact fun e => hn (e ▸ ha)⟩
  · intro x hx
    rcases List.mem_append.mp hx with h | h
    · exact h4 x h
    · simp at h; subst h; exact hj
  · rw [su_e, su_k (by decide), su_k (by decide)]
    by_cases e : k = j
    · rw [if_pos e]; simp [e]
    · rw [if_neg e, h5 k k0 k1]; simp [e]
theorem v_D_isChain_112 {l : Launch} {ad : Nat → Nat} {D : va_G} {cA : Nat → ClassId} {WW : Nat → qP} {QR : Option qA → qS → Prop} (S : qSnd l rm_D_isChain ad D cA R_D b_D_isChain 6 WW) (Q : qRet (some .boolean) b_D_isChain WW QR) (σ0 : qS) (hnb : ¬ dbad σ0) (hq : ∀ (r : Int) σ', Q_D_isChain σ0 r σ' → QR (some (.inl r)) σ') : ∀ (f : Nat) (C : List Int) (σ : qS), 8 - C.length ≤ f → DI σ0 σ C → (∀ n C', dChR σ0 n C C' → ∃ n', dChR σ0 n' [] C') → WW 112 [] [some (.inr (.inr 901)), none, none, none, none, none] σ := by
  intro f
  induction f with
  | zero =>
    intro C σ hf hD hr
    have hl := nd_len 8 C hD.2.2.2.1 hD.2.2.2.2.1
    refine s_D_isChain_112 S Q _ _ _ ?_
    simp only [k_D_isChain_0, k_D_isChain_7, k_D_isChain_13, k_D_isChain_27, k_D_isChain_31, k_D_isChain_32, k_D_isChain_35, k_D_isChain_41, k_D_isChain_50, k_D_isChain_59, k_D_isChain_64, k_D_isChain_79, k_D_isChain_84, k_D_isChain_98, k_D_isChain_100, k_D_isChain_106, k_D_isChain_112, k_D_isChain_119, k_D_isChain_123, k_D_isChain_132, k_D_isChain_135, k_D_isChain_143, k_D_isChain_150, k_D_isChain_160, k_D_isChain_175, k_D_isChain_178, k_D_isChain_184, k_D_isChain_189, k_D_isChain_191, k_D_isChain_197, k_D_isChain_201, k_D_isChain_205, k_D_isChain_209, k_D_isChain_210, k_D_isChain_211, oc_D_isInput, o_c, o_il, o_ll, o_al, o_is, o_as, o_ls, o_inc, o_bi, o_bid, o_bl, o_bld, o_sl, o_i2l, o_l2i, o_dup, o_dup2, o_pop, o_pop2, o_if, o_i2, o_l2, swg, o_sw, o_gI, o_gZ, o_gJ, o_gA, o_gR, o_pI, o_pZ, o_pJ, o_pR, o_ia, o_iak, o_zak, o_ja, o_jak, o_is_, o_isk, o_zsk, o_js_, o_jsk, o_len, o_ri, o_rz, o_rl, o_rv, ls1, ls2, lks, lkj, List.getD_cons_zero, List.getD_cons_succ, List.set_cons_zero, List.set_cons_succ, qcat, true_and, and_true, List.map_nil, List.map_cons, List.sum_nil, List.sum_cons, Nat.reduceAdd, Nat.reduceLeDiff, Nat.zero_le, Int.reduceAdd, Int.reduceNeg, Int.reduceEq, or_true, true_or, Decidable.not_not, false_implies, not_false_eq_true, true_implies, not_true_eq_false, Int.reduceLT, Int.reduceLE]
    refine v_D_isChain_119 S Q σ0 σ C hD (fun nx lf hN hL => ?_) 8 (-1) 0 (by omega) (Or.inl ⟨rfl, fun j h0 h1 => by omega⟩) (Or.inl ⟨rfl, fun j h0 h1 => by omega⟩)
    refine s_D_isChain_197 S Q _ _ _ ?_
    simp only [k_D_isChain_0, k_D_isChain_7, k_D_isChain_13, k_D_isChain_27, k_D_isChain_31, k_D_isChain_32, k_D_isChain_35, k_D_isChain_41, k_D_isChain_50, k_D_isChain_59, k_D_isChain_64, k_D_isChain_79, k_D_isChain_84, k_D_isChain_98, k_D_isChain_100, k_D_isChain_106, k_D_isChain_112, k_D_isChain_119, k_D_isChain_123, k_D_isChain_132, k_D_isChain_135, k_D_isChain_143, k_D_isChain_150, k_D_isChain_160, k_D_isChain_175, k_D_isChain_178, k_D_isChain_184, k_D_isChain_189, k_D_isChain_191, k_D_isChain_197, k_D_isChain_201, k_D_isChain_205, k_D_isChain_209, k_D_isChain_210, k_D_isChain_211, oc_D_isInput, o_c, o_il, o_ll, o_al, o_is, o_as, o_ls, o_inc, o_bi, o_bid, o_bl, o_bld, o_sl, o_i2l, o_l2i, o_dup, o_dup2, o_pop, o_pop2, o_if, o_i2, o_l2, swg, o_sw, o_gI, o_gZ, o_gJ, o_gA, o_gR, o_pI, o_pZ, o_pJ, o_pR, o_ia, o_iak, o_zak, o_ja, o_jak, o_is_, o_isk, o_zsk, o_js_, o_jsk, o_len, o_ri, o_rz, o_rl, o_rv, ls1, ls2, lks, lkj, List.getD_cons_zero, List.getD_cons_succ, List.set_cons_zero, List.set_cons_succ, qcat, true_and, and_true, List.map_nil, List.map_cons, List.sum_nil, List.sum_cons, Nat.reduceAdd, Nat.reduceLeDiff, Nat.zero_le, Int.reduceAdd, Int.reduceNeg, Int.reduceEq, or_true, true_or, Decidable.not_not, false_implies, not_false_eq_true, true_implies, not_true_eq_false, Int.reduceLT, Int.reduceLE]
    have stop : ¬ 0 ≤ nx → (∀ j, 0 ≤ j → j < 8 → ¬ dfre σ0 C j) := fun hx => by
      rcases hN with ⟨_, b⟩ | ⟨b, _⟩
      · exact b
      · omega
    refine ⟨fun hx => ?_, fun hx => ⟨fun hl0 => hq _ _ (Or.inr ⟨hnb, C, hD, hr 0 C ⟨rfl, stop hx⟩, Or.inr ⟨rfl, ?_⟩⟩), fun hl0 => hq _ _ (Or.inr ⟨hnb, C, hD, hr 0 C ⟨rfl, stop hx⟩, Or.inl ⟨rfl, ?_⟩⟩)⟩⟩
    rotate_left
    · rcases hL with ⟨a, _⟩ | ⟨_, j, x1, x2, x3, x4⟩
      · exact absurd a hl0
      · exact ⟨j, x1, x2, x3, x4⟩
    · rcases hL with ⟨_, b⟩ | ⟨a, _⟩
      · exact b
      · omega
    have hNx : (0 ≤ nx ∧ nx < 8) ∧ dfre σ0 C nx ∧ ∀ j, 0 ≤ j → j < nx → ¬ dfre σ0 C j := by
      rcases hN with ⟨a, _⟩ | b
      · omega
      · exact b
    have hp := di_push hD hNx.1 hNx.2.1.2.1
    have hl8 := nd_len 8 _ hp.2.2.2.1 hp.2.2.2.2.1
    simp only [List.length_append, List.length_singleton] at hl8
    omega
  | succ f ih =>
    intro C σ hf hD hr
    have hl := nd_len 8 C hD.2.2.2.1 hD.2.2.2.2.1
    refine s_D_isChain_112 S Q _ _ _ ?_
    simp only [k_D_isChain_0, k_D_isChain_7, k_D_isChain_13, k_D_isChain_27, k_D_isChain_31, k_D_isChain_32, k_D_isChain_35, k_D_isChain_41, k_D_isChain_50, k_D_isChain_59, k_D_isChain_64, k_D_isChain_79, k_D_isChain_84, k_D_isChain_98, k_D_isChain_100, k_D_isChain_106, k_D_isChain_112, k_D_isChain_119, k_D_isChain_123, k_D_isChain_132, k_D_isChain_135, k_D_isChain_143, k_D_isChain_150, k_D_isChain_160, k_D_isChain_175, k_D_isChain_178, k_D_isChain_184, k_D_isChain_189, k_D_isChain_191, k_D_isChain_197, k_D_isChain_201, k_D_isChain_205, k_D_isChain_209, k_D_isChain_210, k_D_isChain_211, oc_D_isInput, o_c, o_il, o_ll, o_al, o_is, o_as, o_ls, o_inc, o_bi, o_bid, o_bl, o_bld, o_sl, o_i2l, o_l2i, o_dup, o_dup2, o_pop, o_pop2, o_if, o_i2, o_l2, swg, o_sw, o_gI, o_gZ, o_gJ, o_gA, o_gR, o_pI, o_pZ, o_pJ, o_pR, o_ia, o_iak, o_zak, o_ja, o_jak, o_is_, o_isk, o_zsk, o_js_, o_jsk, o_len, o_ri, o_rz, o_rl, o_rv, ls1, ls2, lks, lkj, List.getD_cons_zero, List.getD_cons_succ, List.set_cons_zero, List.set_cons_succ, qcat, true_and, and_true, List.map_nil, List.map_cons, List.sum_nil, List.sum_cons, Nat.reduceAdd, Nat.reduceLeDiff, Nat.zero_le, Int.reduceAdd, Int.reduceNeg, Int.reduceEq, or_true, true_or, Decidable.not_not, false_implies, not_false_eq_true, true_implies, not_true_eq_false, Int.reduceLT, Int.reduceLE]
    refine v_D_isChain_119 S Q σ0 σ C hD (fun nx lf hN hL => ?_) 8 (-1) 0 (by omega) (Or.inl ⟨rfl, fun j h0 h1 => by omega⟩) (Or.inl ⟨rfl, fun j h0 h1 => by omega⟩)
    refine s_D_isChain_197 S Q _ _ _ ?_
    simp only [k_D_isChain_0, k_D_isChain_7, k_D_isChain_13, k_D_isChain_27, k_D_isChain_31, k_D_isChain_32, k_D_isChain_35, k_D_isChain_41, k_D_isChain_50, k_D_isChain_59, k_D_isChain_64, k_D_isChain_79, k_D_isChain_84, k_D_isChain_98, k_D_isChain_100, k_D_isChain_106, k_D_isChain_112, k_D_isChain_119, k_D_isChain_123, k_D_isChain_132, k_D_isChain_135, k_D_isChain_143, k_D_isChain_150, k_D_isChain_160, k_D_isChain_175, k_D_isChain_178, k_D_isChain_184, k_D_isChain_189, k_D_isChain_191, k_D_isChain_197, k_D_isChain_201, k_D_isChain_205, k_D_isChain_209, k_D_isChain_210, k_D_isChain_211, oc_D_isInput, o_c, o_il, o_ll, o_al, o_is, o_as, o_ls, o_inc, o_bi, o_bid, o_bl, o_bld, o_sl, o_i2l, o_l2i, o_dup, o_dup2, o_pop, o_pop2, o_if, o_i2, o_l2, swg, o_sw, o_gI, o_gZ, o_gJ, o_gA, o_gR, o_pI, o_pZ, o_pJ, o_pR, o_ia, o_iak, o_zak, o_ja, o_jak, o_is_, o_isk, o_zsk, o_js_, o_jsk, o_len, o_ri, o_rz, o_rl, o_rv, ls1, ls2, lks, lkj, List.getD_cons_zero, List.getD_cons_succ, List.set_cons_zero, List.set_cons_succ, qcat, true_and, and_true, List.map_nil, List.map_cons, List.sum_nil, List.sum_cons, Nat.reduceAdd, Nat.reduceLeDiff, Nat.zero_le, Int.reduceAdd, Int.reduceNeg, Int.reduceEq, or_true, true_or, Decidable.not_not, false_implies, not_false_eq_true, true_implies, not_true_eq_false, Int.reduceLT, Int.reduceLE]
    have stop : ¬ 0 ≤ nx → (∀ j, 0 ≤ j → j < 8 → ¬ dfre σ0 C j) := fun hx => by
      rcases hN with ⟨_, b⟩ | ⟨b, _⟩
      · exact b
      · omega
    refine ⟨fun hx => ?_, fun hx => ⟨fun hl0 => hq _ _ (Or.inr ⟨hnb, C, hD, hr 0 C ⟨rfl, stop hx⟩, Or.inr ⟨rfl, ?_⟩⟩), fun hl0 => hq _ _ (Or.inr ⟨hnb, C, hD, hr 0 C ⟨rfl, stop hx⟩, Or.inl ⟨rfl, ?_⟩⟩)⟩⟩
    rotate_left
    · rcases hL with ⟨a, _⟩ | ⟨_, j, x1, x2, x3, x4⟩
      · exact absurd a hl0
      · exact ⟨j, x1, x2, x3, x4⟩
    · rcases hL with ⟨_, b⟩ | ⟨a, _⟩
      · exact b
      · omega
    have hNx : (0 ≤ nx ∧ nx < 8) ∧ dfre σ0 C nx ∧ ∀ j, 0 ≤ j → j < nx → ¬ dfre σ0 C j := by
      rcases hN with ⟨a, _⟩ | b
      · omega
      · exact b
    have hp := di_push hD hNx.1 hNx.2.1.2.1
    have hl8 := nd_len 8 _ hp.2.2.2.1 hp.2.2.2.2.1
    simp only [List.length_append, List.length_singleton] at hl8
    refine s_D_isChain_211 S Q _ _ _ ?_
    simp only [k_D_isChain_0, k_D_isChain_7, k_D_isChain_13, k_D_isChain_27, k_D_isChain_31, k_D_isChain_32, k_D_isChain_35, k_D_isChain_41, k_D_isChain_50, k_D_isChain_59, k_D_isChain_64, k_D_isChain_79, k_D_isChain_84, k_D_isChain_98, k_D_isChain_100, k_D_isChain_106, k_D_isChain_112, k_D_isChain_119, k_D_isChain_123, k_D_isChain_132, k_D_isChain_135, k_D_isChain_143, k_D_isChain_150, k_D_isChain_160, k_D_isChain_175, k_D_isChain_178, k_D_isChain_184, k_D_isChain_189, k_D_isChain_191, k_D_isChain_197, k_D_isChain_201, k_D_isChain_205, k_D_isChain_209, k_D_isChain_210, k_D_isChain_211, oc_D_isInput, o_c, o_il, o_ll, o_al, o_is, o_as, o_ls, o_inc, o_bi, o_bid, o_bl, o_bld, o_sl, o_i2l, o_l2i, o_dup, o_dup2, o_pop, o_pop2, o_if, o_i2, o_l2, swg, o_sw, o_gI, o_gZ, o_gJ, o_gA, o_gR, o_pI, o_pZ, o_pJ, o_pR, o_ia, o_iak, o_zak, o_ja, o_jak, o_is_, o_isk, o_zsk, o_js_, o_jsk, o_len, o_ri, o_rz, o_rl, o_rv, ls1, ls2, lks, lkj, List.getD_cons_zero, List.getD_cons_succ, List.set_cons_zero, List.set_cons_succ, qcat, true_and, and_true, List.map_nil, List.map_cons, List.sum_nil, List.sum_cons, Nat.reduceAdd, Nat.reduceLeDiff, Nat.zero_le, Int.reduceAdd, Int.reduceNeg, Int.reduceEq, or_true, true_or, Decidable.not_not, false_implies, not_false_eq_true, true_implies, not_true_eq_false, Int.reduceLT, Int.reduceLE]
    simp (disch := omega) only [su_k]
    have e1 : z_add (C.length : Int) 1 = C.length + 1 := by unfold z_add; exact w32_i _ (by omega) (by omega)
    rw [hD.2.1, e1]
    refine ⟨by omega, by omega, S.fg (ls' := [some (.inr (.inr 901)), none, none, none, none, none]) ⟨rfl, trivial⟩ ?_⟩
    exact ih (C ++ [nx]) _ (by simp; omega) hp (fun n C' hc => hr (n + 1) C' ⟨nx, hNx.1, hNx.2.1, hNx.2.2, hc⟩)
theorem w_D_isChain {l : Launch} {ad : Nat → Nat} {D : va_G} {cA : Nat → ClassId} {WW : Nat → qP} {QR : Option qA → qS → Prop} (S : qSnd l rm_D_isChain ad D cA R_D b_D_isChain 6 WW) (Q : qRet (some .boolean) b_D_isChain WW QR)  (σ : qS)  (hσ : qoS σ) (h : P_D_isChain  σ) (hq : ∀ (r : Int) σ', Q_D_isChain  σ r σ' → QR (some (.inl r)) σ') : WW 0 [] [some (.inr (.inr 901)), none, none, none, none, none] σ := by
  refine s_D_isChain_0 S Q _ _ _ ?_
  simp only [k_D_isChain_0, k_D_isChain_7, k_D_isChain_13, k_D_isChain_27, k_D_isChain_31, k_D_isChain_32, k_D_isChain_35, k_D_isChain_41, k_D_isChain_50, k_D_isChain_59, k_D_isChain_64, k_D_isChain_79, k_D_isChain_84, k_D_isChain_98, k_D_isChain_100, k_D_isChain_106, k_D_isChain_112, k_D_isChain_119, k_D_isChain_123, k_D_isChain_132, k_D_isChain_135, k_D_isChain_143, k_D_isChain_150, k_D_isChain_160, k_D_isChain_175, k_D_isChain_178, k_D_isChain_184, k_D_isChain_189, k_D_isChain_191, k_D_isChain_197, k_D_isChain_201, k_D_isChain_205, k_D_isChain_209, k_D_isChain_210, k_D_isChain_211, oc_D_isInput, o_c, o_il, o_ll, o_al, o_is, o_as, o_ls, o_inc, o_bi, o_bid, o_bl, o_bld, o_sl, o_i2l, o_l2i, o_dup, o_dup2, o_pop, o_pop2, o_if, o_i2, o_l2, swg, o_sw, o_gI, o_gZ, o_gJ, o_gA, o_gR, o_pI, o_pZ, o_pJ, o_pR, o_ia, o_iak, o_zak, o_ja, o_jak, o_is_, o_isk, o_zsk, o_js_, o_jsk, o_len, o_ri, o_rz, o_rl, o_rv, ls1, ls2, lks, lkj, List.getD_cons_zero, List.getD_cons_succ, List.set_cons_zero, List.set_cons_succ, qcat, true_and, and_true, List.map_nil, List.map_cons, List.sum_nil, List.sum_cons, Nat.reduceAdd, Nat.reduceLeDiff, Nat.zero_le, Int.reduceAdd, Int.reduceNeg, Int.reduceEq, or_true, true_or, Decidable.not_not, false_implies, not_false_eq_true, true_implies, not_true_eq_false, Int.reduceLT, Int.reduceLE]
  refine v_D_isChain_7 S Q σ (fun σ1 hF hb => hq _ _ (Or.inl ⟨hb, rfl, hF⟩)) (fun σ1 hJ hnb => v_D_isChain_112 S Q σ hnb hq 8 [] σ1 (by simp) ⟨hJ.1, hJ.2.1, (fun i hi => by simp at hi), List.nodup_nil, (fun x hx => by cases hx), (fun k k0 k1 => by have := hJ.2.2 k k0 k1; simpa using this)⟩ (fun n C' hc => ⟨n, hc⟩)) 8 0 _ (by omega) ⟨(fun q hq' => su_k (by intro e; subst e; exact hq' (by decide))), su_s, (fun k k0 k1 => by omega)⟩ (fun y h0 h1 => by omega)
theorem c_D_isChain (l : Launch) (ad : Nat → Nat) (D : va_G) (cA : Nat → ClassId) : qC l ad D cA y_D_isChain (Cond.code y_D_isChain b_D_isChain 6 (some .boolean) :: lw_g) rm_D_isChain pre_D_isChain post_D_isChain := by
  refine qC_of (own := R_D) (by decide) rfl ⟨rfl, rfl⟩ ?_ ?_
  · intro av σ h; unfold pre_D_isChain at h; split at h
    · simp [qen]
    · exact h.elim
  · intro WW QR S Q av σ hav hσ h hq; unfold pre_D_isChain at h; split at h
    next o =>
      obtain ⟨rfl, h⟩ := h
      exact w_D_isChain S Q  σ  hσ h (fun r σ' h' => hq _ σ' h')
    next => exact h.elim

