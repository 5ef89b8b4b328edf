theorem shr1 (v : Int) (h0 : 0 ≤ v) (h1 : v ≤ 17) : z_shr v 1 = v / 2 ∧ z_and v 1 = v % 2 := by
  have : v = 0 ∨ v = 1 ∨ v = 2 ∨ v = 3 ∨ v = 4 ∨ v = 5 ∨ v = 6 ∨ v = 7 ∨ v = 8 ∨ v = 9 ∨ v = 10 ∨ v = 11 ∨ v = 12 ∨ v = 13 ∨ v = 14 ∨ v = 15 ∨ v = 16 ∨ v = 17 := by omega
  rcases this with e | e | e | e | e | e | e | e | e | e | e | e | e | e | e | e | e | e <;> subst e <;> decide
def mt (σ : qS) (w : Int) : Prop := 38 ≤ σ 62 w ∧ σ 51 5 = σ 62 w - 38 ∧ σ 51 2 = σ 64 w ∧ σ 51 3 = σ 75 w - σ 76 (w * 39 + σ 64 w)
def P_M_gets (w : Int) (σ : qS) : Prop := (0 ≤ w ∧ w < 6) ∧ (-1 ≤ σ 62 w ∧ σ 62 w < 44) ∧ (0 ≤ σ 64 w ∧ σ 64 w ≤ 38) ∧ (38 ≤ σ 62 w → 0 ≤ σ 76 (w * 39 + σ 64 w) ∧ σ 76 (w * 39 + σ 64 w) ≤ 1000 ∧ 0 ≤ σ 75 w ∧ σ 75 w ≤ 1000) ∧ (mt σ w → σ 64 w < 38 ∧ 0 ≤ σ 51 4 ∧ σ 51 4 ≤ 17 ∧ σ 75 w + σ 51 4 / 2 ≤ 1000)
def gt0 (σ : qS) (w k : Int) : qS := su (ra (ra σ 77 (w * 1000 + σ 75 w) (w * 1000 + σ 75 w + k) (fun i => σ 52 (i - (w * 1000 + σ 75 w)))) 78 (w * 1000 + σ 75 w) (w * 1000 + σ 75 w + k) (fun i => σ 53 (i - (w * 1000 + σ 75 w)))) 75 w (σ 75 w + k)
def gt1 (σ : qS) (w : Int) : qS := su (su (gt0 σ w (σ 51 4 / 2)) 65 w 0) 66 w 0
def gts (σ : qS) (w : Int) : qS := if σ 51 4 % 2 = 1 then gt1 σ w else su (su (gt1 σ w) 64 w (σ 64 w + 1)) 76 (w * 39 + (σ 64 w + 1)) (σ 75 w + σ 51 4 / 2)
def Q_M_gets (w : Int) (σ σ' : qS) : Prop := (¬ mt σ w ∧ σ' = σ) ∨ (mt σ w ∧ σ' = gts σ w)
def pre_M_gets (av : List qA) (σ : qS) : Prop := match av with
  | [.inr (.inr o), .inl a1] => o = 900 ∧ P_M_gets a1 σ
  | _ => False
def post_M_gets (av : List qA) (σ : qS) (r : Option qA) (σ' : qS) : Prop := match av, r with
  | [_, .inl a1], none => Q_M_gets a1 σ σ'
  | _, _ => False
def oc_M_gets (K : qP) : qP := fun st ls σ => match st with
  | .inl a1 :: .inr (.inr o) :: st => o = 900 ∧ (st.map qcat).sum ≤ 8 ∧ P_M_gets a1 σ ∧ ∀ (σ' : qS), Q_M_gets a1 σ σ' → K st ls σ'
  | _ => False
def rm_M_gets : Room := { frames := 0, cells := 0, slots := 0, locals := 0 }
def k_M_gets_189 (QR : Option qA → qS → Prop) (H : Nat → qP) : qP :=
  o_al 0 <| o_gA 900 64 <| o_il 1 <| o_dup2 <| o_iak 64 6 <| o_c (.inl 1) <| o_bi z_add <| o_isk 64 6 <| o_al 0 <| o_gA 900 76 <| o_il 1 <| o_c (.inl 39) <| o_bi z_mul <| o_al 0 <| o_gA 900 64 <| o_il 1 <| o_iak 64 6 <| o_bi z_add <| o_al 0 <| o_gA 900 75 <| o_il 1 <| o_iak 75 6 <| o_isk 76 234 <| o_rv QR
def k_M_gets_188 (QR : Option qA → qS → Prop) (H : Nat → qP) : qP :=
  o_rv QR
def k_M_gets_162 (QR : Option qA → qS → Prop) (H : Nat → qP) : qP :=
  o_al 0 <| o_gA 900 65 <| o_il 1 <| o_c (.inl 0) <| o_isk 65 6 <| o_al 0 <| o_gA 900 66 <| o_il 1 <| o_c (.inl 0) <| o_isk 66 6 <| o_al 0 <| o_gA 900 51 <| o_c (.inl 4) <| o_iak 51 6 <| o_c (.inl 1) <| o_bi z_and <| o_c (.inl 1) <| o_i2 (fun a b => ¬ a = b) (k_M_gets_189 QR H) (k_M_gets_188 QR H)
def k_M_gets_98 (QR : Option qA → qS → Prop) (H : Nat → qP) : qP :=
  o_al 0 <| o_gA 900 77 <| o_il 1 <| o_c (.inl 1000) <| o_bi z_mul <| o_al 0 <| o_gA 900 75 <| o_il 1 <| o_iak 75 6 <| o_bi z_add <| o_al 0 <| o_gA 900 52 <| o_il 4 <| o_jak 52 8 <| o_jsk 77 6000 <| o_al 0 <| o_gA 900 78 <| o_il 1 <| o_c (.inl 1000) <| o_bi z_mul <| o_al 0 <| o_gA 900 75 <| o_il 1 <| o_iak 75 6 <| o_bi z_add <| o_al 0 <| o_gA 900 53 <| o_il 4 <| o_jak 53 8 <| o_jsk 78 6000 <| o_al 0 <| o_gA 900 75 <| o_il 1 <| o_dup2 <| o_iak 75 6 <| o_c (.inl 1) <| o_bi z_add <| o_isk 75 6 <| o_inc 4 1 <| H 92
def k_M_gets_92 (QR : Option qA → qS → Prop) (H : Nat → qP) : qP :=
  o_il 4 <| o_il 3 <| o_i2 (fun a b => b ≤ a) (k_M_gets_162 QR H) (k_M_gets_98 QR H)
def k_M_gets_80 (QR : Option qA → qS → Prop) (H : Nat → qP) : qP :=
  o_al 0 <| o_gA 900 51 <| o_c (.inl 4) <| o_iak 51 6 <| o_c (.inl 1) <| o_bi z_shr <| o_is 3 <| o_c (.inl 0) <| o_is 4 <| H 92
def k_M_gets_79 (QR : Option qA → qS → Prop) (H : Nat → qP) : qP :=
  o_rv QR
def k_M_gets_45 (QR : Option qA → qS → Prop) (H : Nat → qP) : qP :=
  o_al 0 <| o_gA 900 76 <| o_il 1 <| o_c (.inl 39) <| o_bi z_mul <| o_al 0 <| o_gA 900 64 <| o_il 1 <| o_iak 64 6 <| o_bi z_add <| o_iak 76 234 <| o_is 2 <| o_al 0 <| o_gA 900 51 <| o_c (.inl 3) <| o_iak 51 6 <| o_al 0 <| o_gA 900 75 <| o_il 1 <| o_iak 75 6 <| o_il 2 <| o_bi z_sub <| o_i2 (fun a b => a = b) (k_M_gets_80 QR H) (k_M_gets_79 QR H)
def k_M_gets_44 (QR : Option qA → qS → Prop) (H : Nat → qP) : qP :=
  o_rv QR
def k_M_gets_29 (QR : Option qA → qS → Prop) (H : Nat → qP) : qP :=
  o_al 0 <| o_gA 900 51 <| o_c (.inl 2) <| o_iak 51 6 <| o_al 0 <| o_gA 900 64 <| o_il 1 <| o_iak 64 6 <| o_i2 (fun a b => a = b) (k_M_gets_45 QR H) (k_M_gets_44 QR H)
def k_M_gets_11 (QR : Option qA → qS → Prop) (H : Nat → qP) : qP :=
  o_al 0 <| o_gA 900 51 <| o_c (.inl 5) <| o_iak 51 6 <| o_al 0 <| o_gA 900 62 <| o_il 1 <| o_iak 62 6 <| o_c (.inl 38) <| o_bi z_sub <| o_i2 (fun a b => ¬ a = b) (k_M_gets_44 QR H) (k_M_gets_29 QR H)
def k_M_gets_0 (QR : Option qA → qS → Prop) (H : Nat → qP) : qP :=
  o_al 0 <| o_gA 900 62 <| o_il 1 <| o_iak 62 6 <| o_c (.inl 38) <| o_i2 (fun a b => a < b) (k_M_gets_44 QR H) (k_M_gets_11 QR H)
set_option maxRecDepth 8000 in
theorem s_M_gets_189 {l : Launch} {ad : Nat → Nat} {D : va_G} {cA : Nat → ClassId} {WW : Nat → qP} {QR : Option qA → qS → Prop} (S : qSnd l rm_M_gets ad D cA R_M b_M_gets 5 WW) (Q : qRet (none) b_M_gets WW QR) : qle (k_M_gets_189 QR WW) WW 189 :=
  S.aload_n d_M_gets_189 rfl <| S.gA fl_M_144 (by decide) d_M_gets_190 <| S.iload_n d_M_gets_193 rfl <| S.dup2 d_M_gets_194 <| S.iak (by decide) d_M_gets_195 <| S.iconst d_M_gets_196 (by decide) <| S.iadd d_M_gets_197 <| S.isk (by decide) d_M_gets_198 <| S.aload_n d_M_gets_199 rfl <| S.gA fl_M_180 (by decide) d_M_gets_200 <| S.iload_n d_M_gets_203 rfl <| S.bipush d_M_gets_204 (by decide) <| S.imul d_M_gets_206 <| S.aload_n d_M_gets_207 rfl <| S.gA fl_M_144 (by decide) d_M_gets_208 <| S.iload_n d_M_gets_211 rfl <| S.iak (by decide) d_M_gets_212 <| S.iadd d_M_gets_213 <| S.aload_n d_M_gets_214 rfl <| S.gA fl_M_177 (by decide) d_M_gets_215 <| S.iload_n d_M_gets_218 rfl <| S.iak (by decide) d_M_gets_219 <| S.isk (by decide) d_M_gets_220 <| Q.2.2.2 rfl _ d_M_gets_221
set_option maxRecDepth 8000 in
theorem s_M_gets_188 {l : Launch} {ad : Nat → Nat} {D : va_G} {cA : Nat → ClassId} {WW : Nat → qP} {QR : Option qA → qS → Prop} (S : qSnd l rm_M_gets ad D cA R_M b_M_gets 5 WW) (Q : qRet (none) b_M_gets WW QR) : qle (k_M_gets_188 QR WW) WW 188 :=
  Q.2.2.2 rfl _ d_M_gets_188
set_option maxRecDepth 8000 in
theorem s_M_gets_162 {l : Launch} {ad : Nat → Nat} {D : va_G} {cA : Nat → ClassId} {WW : Nat → qP} {QR : Option qA → qS → Prop} (S : qSnd l rm_M_gets ad D cA R_M b_M_gets 5 WW) (Q : qRet (none) b_M_gets WW QR) : qle (k_M_gets_162 QR WW) WW 162 :=
  S.aload_n d_M_gets_162 rfl <| S.gA fl_M_147 (by decide) d_M_gets_163 <| S.iload_n d_M_gets_166 rfl <| S.iconst d_M_gets_167 (by decide) <| S.isk (by decide) d_M_gets_168 <| S.aload_n d_M_gets_169 rfl <| S.gA fl_M_150 (by decide) d_M_gets_170 <| S.iload_n d_M_gets_173 rfl <| S.iconst d_M_gets_174 (by decide) <| S.isk (by decide) d_M_gets_175 <| S.aload_n d_M_gets_176 rfl <| S.gA fl_M_105 (by decide) d_M_gets_177 <| S.iconst d_M_gets_180 (by decide) <| S.iak (by decide) d_M_gets_181 <| S.iconst d_M_gets_182 (by decide) <| S.iand d_M_gets_183 <| S.iconst d_M_gets_184 (by decide) <| S.icmp_ne d_M_gets_185 (by decide) (s_M_gets_189 S Q) (s_M_gets_188 S Q)
set_option maxRecDepth 8000 in
theorem s_M_gets_98 {l : Launch} {ad : Nat → Nat} {D : va_G} {cA : Nat → ClassId} {WW : Nat → qP} {QR : Option qA → qS → Prop} (S : qSnd l rm_M_gets ad D cA R_M b_M_gets 5 WW) (Q : qRet (none) b_M_gets WW QR) : qle (k_M_gets_98 QR WW) WW 98 :=
  S.aload_n d_M_gets_98 rfl <| S.gA fl_M_183 (by decide) d_M_gets_99 <| S.iload_n d_M_gets_102 rfl <| S.sipush d_M_gets_103 (by decide) <| S.imul d_M_gets_106 <| S.aload_n d_M_gets_107 rfl <| S.gA fl_M_177 (by decide) d_M_gets_108 <| S.iload_n d_M_gets_111 rfl <| S.iak (by decide) d_M_gets_112 <| S.iadd d_M_gets_113 <| S.aload_n d_M_gets_114 rfl <| S.gA fl_M_108 (by decide) d_M_gets_115 <| S.iload d_M_gets_118 <| S.jak (by decide) d_M_gets_120 <| S.jsk (by decide) d_M_gets_121 <| S.aload_n d_M_gets_122 rfl <| S.gA fl_M_186 (by decide) d_M_gets_123 <| S.iload_n d_M_gets_126 rfl <| S.sipush d_M_gets_127 (by decide) <| S.imul d_M_gets_130 <| S.aload_n d_M_gets_131 rfl <| S.gA fl_M_177 (by decide) d_M_gets_132 <| S.iload_n d_M_gets_135 rfl <| S.iak (by decide) d_M_gets_136 <| S.iadd d_M_gets_137 <| S.aload_n d_M_gets_138 rfl <| S.gA fl_M_111 (by decide) d_M_gets_139 <| S.iload d_M_gets_142 <| S.jak (by decide) d_M_gets_144 <| S.jsk (by decide) d_M_gets_145 <| S.aload_n d_M_gets_146 rfl <| S.gA fl_M_177 (by decide) d_M_gets_147 <| S.iload_n d_M_gets_150 rfl <| S.dup2 d_M_gets_151 <| S.iak (by decide) d_M_gets_152 <| S.iconst d_M_gets_153 (by decide) <| S.iadd d_M_gets_154 <| S.isk (by decide) d_M_gets_155 <| S.iinc d_M_gets_156 (by decide) <| S.goto d_M_gets_159 (by decide) (fun _ _ _ h => h)
set_option maxRecDepth 8000 in
theorem s_M_gets_92 {l : Launch} {ad : Nat → Nat} {D : va_G} {cA : Nat → ClassId} {WW : Nat → qP} {QR : Option qA → qS → Prop} (S : qSnd l rm_M_gets ad D cA R_M b_M_gets 5 WW) (Q : qRet (none) b_M_gets WW QR) : qle (k_M_gets_92 QR WW) WW 92 :=
  S.iload d_M_gets_92 <| S.iload_n d_M_gets_94 rfl <| S.icmp_ge d_M_gets_95 (by decide) (s_M_gets_162 S Q) (s_M_gets_98 S Q)
set_option maxRecDepth 8000 in
theorem s_M_gets_80 {l : Launch} {ad : Nat → Nat} {D : va_G} {cA : Nat → ClassId} {WW : Nat → qP} {QR : Option qA → qS → Prop} (S : qSnd l rm_M_gets ad D cA R_M b_M_gets 5 WW) (Q : qRet (none) b_M_gets WW QR) : qle (k_M_gets_80 QR WW) WW 80 :=
  S.aload_n d_M_gets_80 rfl <| S.gA fl_M_105 (by decide) d_M_gets_81 <| S.iconst d_M_gets_84 (by decide) <| S.iak (by decide) d_M_gets_85 <| S.iconst d_M_gets_86 (by decide) <| S.ishr d_M_gets_87 <| S.istore_n d_M_gets_88 rfl (by decide) <| S.iconst d_M_gets_89 (by decide) <| S.istore d_M_gets_90 (by decide) <| (fun _ _ _ h => h)
set_option maxRecDepth 8000 in
theorem s_M_gets_79 {l : Launch} {ad : Nat → Nat} {D : va_G} {cA : Nat → ClassId} {WW : Nat → qP} {QR : Option qA → qS → Prop} (S : qSnd l rm_M_gets ad D cA R_M b_M_gets 5 WW) (Q : qRet (none) b_M_gets WW QR) : qle (k_M_gets_79 QR WW) WW 79 :=
  Q.2.2.2 rfl _ d_M_gets_79
set_option maxRecDepth 8000 in
theorem s_M_gets_45 {l : Launch} {ad : Nat → Nat} {D : va_G} {cA : Nat → ClassId} {WW : Nat → qP} {QR : Option qA → qS → Prop} (S : qSnd l rm_M_gets ad D cA R_M b_M_gets 5 WW) (Q : qRet (none) b_M_gets WW QR) : qle (k_M_gets_45 QR WW) WW 45 :=
  S.aload_n d_M_gets_45 rfl <| S.gA fl_M_180 (by decide) d_M_gets_46 <| S.iload_n d_M_gets_49 rfl <| S.bipush d_M_gets_50 (by decide) <| S.imul d_M_gets_52 <| S.aload_n d_M_gets_53 rfl <| S.gA fl_M_144 (by decide) d_M_gets_54 <| S.iload_n d_M_gets_57 rfl <| S.iak (by decide) d_M_gets_58 <| S.iadd d_M_gets_59 <| S.iak (by decide) d_M_gets_60 <| S.istore_n d_M_gets_61 rfl (by decide) <| S.aload_n d_M_gets_62 rfl <| S.gA fl_M_105 (by decide) d_M_gets_63 <| S.iconst d_M_gets_66 (by decide) <| S.iak (by decide) d_M_gets_67 <| S.aload_n d_M_gets_68 rfl <| S.gA fl_M_177 (by decide) d_M_gets_69 <| S.iload_n d_M_gets_72 rfl <| S.iak (by decide) d_M_gets_73 <| S.iload_n d_M_gets_74 rfl <| S.isub d_M_gets_75 <| S.icmp_eq d_M_gets_76 (by decide) (s_M_gets_80 S Q) (s_M_gets_79 S Q)
set_option maxRecDepth 8000 in
theorem s_M_gets_44 {l : Launch} {ad : Nat → Nat} {D : va_G} {cA : Nat → ClassId} {WW : Nat → qP} {QR : Option qA → qS → Prop} (S : qSnd l rm_M_gets ad D cA R_M b_M_gets 5 WW) (Q : qRet (none) b_M_gets WW QR) : qle (k_M_gets_44 QR WW) WW 44 :=
  Q.2.2.2 rfl _ d_M_gets_44
set_option maxRecDepth 8000 in
theorem s_M_gets_29 {l : Launch} {ad : Nat → Nat} {D : va_G} {cA : Nat → ClassId} {WW : Nat → qP} {QR : Option qA → qS → Prop} (S : qSnd l rm_M_gets ad D cA R_M b_M_gets 5 WW) (Q : qRet (none) b_M_gets WW QR) : qle (k_M_gets_29 QR WW) WW 29 :=
  S.aload_n d_M_gets_29 rfl <| S.gA fl_M_105 (by decide) d_M_gets_30 <| S.iconst d_M_gets_33 (by decide) <| S.iak (by decide) d_M_gets_34 <| S.aload_n d_M_gets_35 rfl <| S.gA fl_M_144 (by decide) d_M_gets_36 <| S.iload_n d_M_gets_39 rfl <| S.iak (by decide) d_M_gets_40 <| S.icmp_eq d_M_gets_41 (by decide) (s_M_gets_45 S Q) (s_M_gets_44 S Q)
set_option maxRecDepth 8000 in
theorem s_M_gets_11 {l : Launch} {ad : Nat → Nat} {D : va_G} {cA : Nat → ClassId} {WW : Nat → qP} {QR : Option qA → qS → Prop} (S : qSnd l rm_M_gets ad D cA R_M b_M_gets 5 WW) (Q : qRet (none) b_M_gets WW QR) : qle (k_M_gets_11 QR WW) WW 11 :=
  S.aload_n d_M_gets_11 rfl <| S.gA fl_M_105 (by decide) d_M_gets_12 <| S.iconst d_M_gets_15 (by decide) <| S.iak (by decide) d_M_gets_16 <| S.aload_n d_M_gets_17 rfl <| S.gA fl_M_138 (by decide) d_M_gets_18 <| S.iload_n d_M_gets_21 rfl <| S.iak (by decide) d_M_gets_22 <| S.bipush d_M_gets_23 (by decide) <| S.isub d_M_gets_25 <| S.icmp_ne d_M_gets_26 (by decide) (s_M_gets_44 S Q) (s_M_gets_29 S Q)
set_option maxRecDepth 8000 in
theorem s_M_gets_0 {l : Launch} {ad : Nat → Nat} {D : va_G} {cA : Nat → ClassId} {WW : Nat → qP} {QR : Option qA → qS → Prop} (S : qSnd l rm_M_gets ad D cA R_M b_M_gets 5 WW) (Q : qRet (none) b_M_gets WW QR) : qle (k_M_gets_0 QR WW) WW 0 :=
  S.aload_n d_M_gets_0 rfl <| S.gA fl_M_138 (by decide) d_M_gets_1 <| S.iload_n d_M_gets_4 rfl <| S.iak (by decide) d_M_gets_5 <| S.bipush d_M_gets_6 (by decide) <| S.icmp_lt d_M_gets_8 (by decide) (s_M_gets_44 S Q) (s_M_gets_11 S Q)
theorem gt0_F {σ : qS} {w k : Int} {q : Nat} (h : q ∉ [77, 78, 75]) : gt0 σ w k q = σ q := by
  unfold gt0; rw [su_k (by intro e; subst e; exact h (by decide)), ra_k (by intro e; subst e; exact h (by decide)), ra_k (by intro e; subst e; exact h (by decide))]
theorem v_M_gets_92 {l : Launch} {ad : Nat → Nat} {D : va_G} {cA : Nat → ClassId} {WW : Nat → qP} {QR : Option qA → qS → Prop} (S : qSnd l rm_M_gets ad D cA R_M b_M_gets 5 WW) (Q : qRet (none) b_M_gets WW QR) (σ : qS) (w st n : Int) (hw : 0 ≤ w ∧ w < 6) (hs : 0 ≤ σ 64 w ∧ σ 64 w < 38) (hf : 0 ≤ σ 75 w) (hl : 0 ≤ σ 51 4 ∧ σ 51 4 ≤ 17 ∧ σ 75 w + σ 51 4 / 2 ≤ 1000) (hn : n = σ 51 4 / 2) (hq : QR none (gts σ w)) :
    ∀ (m k : Nat), ((k + m : Nat) : Int) = n → WW 92 [] [some (.inr (.inr 900)), some (.inl w), some (.inl st), some (.inl n), some (.inl (k : Int))] (gt0 σ w k) := by
  intro m
  induction m with
  | zero =>
    intro k hk
    refine s_M_gets_92 S Q _ _ _ ?_
    simp only [k_M_gets_0, k_M_gets_11, k_M_gets_29, k_M_gets_44, k_M_gets_45, k_M_gets_79, k_M_gets_80, k_M_gets_92, k_M_gets_98, k_M_gets_162, k_M_gets_188, k_M_gets_189, o_c, o_il, o_ll, o_al, o_is, o_as, o_ls, o_inc, o_bi, o_bid, o_bl, o_bld, o_sl, o_i2l, o_l2i, o_dup, o_dup2, o_pop, o_pop2, o_if, o_i2, o_l2, swg, o_sw, o_gI, o_gZ, o_gJ, o_gA, o_gR, o_pI, o_pZ, o_pJ, o_pR, o_ia, o_iak, o_zak, o_ja, o_jak, o_is_, o_isk, o_zsk, o_js_, o_jsk, o_len, o_ri, o_rz, o_rl, o_rv, ls1, ls2, lks, lkj, List.getD_cons_zero, List.getD_cons_succ, List.set_cons_zero, List.set_cons_succ, qcat, true_and, and_true, List.map_nil, List.map_cons, List.sum_nil, List.sum_cons, Nat.reduceAdd, Nat.reduceLeDiff, Nat.zero_le, Int.reduceAdd, Int.reduceNeg, Int.reduceEq, or_true, true_or, Decidable.not_not, false_implies, not_false_eq_true, true_implies, not_true_eq_false, Int.reduceLT, Int.reduceLE]
    have e0 : (k : Int) = σ 51 4 / 2 := by omega
    rw [e0]
    simp (disch := omega) only [su_k]
    rw [gt0_F (q := 51) (by decide), (shr1 _ hl.1 hl.2.1).2, gt0_F (q := 64) (by decide)]
    have e1 : z_add (σ 64 w) 1 = σ 64 w + 1 := by unfold z_add; exact w32_i _ (by omega) (by omega)
    have e2 : z_add (z_mul w 39) (σ 64 w + 1) = w * 39 + (σ 64 w + 1) := by unfold z_add z_mul; rw [w32_i (w * 39) (by omega) (by omega), w32_i _ (by omega) (by omega)]
    have e3 : gt0 σ w (σ 51 4 / 2) 75 w = σ 75 w + σ 51 4 / 2 := by unfold gt0; rw [su_s]
    rw [e1]
    simp only [su_s]
    rw [e2, e3]
    unfold gts gt1 at hq
    refine ⟨fun _ => ⟨hw, hw, fun h1 => ⟨hw, hw, hw, hw, by omega, ?_⟩, fun h1 => ?_⟩, fun h => by omega⟩
    · rw [if_neg h1] at hq; exact hq
    · rw [if_pos h1] at hq; exact hq
  | succ m ih =>
    intro k hk
    refine s_M_gets_92 S Q _ _ _ ?_
    simp only [k_M_gets_0, k_M_gets_11, k_M_gets_29, k_M_gets_44, k_M_gets_45, k_M_gets_79, k_M_gets_80, k_M_gets_92, k_M_gets_98, k_M_gets_162, k_M_gets_188, k_M_gets_189, o_c, o_il, o_ll, o_al, o_is, o_as, o_ls, o_inc, o_bi, o_bid, o_bl, o_bld, o_sl, o_i2l, o_l2i, o_dup, o_dup2, o_pop, o_pop2, o_if, o_i2, o_l2, swg, o_sw, o_gI, o_gZ, o_gJ, o_gA, o_gR, o_pI, o_pZ, o_pJ, o_pR, o_ia, o_iak, o_zak, o_ja, o_jak, o_is_, o_isk, o_zsk, o_js_, o_jsk, o_len, o_ri, o_rz, o_rl, o_rv, ls1, ls2, lks, lkj, List.getD_cons_zero, List.getD_cons_succ, List.set_cons_zero, List.set_cons_succ, qcat, true_and, and_true, List.map_nil, List.map_cons, List.sum_nil, List.sum_cons, Nat.reduceAdd, Nat.reduceLeDiff, Nat.zero_le, Int.reduceAdd, Int.reduceNeg, Int.reduceEq, or_true, true_or, Decidable.not_not, false_implies, not_false_eq_true, true_implies, not_true_eq_false, Int.reduceLT, Int.reduceLE]
    have e2 : gt0 σ w k 75 w = σ 75 w + k := by unfold gt0; rw [su_s]
    simp (disch := omega) only [su_k]
    rw [e2, gt0_F (q := 52) (by decide), gt0_F (q := 53) (by decide)]
    have e3 : z_add (z_mul w 1000) (σ 75 w + k) = w * 1000 + σ 75 w + k := by unfold z_add z_mul; rw [w32_i (w * 1000) (by omega) (by omega), w32_i _ (by omega) (by omega)]; omega
    have e6 : z_add (σ 75 w + k) 1 = σ 75 w + ((k + 1 : Nat) : Int) := by unfold z_add; rw [w32_i _ (by omega) (by omega)]; omega
    rw [e3, e6, w32_i _ (by omega) (by omega)]
    refine ⟨fun h => by omega, fun _ => ⟨hw, by omega, by omega, hw, by omega, by omega, hw, hw, ?_⟩⟩
    have e7 : su (su (su (gt0 σ w k) 77 (w * 1000 + σ 75 w + k) (σ 52 k)) 78 (w * 1000 + σ 75 w + k) (σ 53 k)) 75 w (σ 75 w + ((k + 1 : Nat) : Int)) = gt0 σ w ((k + 1 : Nat) : Int) := by
      unfold gt0
      rw [su_cm (k := 75) (k' := 77) (by decide), su_cm (k := 75) (k' := 78) (by decide), su_ow, su_ra (by decide), ra_s (by omega) (by congr 1; omega), ra_s (by omega) (by congr 1; omega)]
      rw [show w * 1000 + σ 75 w + (k : Int) + 1 = w * 1000 + σ 75 w + ((k + 1 : Nat) : Int) by omega]
    rw [e7]
    exact ih (k + 1) (by omega)
theorem w_M_gets {l : Launch} {ad : Nat → Nat} {D : va_G} {cA : Nat → ClassId} {WW : Nat → qP} {QR : Option qA → qS → Prop} (S : qSnd l rm_M_gets ad D cA R_M b_M_gets 5 WW) (Q : qRet (none) b_M_gets WW QR) (a1 : Int) (σ : qS) (ha1 : r32 a1) (hσ : qoS σ) (h : P_M_gets a1 σ) (hq : ∀ σ', Q_M_gets a1 σ σ' → QR none σ') : WW 0 [] [some (.inr (.inr 900)), some (.inl a1), none, none, none] σ := by
  refine s_M_gets_0 S Q _ _ _ ?_
  simp only [k_M_gets_0, k_M_gets_11, k_M_gets_29, k_M_gets_44, k_M_gets_45, k_M_gets_79, k_M_gets_80, k_M_gets_92, k_M_gets_98, k_M_gets_162, k_M_gets_188, k_M_gets_189, o_c, o_il, o_ll, o_al, o_is, o_as, o_ls, o_inc, o_bi, o_bid, o_bl, o_bld, o_sl, o_i2l, o_l2i, o_dup, o_dup2, o_pop, o_pop2, o_if, o_i2, o_l2, swg, o_sw, o_gI, o_gZ, o_gJ, o_gA, o_gR, o_pI, o_pZ, o_pJ, o_pR, o_ia, o_iak, o_zak, o_ja, o_jak, o_is_, o_isk, o_zsk, o_js_, o_jsk, o_len, o_ri, o_rz, o_rl, o_rv, ls1, ls2, lks, lkj, List.getD_cons_zero, List.getD_cons_succ, List.set_cons_zero, List.set_cons_succ, qcat, true_and, and_true, List.map_nil, List.map_cons, List.sum_nil, List.sum_cons, Nat.reduceAdd, Nat.reduceLeDiff, Nat.zero_le, Int.reduceAdd, Int.reduceNeg, Int.reduceEq, or_true, true_or, Decidable.not_not, false_implies, not_false_eq_true, true_implies, not_true_eq_false, Int.reduceLT, Int.reduceLE]
  have hp := h
  obtain ⟨hw, ht, hs, hf, hm⟩ := h
  have e1 : z_sub (σ 62 a1) 38 = σ 62 a1 - 38 := by unfold z_sub; exact w32_i _ (by omega) (by omega)
  have e2 : z_add (z_mul a1 39) (σ 64 a1) = a1 * 39 + σ 64 a1 := by unfold z_add z_mul; rw [w32_i (a1 * 39) (by omega) (by omega), w32_i _ (by omega) (by omega)]
  rw [e1, e2]
  have no : ¬ mt σ a1 → QR none σ := fun h => hq _ (Or.inl ⟨h, rfl⟩)
  refine ⟨hw, fun hlt => no (fun h => by have := h.1; omega), fun hge => ⟨hw, fun h5 => no (fun h => h5 h.2.1), fun h5 => ⟨hw, fun h2 => ⟨hw, by omega, hw, ?_⟩, fun h2 => no (fun h => h2 h.2.2.1)⟩⟩⟩
  obtain ⟨f1, f2, f3, f4⟩ := hf (by omega)
  have e3 : z_sub (σ 75 a1) (σ 76 (a1 * 39 + σ 64 a1)) = σ 75 a1 - σ 76 (a1 * 39 + σ 64 a1) := by unfold z_sub; exact w32_i _ (by omega) (by omega)
  rw [e3]
  refine ⟨fun h3 => ?_, fun h3 => no (fun h => h3 h.2.2.2)⟩
  have hmt : mt σ a1 := ⟨by omega, h5, h2, h3⟩
  obtain ⟨g1, g2, g3, g4⟩ := hm hmt
  rw [(shr1 _ g2 g3).1]
  have := v_M_gets_92 S Q σ a1 (σ 76 (a1 * 39 + σ 64 a1)) (σ 51 4 / 2) hw ⟨hs.1, g1⟩ f3 ⟨g2, g3, g4⟩ rfl (hq _ (Or.inr ⟨hmt, rfl⟩)) (σ 51 4 / 2).toNat 0 (by omega)
  have e0 : gt0 σ a1 ((0 : Nat) : Int) = σ := by
    unfold gt0; rw [ra_0 (by simp), ra_0 (by simp), su_id (by simp)]
  rw [e0] at this
  exact this
theorem c_M_gets (l : Launch) (ad : Nat → Nat) (D : va_G) (cA : Nat → ClassId) : qC l ad D cA y_M_gets (Cond.code y_M_gets b_M_gets 5 (none) :: lw_g) rm_M_gets pre_M_gets post_M_gets := by
  refine qC_of (own := R_M) (by decide) rfl ⟨rfl, rfl⟩ ?_ ?_
  · intro av σ h; unfold pre_M_gets at h; split at h
    · simp [qen]
    · exact h.elim
  · intro WW QR S Q av σ hav hσ h hq; unfold pre_M_gets at h; split at h
    next o a1 =>
      obtain ⟨rfl, h⟩ := h
      exact w_M_gets S Q a1 σ (hav _ (List.mem_of_getElem? (i := 1) rfl)) hσ h (fun σ' h' => hq _ σ' h')
    next => exact h.elim

