def dwok (σ : qS) (w : Int) : Prop := (0 ≤ w ∧ w ≤ 2) ∧ (0 < σ 115 0 ∨ w = 1)
def dj1 (σ : qS) (k : Int) : Prop := σ 105 k = 15 ∨ σ 105 k = 16 → σ 107 k ≤ σ 115 0
def djok (σ : qS) : Prop := ∀ k, 0 ≤ k → k < σ 115 0 → dj1 σ k
def dgm (σ : qS) (p k : Int) : qS := ra (ra σ 103 (40 * p) (40 * p + k) (fun i => σ 105 (i - 40 * p))) 106 (40 * p) (40 * p + k) (fun i => σ 107 (i - 40 * p))
def P_D_program (_j _w : Int) (σ : qS) : Prop := 0 ≤ σ 115 0 ∧ σ 115 0 ≤ 40
def Q_D_program (j w : Int) (σ : qS) (r : Int) (σ' : qS) : Prop := (¬ (0 ≤ j ∧ j ≤ 7) ∧ r = 0 ∧ σ' = su σ 118 0 1) ∨ ((0 ≤ j ∧ j ≤ 7) ∧ ¬ (dwok σ w ∧ djok σ) ∧ r = 0 ∧ σ' = su σ 118 0 2) ∨ ((0 ≤ j ∧ j ≤ 7) ∧ (dwok σ w ∧ djok σ) ∧ σ 119 0 ≠ 0 ∧ r = 0 ∧ σ' = su σ 118 0 3) ∨ ((0 ≤ j ∧ j ≤ 7) ∧ (dwok σ w ∧ djok σ) ∧ σ 119 0 = 0 ∧ r = σ 115 0 ∧ σ' = su (su (dgm (su σ 118 0 0) (3 * j + w) (σ 115 0)) 104 (3 * j + w) (σ 115 0)) 115 0 0)
def pre_D_program (av : List qA) (σ : qS) : Prop := match av with
  | [.inr (.inr o), .inl a1, .inl a2] => o = 901 ∧ P_D_program a1 a2 σ
  | _ => False
def post_D_program (av : List qA) (σ : qS) (r : Option qA) (σ' : qS) : Prop := match av, r with
  | [_, .inl a1, .inl a2], some (.inl r) => Q_D_program a1 a2 σ r σ'
  | _, _ => False
def oc_D_program (K : qP) : qP := fun st ls σ => match st with
  | .inl a2 :: .inl a1 :: .inr (.inr o) :: st => o = 901 ∧ (st.map qcat).sum ≤ 8 ∧ P_D_program a1 a2 σ ∧ ∀ (r : Int) (σ' : qS), Q_D_program a1 a2 σ r σ' → K (.inl r :: st) ls σ'
  | _ => False
def rm_D_program : Room := { frames := 1, cells := 0, slots := 0, locals := 22 }
theorem fl_D_20 : qF R_D 901 1 32 100 R_D F_D 20 3 := ⟨Or.inr ⟨rfl, rfl, rfl, rfl, rfl, rfl⟩, by decide, lw_at 792 (by decide +kernel) rfl⟩
theorem fl_D_29 : qF R_D 901 1 32 100 R_D F_D 29 6 := ⟨Or.inr ⟨rfl, rfl, rfl, rfl, rfl, rfl⟩, by decide, lw_at 795 (by decide +kernel) rfl⟩
def k_D_program_203 (QR : Option qA → qS → Prop) (H : Nat → qP) : qP :=
  o_al 0 <| o_gA 901 104 <| o_il 4 <| o_il 5 <| o_isk 104 24 <| o_al 0 <| o_c (.inl 0) <| o_pI 901 115 <| o_il 5 <| o_ri QR
def k_D_program_157 (QR : Option qA → qS → Prop) (H : Nat → qP) : qP :=
  o_al 0 <| o_gA 901 103 <| o_c (.inl 40) <| o_il 4 <| o_bi z_mul <| o_il 6 <| o_bi z_add <| o_al 0 <| o_gA 901 105 <| o_il 6 <| o_iak 105 40 <| o_isk 103 960 <| o_al 0 <| o_gA 901 106 <| o_c (.inl 40) <| o_il 4 <| o_bi z_mul <| o_il 6 <| o_bi z_add <| o_al 0 <| o_gA 901 107 <| o_il 6 <| o_jak 107 40 <| o_jsk 106 960 <| o_inc 6 1 <| H 150
def k_D_program_150 (QR : Option qA → qS → Prop) (H : Nat → qP) : qP :=
  o_il 6 <| o_il 5 <| o_i2 (fun a b => b ≤ a) (k_D_program_203 QR H) (k_D_program_157 QR H)
def k_D_program_134 (QR : Option qA → qS → Prop) (H : Nat → qP) : qP :=
  o_c (.inl 3) <| o_il 1 <| o_bi z_mul <| o_il 2 <| o_bi z_add <| o_is 4 <| o_al 0 <| o_gI 901 115 <| o_is 5 <| o_c (.inl 0) <| o_is 6 <| H 150
def k_D_program_132 (QR : Option qA → qS → Prop) (H : Nat → qP) : qP :=
  o_c (.inl 0) <| o_ri QR
def k_D_program_122 (QR : Option qA → qS → Prop) (H : Nat → qP) : qP :=
  o_pI 901 118 <| o_al 0 <| o_gI 901 118 <| o_if (fun a => a ≤ 0) (H 134) (k_D_program_132 QR H)
def k_D_program_121 (QR : Option qA → qS → Prop) (H : Nat → qP) : qP :=
  o_c (.inl 0) <| k_D_program_122 QR H
def k_D_program_117 (QR : Option qA → qS → Prop) (H : Nat → qP) : qP :=
  o_c (.inl 3) <| k_D_program_122 QR H
def k_D_program_110 (QR : Option qA → qS → Prop) (H : Nat → qP) : qP :=
  o_al 0 <| o_gZ 901 119 <| o_if (fun a => a = 0) (k_D_program_121 QR H) (k_D_program_117 QR H)
def k_D_program_106 (QR : Option qA → qS → Prop) (H : Nat → qP) : qP :=
  o_c (.inl 2) <| k_D_program_122 QR H
def k_D_program_102 (QR : Option qA → qS → Prop) (H : Nat → qP) : qP :=
  o_il 3 <| o_if (fun a => ¬ a = 0) (k_D_program_110 QR H) (k_D_program_106 QR H)
def k_D_program_98 (QR : Option qA → qS → Prop) (H : Nat → qP) : qP :=
  o_c (.inl 1) <| k_D_program_122 QR H
def k_D_program_87 (QR : Option qA → qS → Prop) (H : Nat → qP) : qP :=
  o_al 0 <| o_il 1 <| o_c (.inl 0) <| o_c (.inl 7) <| oc_D_in <| o_if (fun a => ¬ a = 0) (k_D_program_102 QR H) (k_D_program_98 QR H)
def k_D_program_81 (QR : Option qA → qS → Prop) (H : Nat → qP) : qP :=
  o_inc 4 1 <| H 30
def k_D_program_79 (QR : Option qA → qS → Prop) (H : Nat → qP) : qP :=
  o_c (.inl 0) <| o_is 3 <| H 81
def k_D_program_63 (QR : Option qA → qS → Prop) (H : Nat → qP) : qP :=
  o_al 0 <| o_gA 901 107 <| o_il 4 <| o_jak 107 40 <| o_al 0 <| o_gI 901 115 <| o_i2l <| o_l2 (fun a b => a ≤ b) (H 81) (k_D_program_79 QR H)
def k_D_program_51 (QR : Option qA → qS → Prop) (H : Nat → qP) : qP :=
  o_al 0 <| o_gA 901 105 <| o_il 4 <| o_iak 105 40 <| o_c (.inl 16) <| o_i2 (fun a b => ¬ a = b) (H 81) (k_D_program_63 QR H)
def k_D_program_39 (QR : Option qA → qS → Prop) (H : Nat → qP) : qP :=
  o_al 0 <| o_gA 901 105 <| o_il 4 <| o_iak 105 40 <| o_c (.inl 15) <| o_i2 (fun a b => a = b) (k_D_program_63 QR H) (k_D_program_51 QR H)
def k_D_program_30 (QR : Option qA → qS → Prop) (H : Nat → qP) : qP :=
  o_il 4 <| o_al 0 <| o_gI 901 115 <| o_i2 (fun a b => b ≤ a) (H 87) (k_D_program_39 QR H)
def k_D_program_26 (QR : Option qA → qS → Prop) (H : Nat → qP) : qP :=
  o_is 3 <| o_c (.inl 0) <| o_is 4 <| H 30
def k_D_program_25 (QR : Option qA → qS → Prop) (H : Nat → qP) : qP :=
  o_c (.inl 0) <| k_D_program_26 QR H
def k_D_program_21 (QR : Option qA → qS → Prop) (H : Nat → qP) : qP :=
  o_c (.inl 1) <| k_D_program_26 QR H
def k_D_program_16 (QR : Option qA → qS → Prop) (H : Nat → qP) : qP :=
  o_il 2 <| o_c (.inl 1) <| o_i2 (fun a b => ¬ a = b) (H 25) (H 21)
def k_D_program_9 (QR : Option qA → qS → Prop) (H : Nat → qP) : qP :=
  o_al 0 <| o_gI 901 115 <| o_if (fun a => 0 < a) (H 21) (k_D_program_16 QR H)
def k_D_program_0 (QR : Option qA → qS → Prop) (H : Nat → qP) : qP :=
  o_il 2 <| o_c (.inl 0) <| o_c (.inl 2) <| oc_D_in <| o_if (fun a => a = 0) (H 25) (k_D_program_9 QR H)
set_option maxRecDepth 8000 in
theorem s_D_program_203 {l : Launch} {ad : Nat → Nat} {D : va_G} {cA : Nat → ClassId} {WW : Nat → qP} {QR : Option qA → qS → Prop} (S : qSnd l rm_D_program ad D cA R_D b_D_program 7 WW) (Q : qRet (some .int) b_D_program WW QR) : qle (k_D_program_203 QR WW) WW 203 :=
  S.aload_n d_D_program_203 rfl <| S.gA fl_D_23 (by decide) d_D_program_204 <| S.iload d_D_program_207 <| S.iload d_D_program_209 <| S.isk (by decide) d_D_program_211 <| S.aload_n d_D_program_212 rfl <| S.iconst d_D_program_213 (by decide) <| S.pI fl_D_147 (by decide) (by decide +kernel) d_D_program_214 <| S.iload d_D_program_217 <| Q.1 rfl _ d_D_program_219
set_option maxRecDepth 8000 in
theorem s_D_program_157 {l : Launch} {ad : Nat → Nat} {D : va_G} {cA : Nat → ClassId} {WW : Nat → qP} {QR : Option qA → qS → Prop} (S : qSnd l rm_D_program ad D cA R_D b_D_program 7 WW) (Q : qRet (some .int) b_D_program WW QR) : qle (k_D_program_157 QR WW) WW 157 :=
  S.aload_n d_D_program_157 rfl <| S.gA fl_D_20 (by decide) d_D_program_158 <| S.bipush d_D_program_161 (by decide) <| S.iload d_D_program_163 <| S.imul d_D_program_165 <| S.iload d_D_program_166 <| S.iadd d_D_program_168 <| S.aload_n d_D_program_169 rfl <| S.gA fl_D_26 (by decide) d_D_program_170 <| S.iload d_D_program_173 <| S.iak (by decide) d_D_program_175 <| S.isk (by decide) d_D_program_176 <| S.aload_n d_D_program_177 rfl <| S.gA fl_D_29 (by decide) d_D_program_178 <| S.bipush d_D_program_181 (by decide) <| S.iload d_D_program_183 <| S.imul d_D_program_185 <| S.iload d_D_program_186 <| S.iadd d_D_program_188 <| S.aload_n d_D_program_189 rfl <| S.gA fl_D_32 (by decide) d_D_program_190 <| S.iload d_D_program_193 <| S.jak (by decide) d_D_program_195 <| S.jsk (by decide) d_D_program_196 <| S.iinc d_D_program_197 (by decide) <| S.goto d_D_program_200 (by decide) (fun _ _ _ h => h)
set_option maxRecDepth 8000 in
theorem s_D_program_150 {l : Launch} {ad : Nat → Nat} {D : va_G} {cA : Nat → ClassId} {WW : Nat → qP} {QR : Option qA → qS → Prop} (S : qSnd l rm_D_program ad D cA R_D b_D_program 7 WW) (Q : qRet (some .int) b_D_program WW QR) : qle (k_D_program_150 QR WW) WW 150 :=
  S.iload d_D_program_150 <| S.iload d_D_program_152 <| S.icmp_ge d_D_program_154 (by decide) (s_D_program_203 S Q) (s_D_program_157 S Q)
set_option maxRecDepth 8000 in
theorem s_D_program_134 {l : Launch} {ad : Nat → Nat} {D : va_G} {cA : Nat → ClassId} {WW : Nat → qP} {QR : Option qA → qS → Prop} (S : qSnd l rm_D_program ad D cA R_D b_D_program 7 WW) (Q : qRet (some .int) b_D_program WW QR) : qle (k_D_program_134 QR WW) WW 134 :=
  S.iconst d_D_program_134 (by decide) <| S.iload_n d_D_program_135 rfl <| S.imul d_D_program_136 <| S.iload_n d_D_program_137 rfl <| S.iadd d_D_program_138 <| S.istore d_D_program_139 (by decide) <| S.aload_n d_D_program_141 rfl <| S.gI fl_D_147 (by decide) d_D_program_142 <| S.istore d_D_program_145 (by decide) <| S.iconst d_D_program_147 (by decide) <| S.istore d_D_program_148 (by decide) <| (fun _ _ _ h => h)
set_option maxRecDepth 8000 in
theorem s_D_program_132 {l : Launch} {ad : Nat → Nat} {D : va_G} {cA : Nat → ClassId} {WW : Nat → qP} {QR : Option qA → qS → Prop} (S : qSnd l rm_D_program ad D cA R_D b_D_program 7 WW) (Q : qRet (some .int) b_D_program WW QR) : qle (k_D_program_132 QR WW) WW 132 :=
  S.iconst d_D_program_132 (by decide) <| Q.1 rfl _ d_D_program_133
set_option maxRecDepth 8000 in
theorem s_D_program_122 {l : Launch} {ad : Nat → Nat} {D : va_G} {cA : Nat → ClassId} {WW : Nat → qP} {QR : Option qA → qS → Prop} (S : qSnd l rm_D_program ad D cA R_D b_D_program 7 WW) (Q : qRet (some .int) b_D_program WW QR) : qle (k_D_program_122 QR WW) WW 122 :=
  S.pI fl_D_87 (by decide) (by decide +kernel) d_D_program_122 <| S.aload_n d_D_program_125 rfl <| S.gI fl_D_87 (by decide) d_D_program_126 <| S.if_le d_D_program_129 (by decide) (fun _ _ _ h => h) (s_D_program_132 S Q)
set_option maxRecDepth 8000 in
theorem s_D_program_121 {l : Launch} {ad : Nat → Nat} {D : va_G} {cA : Nat → ClassId} {WW : Nat → qP} {QR : Option qA → qS → Prop} (S : qSnd l rm_D_program ad D cA R_D b_D_program 7 WW) (Q : qRet (some .int) b_D_program WW QR) : qle (k_D_program_121 QR WW) WW 121 :=
  S.iconst d_D_program_121 (by decide) <| (s_D_program_122 S Q)
set_option maxRecDepth 8000 in
theorem s_D_program_117 {l : Launch} {ad : Nat → Nat} {D : va_G} {cA : Nat → ClassId} {WW : Nat → qP} {QR : Option qA → qS → Prop} (S : qSnd l rm_D_program ad D cA R_D b_D_program 7 WW) (Q : qRet (some .int) b_D_program WW QR) : qle (k_D_program_117 QR WW) WW 117 :=
  S.iconst d_D_program_117 (by decide) <| S.goto d_D_program_118 (by decide) (s_D_program_122 S Q)
set_option maxRecDepth 8000 in
theorem s_D_program_110 {l : Launch} {ad : Nat → Nat} {D : va_G} {cA : Nat → ClassId} {WW : Nat → qP} {QR : Option qA → qS → Prop} (S : qSnd l rm_D_program ad D cA R_D b_D_program 7 WW) (Q : qRet (some .int) b_D_program WW QR) : qle (k_D_program_110 QR WW) WW 110 :=
  S.aload_n d_D_program_110 rfl <| S.gZ fl_D_139 (by decide) d_D_program_111 <| S.if_eq d_D_program_114 (by decide) (s_D_program_121 S Q) (s_D_program_117 S Q)
set_option maxRecDepth 8000 in
theorem s_D_program_106 {l : Launch} {ad : Nat → Nat} {D : va_G} {cA : Nat → ClassId} {WW : Nat → qP} {QR : Option qA → qS → Prop} (S : qSnd l rm_D_program ad D cA R_D b_D_program 7 WW) (Q : qRet (some .int) b_D_program WW QR) : qle (k_D_program_106 QR WW) WW 106 :=
  S.iconst d_D_program_106 (by decide) <| S.goto d_D_program_107 (by decide) (s_D_program_122 S Q)
set_option maxRecDepth 8000 in
theorem s_D_program_102 {l : Launch} {ad : Nat → Nat} {D : va_G} {cA : Nat → ClassId} {WW : Nat → qP} {QR : Option qA → qS → Prop} (S : qSnd l rm_D_program ad D cA R_D b_D_program 7 WW) (Q : qRet (some .int) b_D_program WW QR) : qle (k_D_program_102 QR WW) WW 102 :=
  S.iload_n d_D_program_102 rfl <| S.if_ne d_D_program_103 (by decide) (s_D_program_110 S Q) (s_D_program_106 S Q)
set_option maxRecDepth 8000 in
theorem s_D_program_98 {l : Launch} {ad : Nat → Nat} {D : va_G} {cA : Nat → ClassId} {WW : Nat → qP} {QR : Option qA → qS → Prop} (S : qSnd l rm_D_program ad D cA R_D b_D_program 7 WW) (Q : qRet (some .int) b_D_program WW QR) : qle (k_D_program_98 QR WW) WW 98 :=
  S.iconst d_D_program_98 (by decide) <| S.goto d_D_program_99 (by decide) (s_D_program_122 S Q)
set_option maxRecDepth 8000 in
theorem s_D_program_87 {l : Launch} {ad : Nat → Nat} {D : va_G} {cA : Nat → ClassId} {WW : Nat → qP} {QR : Option qA → qS → Prop} (S : qSnd l rm_D_program ad D cA R_D b_D_program 7 WW) (Q : qRet (some .int) b_D_program WW QR) : qle (k_D_program_87 QR WW) WW 87 :=
  S.aload_n d_D_program_87 rfl <| S.iload_n d_D_program_88 rfl <| S.iconst d_D_program_89 (by decide) <| S.bipush d_D_program_90 (by decide) <| sc_D_136 S (by decide) d_D_program_92 <| S.if_ne d_D_program_95 (by decide) (s_D_program_102 S Q) (s_D_program_98 S Q)
set_option maxRecDepth 8000 in
theorem s_D_program_81 {l : Launch} {ad : Nat → Nat} {D : va_G} {cA : Nat → ClassId} {WW : Nat → qP} {QR : Option qA → qS → Prop} (S : qSnd l rm_D_program ad D cA R_D b_D_program 7 WW) (Q : qRet (some .int) b_D_program WW QR) : qle (k_D_program_81 QR WW) WW 81 :=
  S.iinc d_D_program_81 (by decide) <| S.goto d_D_program_84 (by decide) (fun _ _ _ h => h)
set_option maxRecDepth 8000 in
theorem s_D_program_79 {l : Launch} {ad : Nat → Nat} {D : va_G} {cA : Nat → ClassId} {WW : Nat → qP} {QR : Option qA → qS → Prop} (S : qSnd l rm_D_program ad D cA R_D b_D_program 7 WW) (Q : qRet (some .int) b_D_program WW QR) : qle (k_D_program_79 QR WW) WW 79 :=
  S.iconst d_D_program_79 (by decide) <| S.istore_n d_D_program_80 rfl (by decide) <| (fun _ _ _ h => h)
set_option maxRecDepth 8000 in
theorem s_D_program_63 {l : Launch} {ad : Nat → Nat} {D : va_G} {cA : Nat → ClassId} {WW : Nat → qP} {QR : Option qA → qS → Prop} (S : qSnd l rm_D_program ad D cA R_D b_D_program 7 WW) (Q : qRet (some .int) b_D_program WW QR) : qle (k_D_program_63 QR WW) WW 63 :=
  S.aload_n d_D_program_63 rfl <| S.gA fl_D_32 (by decide) d_D_program_64 <| S.iload d_D_program_67 <| S.jak (by decide) d_D_program_69 <| S.aload_n d_D_program_70 rfl <| S.gI fl_D_147 (by decide) d_D_program_71 <| S.i2l d_D_program_74 <| S.lcmp_le d_D_program_75 d_D_program_76 (by decide) (fun _ _ _ h => h) (s_D_program_79 S Q)
set_option maxRecDepth 8000 in
theorem s_D_program_51 {l : Launch} {ad : Nat → Nat} {D : va_G} {cA : Nat → ClassId} {WW : Nat → qP} {QR : Option qA → qS → Prop} (S : qSnd l rm_D_program ad D cA R_D b_D_program 7 WW) (Q : qRet (some .int) b_D_program WW QR) : qle (k_D_program_51 QR WW) WW 51 :=
  S.aload_n d_D_program_51 rfl <| S.gA fl_D_26 (by decide) d_D_program_52 <| S.iload d_D_program_55 <| S.iak (by decide) d_D_program_57 <| S.bipush d_D_program_58 (by decide) <| S.icmp_ne d_D_program_60 (by decide) (fun _ _ _ h => h) (s_D_program_63 S Q)
set_option maxRecDepth 8000 in
theorem s_D_program_39 {l : Launch} {ad : Nat → Nat} {D : va_G} {cA : Nat → ClassId} {WW : Nat → qP} {QR : Option qA → qS → Prop} (S : qSnd l rm_D_program ad D cA R_D b_D_program 7 WW) (Q : qRet (some .int) b_D_program WW QR) : qle (k_D_program_39 QR WW) WW 39 :=
  S.aload_n d_D_program_39 rfl <| S.gA fl_D_26 (by decide) d_D_program_40 <| S.iload d_D_program_43 <| S.iak (by decide) d_D_program_45 <| S.bipush d_D_program_46 (by decide) <| S.icmp_eq d_D_program_48 (by decide) (s_D_program_63 S Q) (s_D_program_51 S Q)
set_option maxRecDepth 8000 in
theorem s_D_program_30 {l : Launch} {ad : Nat → Nat} {D : va_G} {cA : Nat → ClassId} {WW : Nat → qP} {QR : Option qA → qS → Prop} (S : qSnd l rm_D_program ad D cA R_D b_D_program 7 WW) (Q : qRet (some .int) b_D_program WW QR) : qle (k_D_program_30 QR WW) WW 30 :=
  S.iload d_D_program_30 <| S.aload_n d_D_program_32 rfl <| S.gI fl_D_147 (by decide) d_D_program_33 <| S.icmp_ge d_D_program_36 (by decide) (fun _ _ _ h => h) (s_D_program_39 S Q)
set_option maxRecDepth 8000 in
theorem s_D_program_26 {l : Launch} {ad : Nat → Nat} {D : va_G} {cA : Nat → ClassId} {WW : Nat → qP} {QR : Option qA → qS → Prop} (S : qSnd l rm_D_program ad D cA R_D b_D_program 7 WW) (Q : qRet (some .int) b_D_program WW QR) : qle (k_D_program_26 QR WW) WW 26 :=
  S.istore_n d_D_program_26 rfl (by decide) <| S.iconst d_D_program_27 (by decide) <| S.istore d_D_program_28 (by decide) <| (fun _ _ _ h => h)
set_option maxRecDepth 8000 in
theorem s_D_program_25 {l : Launch} {ad : Nat → Nat} {D : va_G} {cA : Nat → ClassId} {WW : Nat → qP} {QR : Option qA → qS → Prop} (S : qSnd l rm_D_program ad D cA R_D b_D_program 7 WW) (Q : qRet (some .int) b_D_program WW QR) : qle (k_D_program_25 QR WW) WW 25 :=
  S.iconst d_D_program_25 (by decide) <| (s_D_program_26 S Q)
set_option maxRecDepth 8000 in
theorem s_D_program_21 {l : Launch} {ad : Nat → Nat} {D : va_G} {cA : Nat → ClassId} {WW : Nat → qP} {QR : Option qA → qS → Prop} (S : qSnd l rm_D_program ad D cA R_D b_D_program 7 WW) (Q : qRet (some .int) b_D_program WW QR) : qle (k_D_program_21 QR WW) WW 21 :=
  S.iconst d_D_program_21 (by decide) <| S.goto d_D_program_22 (by decide) (s_D_program_26 S Q)
set_option maxRecDepth 8000 in
theorem s_D_program_16 {l : Launch} {ad : Nat → Nat} {D : va_G} {cA : Nat → ClassId} {WW : Nat → qP} {QR : Option qA → qS → Prop} (S : qSnd l rm_D_program ad D cA R_D b_D_program 7 WW) (Q : qRet (some .int) b_D_program WW QR) : qle (k_D_program_16 QR WW) WW 16 :=
  S.iload_n d_D_program_16 rfl <| S.iconst d_D_program_17 (by decide) <| S.icmp_ne d_D_program_18 (by decide) (fun _ _ _ h => h) (fun _ _ _ h => h)
set_option maxRecDepth 8000 in
theorem s_D_program_9 {l : Launch} {ad : Nat → Nat} {D : va_G} {cA : Nat → ClassId} {WW : Nat → qP} {QR : Option qA → qS → Prop} (S : qSnd l rm_D_program ad D cA R_D b_D_program 7 WW) (Q : qRet (some .int) b_D_program WW QR) : qle (k_D_program_9 QR WW) WW 9 :=
  S.aload_n d_D_program_9 rfl <| S.gI fl_D_147 (by decide) d_D_program_10 <| S.if_gt d_D_program_13 (by decide) (fun _ _ _ h => h) (s_D_program_16 S Q)
set_option maxRecDepth 8000 in
theorem s_D_program_0 {l : Launch} {ad : Nat → Nat} {D : va_G} {cA : Nat → ClassId} {WW : Nat → qP} {QR : Option qA → qS → Prop} (S : qSnd l rm_D_program ad D cA R_D b_D_program 7 WW) (Q : qRet (some .int) b_D_program WW QR) : qle (k_D_program_0 QR WW) WW 0 :=
  S.iload_n d_D_program_0 rfl <| S.iconst d_D_program_1 (by decide) <| S.iconst d_D_program_2 (by decide) <| sc_D_136 S (by decide) d_D_program_3 <| S.if_eq d_D_program_6 (by decide) (fun _ _ _ h => h) (s_D_program_9 S Q)
theorem v_D_program_150 {l : Launch} {ad : Nat → Nat} {D : va_G} {cA : Nat → ClassId} {WW : Nat → qP} {QR : Option qA → qS → Prop} (S : qSnd l rm_D_program ad D cA R_D b_D_program 7 WW) (Q : qRet (some .int) b_D_program WW QR) (σ : qS) (j w p n : Int) (f : Option qA) (hc : 0 ≤ n ∧ n ≤ 40) (hp : 0 ≤ p ∧ p < 24) (hq : QR (some (.inl n)) (su (su (dgm σ p n) 104 p n) 115 0 0)) : ∀ (m k : Nat), ((k + m : Nat) : Int) = n → WW 150 [] [some (.inr (.inr 901)), some (.inl j), some (.inl w), none, some (.inl p), some (.inl n), some (.inl (k : Int))] (dgm σ p k) := by
  have eo : ∀ k, dgm σ p k 105 = σ 105 := fun k => by unfold dgm; rw [ra_k (by decide), ra_k (by decide)]
  have ea : ∀ k, dgm σ p k 107 = σ 107 := fun k => by unfold dgm; rw [ra_k (by decide), ra_k (by decide)]
  intro m
  induction m with
  | zero =>
    intro k hk
    refine s_D_program_150 S Q _ _ _ ?_
    simp only [k_D_program_0, k_D_program_9, k_D_program_16, k_D_program_21, k_D_program_25, k_D_program_26, k_D_program_30, k_D_program_39, k_D_program_51, k_D_program_63, k_D_program_79, k_D_program_81, k_D_program_87, k_D_program_98, k_D_program_102, k_D_program_106, k_D_program_110, k_D_program_117, k_D_program_121, k_D_program_122, k_D_program_132, k_D_program_134, k_D_program_150, k_D_program_157, k_D_program_203, oc_D_in, o_c, o_il, o_ll, o_al, o_is, o_as, o_ls, o_inc, o_bi, o_bid, o_bl, o_bld, o_sl, o_i2l, o_l2i, o_dup, o_dup2, o_pop, o_pop2, o_if, o_i2, o_l2, swg, o_sw, o_gI, o_gZ, o_gJ, o_gA, o_gR, o_pI, o_pZ, o_pJ, o_pR, o_ia, o_iak, o_zak, o_ja, o_jak, o_is_, o_isk, o_zsk, o_js_, o_jsk, o_len, o_ri, o_rz, o_rl, o_rv, ls1, ls2, lks, lkj, List.getD_cons_zero, List.getD_cons_succ, List.set_cons_zero, List.set_cons_succ, qcat, true_and, and_true, List.map_nil, List.map_cons, List.sum_nil, List.sum_cons, Nat.reduceAdd, Nat.reduceLeDiff, Nat.zero_le, Int.reduceAdd, Int.reduceNeg, Int.reduceEq, or_true, true_or, Decidable.not_not, false_implies, not_false_eq_true, true_implies, not_true_eq_false, Int.reduceLT, Int.reduceLE]
    rw [show (k : Int) = n by omega]
    exact ⟨fun _ => ⟨hp, hq⟩, fun h => by omega⟩
  | succ m ih =>
    intro k hk
    refine s_D_program_150 S Q _ _ _ ?_
    simp only [k_D_program_0, k_D_program_9, k_D_program_16, k_D_program_21, k_D_program_25, k_D_program_26, k_D_program_30, k_D_program_39, k_D_program_51, k_D_program_63, k_D_program_79, k_D_program_81, k_D_program_87, k_D_program_98, k_D_program_102, k_D_program_106, k_D_program_110, k_D_program_117, k_D_program_121, k_D_program_122, k_D_program_132, k_D_program_134, k_D_program_150, k_D_program_157, k_D_program_203, oc_D_in, o_c, o_il, o_ll, o_al, o_is, o_as, o_ls, o_inc, o_bi, o_bid, o_bl, o_bld, o_sl, o_i2l, o_l2i, o_dup, o_dup2, o_pop, o_pop2, o_if, o_i2, o_l2, swg, o_sw, o_gI, o_gZ, o_gJ, o_gA, o_gR, o_pI, o_pZ, o_pJ, o_pR, o_ia, o_iak, o_zak, o_ja, o_jak, o_is_, o_isk, o_zsk, o_js_, o_jsk, o_len, o_ri, o_rz, o_rl, o_rv, ls1, ls2, lks, lkj, List.getD_cons_zero, List.getD_cons_succ, List.set_cons_zero, List.set_cons_succ, qcat, true_and, and_true, List.map_nil, List.map_cons, List.sum_nil, List.sum_cons, Nat.reduceAdd, Nat.reduceLeDiff, Nat.zero_le, Int.reduceAdd, Int.reduceNeg, Int.reduceEq, or_true, true_or, Decidable.not_not, false_implies, not_false_eq_true, true_implies, not_true_eq_false, Int.reduceLT, Int.reduceLE]
    simp (disch := omega) only [su_k]
    have e1 : z_add (z_mul 40 p) (k : Int) = 40 * p + k := by unfold z_add z_mul; rw [w32_i (40 * p) (by omega) (by omega), w32_i _ (by omega) (by omega)]
    rw [eo, ea, e1, w32_i _ (by omega) (by omega)]
    refine ⟨fun h => by omega, fun _ => ⟨by omega, by omega, by omega, by omega, ?_⟩⟩
    have e2 : su (su (dgm σ p k) 103 (40 * p + k) (σ 105 k)) 106 (40 * p + k) (σ 107 k) = dgm σ p ((k + 1 : Nat) : Int) := by
      unfold dgm
      rw [su_ra (by decide), ra_s (by omega) (by congr 1; omega), ra_s (by omega) (by congr 1; omega)]
      rw [show 40 * p + (k : Int) + 1 = 40 * p + ((k + 1 : Nat) : Int) by omega]
    rw [e2]
    exact ih (k + 1) (by omega)
def dfn (σ : qS) (w k f : Int) : Prop := (f = 1 ∧ dwok σ w ∧ ∀ i, 0 ≤ i → i < k → dj1 σ i) ∨ (f = 0 ∧ ¬ (dwok σ w ∧ djok σ))
theorem v_D_program_30 {l : Launch} {ad : Nat → Nat} {D : va_G} {cA : Nat → ClassId} {WW : Nat → qP} {QR : Option qA → qS → Prop} (S : qSnd l rm_D_program ad D cA R_D b_D_program 7 WW) (Q : qRet (some .int) b_D_program WW QR) (σ : qS) (j w : Int) (hc : 0 ≤ σ 115 0 ∧ σ 115 0 ≤ 40) (K : ∀ f, (f = 1 ∧ dwok σ w ∧ djok σ) ∨ (f = 0 ∧ ¬ (dwok σ w ∧ djok σ)) → WW 87 [] [some (.inr (.inr 901)), some (.inl j), some (.inl w), some (.inl f), none, none, none] σ) : ∀ (m k : Nat) (f : Int), ((k + m : Nat) : Int) = σ 115 0 → dfn σ w k f → WW 30 [] [some (.inr (.inr 901)), some (.inl j), some (.inl w), some (.inl f), some (.inl (k : Int)), none, none] σ := by
  intro m
  induction m with
  | zero =>
    intro k f hk hf
    refine s_D_program_30 S Q _ _ _ ?_
    simp only [k_D_program_0, k_D_program_9, k_D_program_16, k_D_program_21, k_D_program_25, k_D_program_26, k_D_program_30, k_D_program_39, k_D_program_51, k_D_program_63, k_D_program_79, k_D_program_81, k_D_program_87, k_D_program_98, k_D_program_102, k_D_program_106, k_D_program_110, k_D_program_117, k_D_program_121, k_D_program_122, k_D_program_132, k_D_program_134, k_D_program_150, k_D_program_157, k_D_program_203, oc_D_in, o_c, o_il, o_ll, o_al, o_is, o_as, o_ls, o_inc, o_bi, o_bid, o_bl, o_bld, o_sl, o_i2l, o_l2i, o_dup, o_dup2, o_pop, o_pop2, o_if, o_i2, o_l2, swg, o_sw, o_gI, o_gZ, o_gJ, o_gA, o_gR, o_pI, o_pZ, o_pJ, o_pR, o_ia, o_iak, o_zak, o_ja, o_jak, o_is_, o_isk, o_zsk, o_js_, o_jsk, o_len, o_ri, o_rz, o_rl, o_rv, ls1, ls2, lks, lkj, List.getD_cons_zero, List.getD_cons_succ, List.set_cons_zero, List.set_cons_succ, qcat, true_and, and_true, List.map_nil, List.map_cons, List.sum_nil, List.sum_cons, Nat.reduceAdd, Nat.reduceLeDiff, Nat.zero_le, Int.reduceAdd, Int.reduceNeg, Int.reduceEq, or_true, true_or, Decidable.not_not, false_implies, not_false_eq_true, true_implies, not_true_eq_false, Int.reduceLT, Int.reduceLE]
    refine ⟨fun _ => S.fg (ls' := [some (.inr (.inr 901)), some (.inl j), some (.inl w), some (.inl f), none, none, none]) ⟨rfl, rfl, rfl, rfl, trivial⟩ (K f ?_), fun h => by omega⟩
    rcases hf with ⟨a, b, c⟩ | h
    · exact Or.inl ⟨a, b, fun i h0 h1 => c i h0 (by omega)⟩
    · exact Or.inr h
  | succ m ih =>
    intro k f hk hf
    have nx : ∀ f', dfn σ w (k + 1) f' → WW 81 [] [some (.inr (.inr 901)), some (.inl j), some (.inl w), some (.inl f'), some (.inl (k : Int)), none, none] σ := fun f' hf' => by
      refine s_D_program_81 S Q _ _ _ ?_
      simp only [k_D_program_0, k_D_program_9, k_D_program_16, k_D_program_21, k_D_program_25, k_D_program_26, k_D_program_30, k_D_program_39, k_D_program_51, k_D_program_63, k_D_program_79, k_D_program_81, k_D_program_87, k_D_program_98, k_D_program_102, k_D_program_106, k_D_program_110, k_D_program_117, k_D_program_121, k_D_program_122, k_D_program_132, k_D_program_134, k_D_program_150, k_D_program_157, k_D_program_203, oc_D_in, o_c, o_il, o_ll, o_al, o_is, o_as, o_ls, o_inc, o_bi, o_bid, o_bl, o_bld, o_sl, o_i2l, o_l2i, o_dup, o_dup2, o_pop, o_pop2, o_if, o_i2, o_l2, swg, o_sw, o_gI, o_gZ, o_gJ, o_gA, o_gR, o_pI, o_pZ, o_pJ, o_pR, o_ia, o_iak, o_zak, o_ja, o_jak, o_is_, o_isk, o_zsk, o_js_, o_jsk, o_len, o_ri, o_rz, o_rl, o_rv, ls1, ls2, lks, lkj, List.getD_cons_zero, List.getD_cons_succ, List.set_cons_zero, List.set_cons_succ, qcat, true_and, and_true, List.map_nil, List.map_cons, List.sum_nil, List.sum_cons, Nat.reduceAdd, Nat.reduceLeDiff, Nat.zero_le, Int.reduceAdd, Int.reduceNeg, Int.reduceEq, or_true, true_or, Decidable.not_not, false_implies, not_false_eq_true, true_implies, not_true_eq_false, Int.reduceLT, Int.reduceLE]
      rw [w32_i _ (by omega) (by omega)]
      exact ih (k + 1) f' (by omega) hf'
    have ok : dj1 σ k → dfn σ w (k + 1) f := fun h1 => by
      rcases hf with ⟨a, b, c⟩ | h
      · exact Or.inl ⟨a, b, fun i h0 h2 => by by_cases e : i = (k : Int); rw [e]; exact h1; exact c i h0 (by omega)⟩
      · exact Or.inr h
    have bad : ¬ dj1 σ k → dfn σ w (k + 1) 0 := fun h1 => Or.inr ⟨rfl, fun x => h1 (x.2 k (by omega) (by omega))⟩
    refine s_D_program_30 S Q _ _ _ ?_
    simp only [k_D_program_0, k_D_program_9, k_D_program_16, k_D_program_21, k_D_program_25, k_D_program_26, k_D_program_30, k_D_program_39, k_D_program_51, k_D_program_63, k_D_program_79, k_D_program_81, k_D_program_87, k_D_program_98, k_D_program_102, k_D_program_106, k_D_program_110, k_D_program_117, k_D_program_121, k_D_program_122, k_D_program_132, k_D_program_134, k_D_program_150, k_D_program_157, k_D_program_203, oc_D_in, o_c, o_il, o_ll, o_al, o_is, o_as, o_ls, o_inc, o_bi, o_bid, o_bl, o_bld, o_sl, o_i2l, o_l2i, o_dup, o_dup2, o_pop, o_pop2, o_if, o_i2, o_l2, swg, o_sw, o_gI, o_gZ, o_gJ, o_gA, o_gR, o_pI, o_pZ, o_pJ, o_pR, o_ia, o_iak, o_zak, o_ja, o_jak, o_is_, o_isk, o_zsk, o_js_, o_jsk, o_len, o_ri, o_rz, o_rl, o_rv, ls1, ls2, lks, lkj, List.getD_cons_zero, List.getD_cons_succ, List.set_cons_zero, List.set_cons_succ, qcat, true_and, and_true, List.map_nil, List.map_cons, List.sum_nil, List.sum_cons, Nat.reduceAdd, Nat.reduceLeDiff, Nat.zero_le, Int.reduceAdd, Int.reduceNeg, Int.reduceEq, or_true, true_or, Decidable.not_not, false_implies, not_false_eq_true, true_implies, not_true_eq_false, Int.reduceLT, Int.reduceLE]
    exact ⟨fun h => by omega, fun _ => ⟨by omega, fun e => ⟨by omega, fun hl => nx f (ok (fun _ => hl)), fun hl => nx 0 (bad (fun h1 => hl (h1 (Or.inl e))))⟩, fun n15 => ⟨by omega, fun n16 => nx f (ok (fun e => by omega)), fun e => ⟨by omega, fun hl => nx f (ok (fun _ => hl)), fun hl => nx 0 (bad (fun h1 => hl (h1 (Or.inr e))))⟩⟩⟩⟩
theorem w_D_program {l : Launch} {ad : Nat → Nat} {D : va_G} {cA : Nat → ClassId} {WW : Nat → qP} {QR : Option qA → qS → Prop} (S : qSnd l rm_D_program ad D cA R_D b_D_program 7 WW) (Q : qRet (some .int) b_D_program WW QR) (a1 : Int) (a2 : Int) (σ : qS) (ha1 : r32 a1) (ha2 : r32 a2) (hσ : qoS σ) (h : P_D_program a1 a2 σ) (hq : ∀ (r : Int) σ', Q_D_program a1 a2 σ r σ' → QR (some (.inl r)) σ') : WW 0 [] [some (.inr (.inr 901)), some (.inl a1), some (.inl a2), none, none, none, none] σ := by
  have hc : 0 ≤ σ 115 0 ∧ σ 115 0 ≤ 40 := h
  have fin : ∀ f, (f = 1 ∧ dwok σ a2 ∧ djok σ) ∨ (f = 0 ∧ ¬ (dwok σ a2 ∧ djok σ)) → WW 87 [] [some (.inr (.inr 901)), some (.inl a1), some (.inl a2), some (.inl f), none, none, none] σ := fun f hf => by
    refine s_D_program_87 S Q _ _ _ ?_
    simp only [k_D_program_0, k_D_program_9, k_D_program_16, k_D_program_21, k_D_program_25, k_D_program_26, k_D_program_30, k_D_program_39, k_D_program_51, k_D_program_63, k_D_program_79, k_D_program_81, k_D_program_87, k_D_program_98, k_D_program_102, k_D_program_106, k_D_program_110, k_D_program_117, k_D_program_121, k_D_program_122, k_D_program_132, k_D_program_134, k_D_program_150, k_D_program_157, k_D_program_203, oc_D_in, o_c, o_il, o_ll, o_al, o_is, o_as, o_ls, o_inc, o_bi, o_bid, o_bl, o_bld, o_sl, o_i2l, o_l2i, o_dup, o_dup2, o_pop, o_pop2, o_if, o_i2, o_l2, swg, o_sw, o_gI, o_gZ, o_gJ, o_gA, o_gR, o_pI, o_pZ, o_pJ, o_pR, o_ia, o_iak, o_zak, o_ja, o_jak, o_is_, o_isk, o_zsk, o_js_, o_jsk, o_len, o_ri, o_rz, o_rl, o_rv, ls1, ls2, lks, lkj, List.getD_cons_zero, List.getD_cons_succ, List.set_cons_zero, List.set_cons_succ, qcat, true_and, and_true, List.map_nil, List.map_cons, List.sum_nil, List.sum_cons, Nat.reduceAdd, Nat.reduceLeDiff, Nat.zero_le, Int.reduceAdd, Int.reduceNeg, Int.reduceEq, or_true, true_or, Decidable.not_not, false_implies, not_false_eq_true, true_implies, not_true_eq_false, Int.reduceLT, Int.reduceLE, su_s]
    refine dinF (fun hj => ⟨fun f1 => ?_, fun f0 => hq _ _ (Or.inr (Or.inl ⟨hj, ?_, rfl, rfl⟩))⟩) (fun hj => hq _ _ (Or.inl ⟨hj, rfl, rfl⟩))
    · have hg : dwok σ a2 ∧ djok σ := by
        rcases hf with ⟨_, x⟩ | ⟨x, _⟩
        · exact x
        · exact absurd x f1
      refine fun _ => ⟨fun e => ?_, fun e => hq _ _ (Or.inr (Or.inr (Or.inl ⟨hj, hg, e, rfl, rfl⟩)))⟩
      refine S.fg (ls' := [some (.inr (.inr 901)), some (.inl a1), some (.inl a2), none, none, none, none]) ⟨rfl, rfl, rfl, trivial⟩ ?_
      refine s_D_program_134 S Q _ _ _ ?_
      simp only [k_D_program_0, k_D_program_9, k_D_program_16, k_D_program_21, k_D_program_25, k_D_program_26, k_D_program_30, k_D_program_39, k_D_program_51, k_D_program_63, k_D_program_79, k_D_program_81, k_D_program_87, k_D_program_98, k_D_program_102, k_D_program_106, k_D_program_110, k_D_program_117, k_D_program_121, k_D_program_122, k_D_program_132, k_D_program_134, k_D_program_150, k_D_program_157, k_D_program_203, oc_D_in, o_c, o_il, o_ll, o_al, o_is, o_as, o_ls, o_inc, o_bi, o_bid, o_bl, o_bld, o_sl, o_i2l, o_l2i, o_dup, o_dup2, o_pop, o_pop2, o_if, o_i2, o_l2, swg, o_sw, o_gI, o_gZ, o_gJ, o_gA, o_gR, o_pI, o_pZ, o_pJ, o_pR, o_ia, o_iak, o_zak, o_ja, o_jak, o_is_, o_isk, o_zsk, o_js_, o_jsk, o_len, o_ri, o_rz, o_rl, o_rv, ls1, ls2, lks, lkj, List.getD_cons_zero, List.getD_cons_succ, List.set_cons_zero, List.set_cons_succ, qcat, true_and, and_true, List.map_nil, List.map_cons, List.sum_nil, List.sum_cons, Nat.reduceAdd, Nat.reduceLeDiff, Nat.zero_le, Int.reduceAdd, Int.reduceNeg, Int.reduceEq, or_true, true_or, Decidable.not_not, false_implies, not_false_eq_true, true_implies, not_true_eq_false, Int.reduceLT, Int.reduceLE]
      have hw := hg.1.1
      have e1 : z_add (z_mul 3 a1) a2 = 3 * a1 + a2 := by unfold z_add z_mul; rw [w32_i (3 * a1) (by omega) (by omega), w32_i _ (by omega) (by omega)]
      rw [e1, su_k (by decide)]
      have := v_D_program_150 S Q (su σ 118 0 0) a1 a2 (3 * a1 + a2) (σ 115 0) none hc (by omega) (hq _ _ (Or.inr (Or.inr (Or.inr ⟨hj, hg, e, rfl, rfl⟩)))) (σ 115 0).toNat 0 (by omega)
      have e0 : dgm (su σ 118 0 0) (3 * a1 + a2) ((0 : Nat) : Int) = su σ 118 0 0 := by unfold dgm; rw [ra_0 (by simp), ra_0 (by simp)]
      rw [e0] at this
      exact this
    · rcases hf with ⟨x, _⟩ | ⟨_, x⟩
      · omega
      · exact x
  have yes : dwok σ a2 → WW 21 [] [some (.inr (.inr 901)), some (.inl a1), some (.inl a2), none, none, none, none] σ := fun hw => by
    refine s_D_program_21 S Q _ _ _ ?_
    simp only [k_D_program_0, k_D_program_9, k_D_program_16, k_D_program_21, k_D_program_25, k_D_program_26, k_D_program_30, k_D_program_39, k_D_program_51, k_D_program_63, k_D_program_79, k_D_program_81, k_D_program_87, k_D_program_98, k_D_program_102, k_D_program_106, k_D_program_110, k_D_program_117, k_D_program_121, k_D_program_122, k_D_program_132, k_D_program_134, k_D_program_150, k_D_program_157, k_D_program_203, oc_D_in, o_c, o_il, o_ll, o_al, o_is, o_as, o_ls, o_inc, o_bi, o_bid, o_bl, o_bld, o_sl, o_i2l, o_l2i, o_dup, o_dup2, o_pop, o_pop2, o_if, o_i2, o_l2, swg, o_sw, o_gI, o_gZ, o_gJ, o_gA, o_gR, o_pI, o_pZ, o_pJ, o_pR, o_ia, o_iak, o_zak, o_ja, o_jak, o_is_, o_isk, o_zsk, o_js_, o_jsk, o_len, o_ri, o_rz, o_rl, o_rv, ls1, ls2, lks, lkj, List.getD_cons_zero, List.getD_cons_succ, List.set_cons_zero, List.set_cons_succ, qcat, true_and, and_true, List.map_nil, List.map_cons, List.sum_nil, List.sum_cons, Nat.reduceAdd, Nat.reduceLeDiff, Nat.zero_le, Int.reduceAdd, Int.reduceNeg, Int.reduceEq, or_true, true_or, Decidable.not_not, false_implies, not_false_eq_true, true_implies, not_true_eq_false, Int.reduceLT, Int.reduceLE, su_s]
    exact v_D_program_30 S Q σ a1 a2 hc fin (σ 115 0).toNat 0 1 (by omega) (Or.inl ⟨rfl, hw, fun i h0 h1 => by omega⟩)
  have no : ¬ dwok σ a2 → WW 25 [] [some (.inr (.inr 901)), some (.inl a1), some (.inl a2), none, none, none, none] σ := fun hw => by
    refine s_D_program_25 S Q _ _ _ ?_
    simp only [k_D_program_0, k_D_program_9, k_D_program_16, k_D_program_21, k_D_program_25, k_D_program_26, k_D_program_30, k_D_program_39, k_D_program_51, k_D_program_63, k_D_program_79, k_D_program_81, k_D_program_87, k_D_program_98, k_D_program_102, k_D_program_106, k_D_program_110, k_D_program_117, k_D_program_121, k_D_program_122, k_D_program_132, k_D_program_134, k_D_program_150, k_D_program_157, k_D_program_203, oc_D_in, o_c, o_il, o_ll, o_al, o_is, o_as, o_ls, o_inc, o_bi, o_bid, o_bl, o_bld, o_sl, o_i2l, o_l2i, o_dup, o_dup2, o_pop, o_pop2, o_if, o_i2, o_l2, swg, o_sw, o_gI, o_gZ, o_gJ, o_gA, o_gR, o_pI, o_pZ, o_pJ, o_pR, o_ia, o_iak, o_zak, o_ja, o_jak, o_is_, o_isk, o_zsk, o_js_, o_jsk, o_len, o_ri, o_rz, o_rl, o_rv, ls1, ls2, lks, lkj, List.getD_cons_zero, List.getD_cons_succ, List.set_cons_zero, List.set_cons_succ, qcat, true_and, and_true, List.map_nil, List.map_cons, List.sum_nil, List.sum_cons, Nat.reduceAdd, Nat.reduceLeDiff, Nat.zero_le, Int.reduceAdd, Int.reduceNeg, Int.reduceEq, or_true, true_or, Decidable.not_not, false_implies, not_false_eq_true, true_implies, not_true_eq_false, Int.reduceLT, Int.reduceLE, su_s]
    exact v_D_program_30 S Q σ a1 a2 hc fin (σ 115 0).toNat 0 0 (by omega) (Or.inr ⟨rfl, fun x => hw x.1⟩)
  refine s_D_program_0 S Q _ _ _ ?_
  simp only [k_D_program_0, k_D_program_9, k_D_program_16, k_D_program_21, k_D_program_25, k_D_program_26, k_D_program_30, k_D_program_39, k_D_program_51, k_D_program_63, k_D_program_79, k_D_program_81, k_D_program_87, k_D_program_98, k_D_program_102, k_D_program_106, k_D_program_110, k_D_program_117, k_D_program_121, k_D_program_122, k_D_program_132, k_D_program_134, k_D_program_150, k_D_program_157, k_D_program_203, oc_D_in, o_c, o_il, o_ll, o_al, o_is, o_as, o_ls, o_inc, o_bi, o_bid, o_bl, o_bld, o_sl, o_i2l, o_l2i, o_dup, o_dup2, o_pop, o_pop2, o_if, o_i2, o_l2, swg, o_sw, o_gI, o_gZ, o_gJ, o_gA, o_gR, o_pI, o_pZ, o_pJ, o_pR, o_ia, o_iak, o_zak, o_ja, o_jak, o_is_, o_isk, o_zsk, o_js_, o_jsk, o_len, o_ri, o_rz, o_rl, o_rv, ls1, ls2, lks, lkj, List.getD_cons_zero, List.getD_cons_succ, List.set_cons_zero, List.set_cons_succ, qcat, true_and, and_true, List.map_nil, List.map_cons, List.sum_nil, List.sum_cons, Nat.reduceAdd, Nat.reduceLeDiff, Nat.zero_le, Int.reduceAdd, Int.reduceNeg, Int.reduceEq, or_true, true_or, Decidable.not_not, false_implies, not_false_eq_true, true_implies, not_true_eq_false, Int.reduceLT, Int.reduceLE, su_s]
  exact dinC (fun hw => ⟨fun h0 => yes ⟨hw, Or.inl h0⟩, fun h0 => ⟨fun n1 => no (fun x => by have := x.2; omega), fun e1 => yes ⟨hw, Or.inr e1⟩⟩⟩) (fun hw => no (fun x => hw x.1))
theorem c_D_program (l : Launch) (ad : Nat → Nat) (D : va_G) (cA : Nat → ClassId) : qC l ad D cA y_D_program (Cond.code y_D_program b_D_program 7 (some .int) :: lw_g) rm_D_program pre_D_program post_D_program := by
  refine qC_of (own := R_D) (by decide) rfl ⟨rfl, rfl⟩ ?_ ?_
  · intro av σ h; unfold pre_D_program at h; split at h
    · simp [qen]
    · exact h.elim
  · intro WW QR S Q av σ hav hσ h hq; unfold pre_D_program at h; split at h
    next o a1 a2 =>
      obtain ⟨rfl, h⟩ := h
      exact w_D_program S Q a1 a2 σ (hav _ (List.mem_of_getElem? (i := 1) rfl)) (hav _ (List.mem_of_getElem? (i := 2) rfl)) hσ h (fun r σ' h' => hq _ σ' h')
    next => exact h.elim

