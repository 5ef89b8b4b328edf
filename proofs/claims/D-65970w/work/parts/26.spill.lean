theorem su_ow {σ : qS} {k : Nat} {i v v' : Int} : su (su σ k i v) k i v' = su σ k i v' := by funext q j; unfold su; by_cases e : q = k ∧ j = i <;> simp [e]
theorem su_cm {σ : qS} {k k' : Nat} {i v i' v' : Int} (h : k' ≠ k) : su (su σ k i v) k' i' v' = su (su σ k' i' v') k i v := by
  funext q j; unfold su
  by_cases e : q = k ∧ j = i
  · rw [if_neg (fun z => h (z.1.symm.trans e.1)), if_pos e, if_pos e]
  · rw [if_neg e]
    by_cases e2 : q = k' ∧ j = i'
    · rw [if_pos e2, if_neg e]
    · rw [if_neg e2, if_neg e]
theorem su_id {σ : qS} {k : Nat} {i v : Int} (h : σ k i = v) : su σ k i v = σ := by
  funext q j; unfold su
  by_cases e : q = k ∧ j = i
  · rw [if_pos e, e.1, e.2, h]
  · rw [if_neg e]
def F_spl (w : Int) (σ σ' : qS) : Prop := (∀ k, k ∉ [68, 69, 74, 71, 72, 70, 73, 67] → σ' k = σ k) ∧
  (∀ j, (j < w * 8 ∨ w * 8 + 8 ≤ j) → σ' 68 j = σ 68 j ∧ σ' 69 j = σ 69 j) ∧ (∀ j, j ≠ w → σ' 70 j = σ 70 j ∧ σ' 73 j = σ 73 j ∧ σ' 67 j = σ 67 j) ∧
  (∀ j, (j < w * 65 ∨ w * 65 + 65 ≤ j) → σ' 74 j = σ 74 j) ∧ (∀ j, (j < w * 64 ∨ w * 64 + 64 ≤ j) → σ' 71 j = σ 71 j ∧ σ' 72 j = σ 72 j)
def P_M_spill (w : Int) (σ : qS) : Prop := (0 ≤ w ∧ w < 6) ∧ (0 ≤ σ 67 w ∧ σ 67 w ≤ 8) ∧ (0 ≤ σ 73 w ∧ σ 73 w < 64) ∧ 0 ≤ σ 70 w ∧ σ 70 w + σ 67 w ≤ 64
def Q_M_spill (w : Int) (σ σ' : qS) : Prop := F_spl w σ σ' ∧ σ' 70 w = σ 70 w + σ 67 w ∧ σ' 73 w = σ 73 w + 1 ∧ σ' 67 w = 0 ∧ (∀ j, j ≠ w * 65 + σ 73 w → j ≠ w * 65 + σ 73 w + 1 → σ' 74 j = σ 74 j) ∧ σ' 74 (w * 65 + σ 73 w) = σ 70 w ∧ σ' 74 (w * 65 + σ 73 w + 1) = σ 70 w + σ 67 w ∧
  (∀ j, (j < w * 64 + σ 70 w ∨ w * 64 + σ 70 w + σ 67 w ≤ j) → σ' 71 j = σ 71 j ∧ σ' 72 j = σ 72 j) ∧ row σ' 71 72 (w * 64 + σ 70 w) (σ 67 w).toNat = srt (row σ 68 69 (w * 8) (σ 67 w).toNat)
def pre_M_spill (av : List qA) (σ : qS) : Prop := match av with
  | [.inr (.inr o), .inl a1] => o = 900 ∧ P_M_spill a1 σ
  | _ => False
def post_M_spill (av : List qA) (σ : qS) (r : Option qA) (σ' : qS) : Prop := match av, r with
  | [_, .inl a1], none => Q_M_spill a1 σ σ'
  | _, _ => False
def oc_M_spill (K : qP) : qP := fun st ls σ => match st with
  | .inl a1 :: .inr (.inr o) :: st => o = 900 ∧ (st.map qcat).sum ≤ 8 ∧ P_M_spill a1 σ ∧ ∀ (σ' : qS), Q_M_spill a1 σ σ' → K st ls σ'
  | _ => False
def rm_M_spill : Room := { frames := 0, cells := 0, slots := 0, locals := 0 }
theorem fl_M_156 : qF R_M 900 0 82 0 R_M F_M 156 68 := ⟨Or.inl ⟨rfl, rfl, rfl, rfl, rfl, rfl⟩, by decide, lw_at 146 (by decide +kernel) rfl⟩
theorem fl_M_159 : qF R_M 900 0 82 0 R_M F_M 159 69 := ⟨Or.inl ⟨rfl, rfl, rfl, rfl, rfl, rfl⟩, by decide, lw_at 147 (by decide +kernel) rfl⟩
theorem fl_M_165 : qF R_M 900 0 82 0 R_M F_M 165 71 := ⟨Or.inl ⟨rfl, rfl, rfl, rfl, rfl, rfl⟩, by decide, lw_at 149 (by decide +kernel) rfl⟩
theorem fl_M_168 : qF R_M 900 0 82 0 R_M F_M 168 72 := ⟨Or.inl ⟨rfl, rfl, rfl, rfl, rfl, rfl⟩, by decide, lw_at 150 (by decide +kernel) rfl⟩
theorem fl_M_174 : qF R_M 900 0 82 0 R_M F_M 174 74 := ⟨Or.inl ⟨rfl, rfl, rfl, rfl, rfl, rfl⟩, by decide, lw_at 152 (by decide +kernel) rfl⟩
def k_M_spill_244 (QR : Option qA → qS → Prop) (H : Nat → qP) : qP :=
  o_al 0 <| o_gA 900 73 <| o_il 1 <| o_dup2 <| o_iak 73 6 <| o_c (.inl 1) <| o_bi z_add <| o_isk 73 6 <| o_al 0 <| o_gA 900 74 <| o_il 4 <| o_c (.inl 1) <| o_bi z_add <| o_al 0 <| o_gA 900 70 <| o_il 1 <| o_iak 70 6 <| o_isk 74 390 <| o_al 0 <| o_gA 900 67 <| o_il 1 <| o_c (.inl 0) <| o_isk 67 6 <| o_rv QR
def k_M_spill_178 (QR : Option qA → qS → Prop) (H : Nat → qP) : qP :=
  o_al 0 <| o_gA 900 71 <| o_il 1 <| o_c (.inl 64) <| o_bi z_mul <| o_al 0 <| o_gA 900 70 <| o_il 1 <| o_iak 70 6 <| o_bi z_add <| o_al 0 <| o_gA 900 68 <| o_il 3 <| o_il 5 <| o_bi z_add <| o_jak 68 48 <| o_jsk 71 384 <| o_al 0 <| o_gA 900 72 <| o_il 1 <| o_c (.inl 64) <| o_bi z_mul <| o_al 0 <| o_gA 900 70 <| o_il 1 <| o_iak 70 6 <| o_bi z_add <| o_al 0 <| o_gA 900 69 <| o_il 3 <| o_il 5 <| o_bi z_add <| o_jak 69 48 <| o_jsk 72 384 <| o_al 0 <| o_gA 900 70 <| o_il 1 <| o_dup2 <| o_iak 70 6 <| o_c (.inl 1) <| o_bi z_add <| o_isk 70 6 <| o_inc 5 1 <| H 172
def k_M_spill_172 (QR : Option qA → qS → Prop) (H : Nat → qP) : qP :=
  o_il 5 <| o_il 2 <| o_i2 (fun a b => b ≤ a) (k_M_spill_244 QR H) (k_M_spill_178 QR H)
def k_M_spill_143 (QR : Option qA → qS → Prop) (H : Nat → qP) : qP :=
  o_il 1 <| o_c (.inl 65) <| o_bi z_mul <| o_al 0 <| o_gA 900 73 <| o_il 1 <| o_iak 73 6 <| o_bi z_add <| o_is 4 <| o_al 0 <| o_gA 900 74 <| o_il 4 <| o_al 0 <| o_gA 900 70 <| o_il 1 <| o_iak 70 6 <| o_isk 74 390 <| o_c (.inl 0) <| o_is 5 <| H 172
def k_M_spill_115 (QR : Option qA → qS → Prop) (H : Nat → qP) : qP :=
  o_al 0 <| o_gA 900 68 <| o_il 3 <| o_il 9 <| o_bi z_add <| o_ll 5 <| o_jsk 68 48 <| o_al 0 <| o_gA 900 69 <| o_il 3 <| o_il 9 <| o_bi z_add <| o_ll 7 <| o_jsk 69 48 <| o_inc 4 1 <| H 15
def k_M_spill_69 (QR : Option qA → qS → Prop) (H : Nat → qP) : qP :=
  o_al 0 <| o_gA 900 68 <| o_il 3 <| o_il 9 <| o_bi z_add <| o_al 0 <| o_gA 900 68 <| o_il 3 <| o_il 9 <| o_bi z_add <| o_c (.inl 1) <| o_bi z_sub <| o_jak 68 48 <| o_jsk 68 48 <| o_al 0 <| o_gA 900 69 <| o_il 3 <| o_il 9 <| o_bi z_add <| o_al 0 <| o_gA 900 69 <| o_il 3 <| o_il 9 <| o_bi z_add <| o_c (.inl 1) <| o_bi z_sub <| o_jak 69 48 <| o_jsk 69 48 <| o_inc 9 (-1) <| H 47
def k_M_spill_52 (QR : Option qA → qS → Prop) (H : Nat → qP) : qP :=
  o_al 0 <| o_gA 900 68 <| o_il 3 <| o_il 9 <| o_bi z_add <| o_c (.inl 1) <| o_bi z_sub <| o_jak 68 48 <| o_ll 5 <| o_l2 (fun a b => a ≤ b) (k_M_spill_115 QR H) (k_M_spill_69 QR H)
def k_M_spill_47 (QR : Option qA → qS → Prop) (H : Nat → qP) : qP :=
  o_il 9 <| o_if (fun a => a ≤ 0) (k_M_spill_115 QR H) (k_M_spill_52 QR H)
def k_M_spill_21 (QR : Option qA → qS → Prop) (H : Nat → qP) : qP :=
  o_al 0 <| o_gA 900 68 <| o_il 3 <| o_il 4 <| o_bi z_add <| o_jak 68 48 <| o_ls 5 <| o_al 0 <| o_gA 900 69 <| o_il 3 <| o_il 4 <| o_bi z_add <| o_jak 69 48 <| o_ls 7 <| o_il 4 <| o_is 9 <| H 47
def k_M_spill_15 (QR : Option qA → qS → Prop) (H : Nat → qP) : qP :=
  o_il 4 <| o_il 2 <| o_i2 (fun a b => b ≤ a) (H 143) (k_M_spill_21 QR H)
def k_M_spill_0 (QR : Option qA → qS → Prop) (H : Nat → qP) : qP :=
  o_al 0 <| o_gA 900 67 <| o_il 1 <| o_iak 67 6 <| o_is 2 <| o_il 1 <| o_c (.inl 8) <| o_bi z_mul <| o_is 3 <| o_c (.inl 1) <| o_is 4 <| H 15
set_option maxRecDepth 8000 in
theorem s_M_spill_244 {l : Launch} {ad : Nat → Nat} {D : va_G} {cA : Nat → ClassId} {WW : Nat → qP} {QR : Option qA → qS → Prop} (S : qSnd l rm_M_spill ad D cA R_M b_M_spill 10 WW) (Q : qRet (none) b_M_spill WW QR) : qle (k_M_spill_244 QR WW) WW 244 :=
  S.aload_n d_M_spill_244 rfl <| S.gA fl_M_171 (by decide) d_M_spill_245 <| S.iload_n d_M_spill_248 rfl <| S.dup2 d_M_spill_249 <| S.iak (by decide) d_M_spill_250 <| S.iconst d_M_spill_251 (by decide) <| S.iadd d_M_spill_252 <| S.isk (by decide) d_M_spill_253 <| S.aload_n d_M_spill_254 rfl <| S.gA fl_M_174 (by decide) d_M_spill_255 <| S.iload d_M_spill_258 <| S.iconst d_M_spill_260 (by decide) <| S.iadd d_M_spill_261 <| S.aload_n d_M_spill_262 rfl <| S.gA fl_M_162 (by decide) d_M_spill_263 <| S.iload_n d_M_spill_266 rfl <| S.iak (by decide) d_M_spill_267 <| S.isk (by decide) d_M_spill_268 <| S.aload_n d_M_spill_269 rfl <| S.gA fl_M_153 (by decide) d_M_spill_270 <| S.iload_n d_M_spill_273 rfl <| S.iconst d_M_spill_274 (by decide) <| S.isk (by decide) d_M_spill_275 <| Q.2.2.2 rfl _ d_M_spill_276
set_option maxRecDepth 8000 in
theorem s_M_spill_178 {l : Launch} {ad : Nat → Nat} {D : va_G} {cA : Nat → ClassId} {WW : Nat → qP} {QR : Option qA → qS → Prop} (S : qSnd l rm_M_spill ad D cA R_M b_M_spill 10 WW) (Q : qRet (none) b_M_spill WW QR) : qle (k_M_spill_178 QR WW) WW 178 :=
  S.aload_n d_M_spill_178 rfl <| S.gA fl_M_165 (by decide) d_M_spill_179 <| S.iload_n d_M_spill_182 rfl <| S.bipush d_M_spill_183 (by decide) <| S.imul d_M_spill_185 <| S.aload_n d_M_spill_186 rfl <| S.gA fl_M_162 (by decide) d_M_spill_187 <| S.iload_n d_M_spill_190 rfl <| S.iak (by decide) d_M_spill_191 <| S.iadd d_M_spill_192 <| S.aload_n d_M_spill_193 rfl <| S.gA fl_M_156 (by decide) d_M_spill_194 <| S.iload_n d_M_spill_197 rfl <| S.iload d_M_spill_198 <| S.iadd d_M_spill_200 <| S.jak (by decide) d_M_spill_201 <| S.jsk (by decide) d_M_spill_202 <| S.aload_n d_M_spill_203 rfl <| S.gA fl_M_168 (by decide) d_M_spill_204 <| S.iload_n d_M_spill_207 rfl <| S.bipush d_M_spill_208 (by decide) <| S.imul d_M_spill_210 <| S.aload_n d_M_spill_211 rfl <| S.gA fl_M_162 (by decide) d_M_spill_212 <| S.iload_n d_M_spill_215 rfl <| S.iak (by decide) d_M_spill_216 <| S.iadd d_M_spill_217 <| S.aload_n d_M_spill_218 rfl <| S.gA fl_M_159 (by decide) d_M_spill_219 <| S.iload_n d_M_spill_222 rfl <| S.iload d_M_spill_223 <| S.iadd d_M_spill_225 <| S.jak (by decide) d_M_spill_226 <| S.jsk (by decide) d_M_spill_227 <| S.aload_n d_M_spill_228 rfl <| S.gA fl_M_162 (by decide) d_M_spill_229 <| S.iload_n d_M_spill_232 rfl <| S.dup2 d_M_spill_233 <| S.iak (by decide) d_M_spill_234 <| S.iconst d_M_spill_235 (by decide) <| S.iadd d_M_spill_236 <| S.isk (by decide) d_M_spill_237 <| S.iinc d_M_spill_238 (by decide) <| S.goto d_M_spill_241 (by decide) (fun _ _ _ h => h)
set_option maxRecDepth 8000 in
theorem s_M_spill_172 {l : Launch} {ad : Nat → Nat} {D : va_G} {cA : Nat → ClassId} {WW : Nat → qP} {QR : Option qA → qS → Prop} (S : qSnd l rm_M_spill ad D cA R_M b_M_spill 10 WW) (Q : qRet (none) b_M_spill WW QR) : qle (k_M_spill_172 QR WW) WW 172 :=
  S.iload d_M_spill_172 <| S.iload_n d_M_spill_174 rfl <| S.icmp_ge d_M_spill_175 (by decide) (s_M_spill_244 S Q) (s_M_spill_178 S Q)
set_option maxRecDepth 8000 in
theorem s_M_spill_143 {l : Launch} {ad : Nat → Nat} {D : va_G} {cA : Nat → ClassId} {WW : Nat → qP} {QR : Option qA → qS → Prop} (S : qSnd l rm_M_spill ad D cA R_M b_M_spill 10 WW) (Q : qRet (none) b_M_spill WW QR) : qle (k_M_spill_143 QR WW) WW 143 :=
  S.iload_n d_M_spill_143 rfl <| S.bipush d_M_spill_144 (by decide) <| S.imul d_M_spill_146 <| S.aload_n d_M_spill_147 rfl <| S.gA fl_M_171 (by decide) d_M_spill_148 <| S.iload_n d_M_spill_151 rfl <| S.iak (by decide) d_M_spill_152 <| S.iadd d_M_spill_153 <| S.istore d_M_spill_154 (by decide) <| S.aload_n d_M_spill_156 rfl <| S.gA fl_M_174 (by decide) d_M_spill_157 <| S.iload d_M_spill_160 <| S.aload_n d_M_spill_162 rfl <| S.gA fl_M_162 (by decide) d_M_spill_163 <| S.iload_n d_M_spill_166 rfl <| S.iak (by decide) d_M_spill_167 <| S.isk (by decide) d_M_spill_168 <| S.iconst d_M_spill_169 (by decide) <| S.istore d_M_spill_170 (by decide) <| (fun _ _ _ h => h)
set_option maxRecDepth 8000 in
theorem s_M_spill_115 {l : Launch} {ad : Nat → Nat} {D : va_G} {cA : Nat → ClassId} {WW : Nat → qP} {QR : Option qA → qS → Prop} (S : qSnd l rm_M_spill ad D cA R_M b_M_spill 10 WW) (Q : qRet (none) b_M_spill WW QR) : qle (k_M_spill_115 QR WW) WW 115 :=
  S.aload_n d_M_spill_115 rfl <| S.gA fl_M_156 (by decide) d_M_spill_116 <| S.iload_n d_M_spill_119 rfl <| S.iload d_M_spill_120 <| S.iadd d_M_spill_122 <| S.lload d_M_spill_123 <| S.jsk (by decide) d_M_spill_125 <| S.aload_n d_M_spill_126 rfl <| S.gA fl_M_159 (by decide) d_M_spill_127 <| S.iload_n d_M_spill_130 rfl <| S.iload d_M_spill_131 <| S.iadd d_M_spill_133 <| S.lload d_M_spill_134 <| S.jsk (by decide) d_M_spill_136 <| S.iinc d_M_spill_137 (by decide) <| S.goto d_M_spill_140 (by decide) (fun _ _ _ h => h)
set_option maxRecDepth 8000 in
theorem s_M_spill_69 {l : Launch} {ad : Nat → Nat} {D : va_G} {cA : Nat → ClassId} {WW : Nat → qP} {QR : Option qA → qS → Prop} (S : qSnd l rm_M_spill ad D cA R_M b_M_spill 10 WW) (Q : qRet (none) b_M_spill WW QR) : qle (k_M_spill_69 QR WW) WW 69 :=
  S.aload_n d_M_spill_69 rfl <| S.gA fl_M_156 (by decide) d_M_spill_70 <| S.iload_n d_M_spill_73 rfl <| S.iload d_M_spill_74 <| S.iadd d_M_spill_76 <| S.aload_n d_M_spill_77 rfl <| S.gA fl_M_156 (by decide) d_M_spill_78 <| S.iload_n d_M_spill_81 rfl <| S.iload d_M_spill_82 <| S.iadd d_M_spill_84 <| S.iconst d_M_spill_85 (by decide) <| S.isub d_M_spill_86 <| S.jak (by decide) d_M_spill_87 <| S.jsk (by decide) d_M_spill_88 <| S.aload_n d_M_spill_89 rfl <| S.gA fl_M_159 (by decide) d_M_spill_90 <| S.iload_n d_M_spill_93 rfl <| S.iload d_M_spill_94 <| S.iadd d_M_spill_96 <| S.aload_n d_M_spill_97 rfl <| S.gA fl_M_159 (by decide) d_M_spill_98 <| S.iload_n d_M_spill_101 rfl <| S.iload d_M_spill_102 <| S.iadd d_M_spill_104 <| S.iconst d_M_spill_105 (by decide) <| S.isub d_M_spill_106 <| S.jak (by decide) d_M_spill_107 <| S.jsk (by decide) d_M_spill_108 <| S.iinc d_M_spill_109 (by decide) <| S.goto d_M_spill_112 (by decide) (fun _ _ _ h => h)
set_option maxRecDepth 8000 in
theorem s_M_spill_52 {l : Launch} {ad : Nat → Nat} {D : va_G} {cA : Nat → ClassId} {WW : Nat → qP} {QR : Option qA → qS → Prop} (S : qSnd l rm_M_spill ad D cA R_M b_M_spill 10 WW) (Q : qRet (none) b_M_spill WW QR) : qle (k_M_spill_52 QR WW) WW 52 :=
  S.aload_n d_M_spill_52 rfl <| S.gA fl_M_156 (by decide) d_M_spill_53 <| S.iload_n d_M_spill_56 rfl <| S.iload d_M_spill_57 <| S.iadd d_M_spill_59 <| S.iconst d_M_spill_60 (by decide) <| S.isub d_M_spill_61 <| S.jak (by decide) d_M_spill_62 <| S.lload d_M_spill_63 <| S.lcmp_le d_M_spill_65 d_M_spill_66 (by decide) (s_M_spill_115 S Q) (s_M_spill_69 S Q)
set_option maxRecDepth 8000 in
theorem s_M_spill_47 {l : Launch} {ad : Nat → Nat} {D : va_G} {cA : Nat → ClassId} {WW : Nat → qP} {QR : Option qA → qS → Prop} (S : qSnd l rm_M_spill ad D cA R_M b_M_spill 10 WW) (Q : qRet (none) b_M_spill WW QR) : qle (k_M_spill_47 QR WW) WW 47 :=
  S.iload d_M_spill_47 <| S.if_le d_M_spill_49 (by decide) (s_M_spill_115 S Q) (s_M_spill_52 S Q)
set_option maxRecDepth 8000 in
theorem s_M_spill_21 {l : Launch} {ad : Nat → Nat} {D : va_G} {cA : Nat → ClassId} {WW : Nat → qP} {QR : Option qA → qS → Prop} (S : qSnd l rm_M_spill ad D cA R_M b_M_spill 10 WW) (Q : qRet (none) b_M_spill WW QR) : qle (k_M_spill_21 QR WW) WW 21 :=
  S.aload_n d_M_spill_21 rfl <| S.gA fl_M_156 (by decide) d_M_spill_22 <| S.iload_n d_M_spill_25 rfl <| S.iload d_M_spill_26 <| S.iadd d_M_spill_28 <| S.jak (by decide) d_M_spill_29 <| S.lstore d_M_spill_30 (by decide) <| S.aload_n d_M_spill_32 rfl <| S.gA fl_M_159 (by decide) d_M_spill_33 <| S.iload_n d_M_spill_36 rfl <| S.iload d_M_spill_37 <| S.iadd d_M_spill_39 <| S.jak (by decide) d_M_spill_40 <| S.lstore d_M_spill_41 (by decide) <| S.iload d_M_spill_43 <| S.istore d_M_spill_45 (by decide) <| (fun _ _ _ h => h)
set_option maxRecDepth 8000 in
theorem s_M_spill_15 {l : Launch} {ad : Nat → Nat} {D : va_G} {cA : Nat → ClassId} {WW : Nat → qP} {QR : Option qA → qS → Prop} (S : qSnd l rm_M_spill ad D cA R_M b_M_spill 10 WW) (Q : qRet (none) b_M_spill WW QR) : qle (k_M_spill_15 QR WW) WW 15 :=
  S.iload d_M_spill_15 <| S.iload_n d_M_spill_17 rfl <| S.icmp_ge d_M_spill_18 (by decide) (fun _ _ _ h => h) (s_M_spill_21 S Q)
set_option maxRecDepth 8000 in
theorem s_M_spill_0 {l : Launch} {ad : Nat → Nat} {D : va_G} {cA : Nat → ClassId} {WW : Nat → qP} {QR : Option qA → qS → Prop} (S : qSnd l rm_M_spill ad D cA R_M b_M_spill 10 WW) (Q : qRet (none) b_M_spill WW QR) : qle (k_M_spill_0 QR WW) WW 0 :=
  S.aload_n d_M_spill_0 rfl <| S.gA fl_M_153 (by decide) d_M_spill_1 <| S.iload_n d_M_spill_4 rfl <| S.iak (by decide) d_M_spill_5 <| S.istore_n d_M_spill_6 rfl (by decide) <| S.iload_n d_M_spill_7 rfl <| S.bipush d_M_spill_8 (by decide) <| S.imul d_M_spill_10 <| S.istore_n d_M_spill_11 rfl (by decide) <| S.iconst d_M_spill_12 (by decide) <| S.istore d_M_spill_13 (by decide) <| (fun _ _ _ h => h)
def spC (σ : qS) (w n : Int) (k : Int) : qS := su (ra (ra σ 71 (w * 64 + σ 70 w) (w * 64 + σ 70 w + k) (fun i => σ 68 (w * 8 + (i - (w * 64 + σ 70 w))))) 72 (w * 64 + σ 70 w) (w * 64 + σ 70 w + k) (fun i => σ 69 (w * 8 + (i - (w * 64 + σ 70 w))))) 70 w (σ 70 w + k)
theorem v_M_spill_172 {l : Launch} {ad : Nat → Nat} {D : va_G} {cA : Nat → ClassId} {WW : Nat → qP} {QR : Option qA → qS → Prop} (S : qSnd l rm_M_spill ad D cA R_M b_M_spill 10 WW) (Q : qRet (none) b_M_spill WW QR) (σ : qS) (w n run : Int) (hw : 0 ≤ w ∧ w < 6) (hn : 0 ≤ n ∧ n ≤ 8) (hsp : 0 ≤ σ 70 w ∧ σ 70 w + n ≤ 64) (hrun : 0 ≤ run ∧ run < 389) (hr : 0 ≤ σ 73 w ∧ σ 73 w < 64) (hq : QR none (su (su (su (spC σ w n n) 73 w (σ 73 w + 1)) 74 (run + 1) (σ 70 w + n)) 67 w 0)) :
    ∀ (m k : Nat), ((k + m : Nat) : Int) = n → WW 172 [] [some (.inr (.inr 900)), some (.inl w), some (.inl n), some (.inl (w * 8)), some (.inl run), some (.inl k), none, none, none, none] (spC σ w n k) := by
  intro m
  induction m with
  | zero =>
    intro k hk
    refine s_M_spill_172 S Q _ _ _ ?_
    simp only [k_M_spill_0, k_M_spill_15, k_M_spill_21, k_M_spill_47, k_M_spill_52, k_M_spill_69, k_M_spill_115, k_M_spill_143, k_M_spill_172, k_M_spill_178, k_M_spill_244, o_c, o_il, o_ll, o_al, o_is, o_as, o_ls, o_inc, o_bi, o_bid, o_bl, o_bld, o_sl, o_i2l, o_l2i, o_dup, o_dup2, o_pop, o_pop2, o_if, o_i2, o_l2, swg, o_sw, o_gI, o_gZ, o_gJ, o_gA, o_gR, o_pI, o_pZ, o_pJ, o_pR, o_ia, o_iak, o_zak, o_ja, o_jak, o_is_, o_isk, o_zsk, o_js_, o_jsk, o_len, o_ri, o_rz, o_rl, o_rv, ls1, ls2, lks, lkj, List.getD_cons_zero, List.getD_cons_succ, List.set_cons_zero, List.set_cons_succ, qcat, true_and, and_true, List.map_nil, List.map_cons, List.sum_nil, List.sum_cons, Nat.reduceAdd, Nat.reduceLeDiff, Nat.zero_le, Int.reduceAdd, Int.reduceNeg, Int.reduceEq, or_true, true_or, Decidable.not_not, false_implies, not_false_eq_true, true_implies, not_true_eq_false, Int.reduceLT, Int.reduceLE]
    refine ⟨fun _ => ?_, fun h => by omega⟩
    have e0 : (k : Int) = n := by omega
    rw [e0]
    have e1 : spC σ w n n 73 = σ 73 := by unfold spC; simp (disch := omega) only [su_k, ra_k]
    have e2 : spC σ w n n 70 w = σ 70 w + n := by unfold spC; rw [su_s]
    rw [su_k (by decide), e1, e2]
    have e3 : z_add (σ 73 w) 1 = σ 73 w + 1 := by unfold z_add; exact w32_i _ (by omega) (by omega)
    have e4 : z_add run 1 = run + 1 := by unfold z_add; exact w32_i _ (by omega) (by omega)
    rw [e3, e4]
    exact ⟨hw, hw, hw, by omega, hw, hq⟩
  | succ m ih =>
    intro k hk
    refine s_M_spill_172 S Q _ _ _ ?_
    simp only [k_M_spill_0, k_M_spill_15, k_M_spill_21, k_M_spill_47, k_M_spill_52, k_M_spill_69, k_M_spill_115, k_M_spill_143, k_M_spill_172, k_M_spill_178, k_M_spill_244, o_c, o_il, o_ll, o_al, o_is, o_as, o_ls, o_inc, o_bi, o_bid, o_bl, o_bld, o_sl, o_i2l, o_l2i, o_dup, o_dup2, o_pop, o_pop2, o_if, o_i2, o_l2, swg, o_sw, o_gI, o_gZ, o_gJ, o_gA, o_gR, o_pI, o_pZ, o_pJ, o_pR, o_ia, o_iak, o_zak, o_ja, o_jak, o_is_, o_isk, o_zsk, o_js_, o_jsk, o_len, o_ri, o_rz, o_rl, o_rv, ls1, ls2, lks, lkj, List.getD_cons_zero, List.getD_cons_succ, List.set_cons_zero, List.set_cons_succ, qcat, true_and, and_true, List.map_nil, List.map_cons, List.sum_nil, List.sum_cons, Nat.reduceAdd, Nat.reduceLeDiff, Nat.zero_le, Int.reduceAdd, Int.reduceNeg, Int.reduceEq, or_true, true_or, Decidable.not_not, false_implies, not_false_eq_true, true_implies, not_true_eq_false, Int.reduceLT, Int.reduceLE]
    have e2 : spC σ w n k 70 w = σ 70 w + k := by unfold spC; rw [su_s]
    have e1 : spC σ w n k 68 = σ 68 := by unfold spC; simp (disch := omega) only [su_k, ra_k]
    have e5 : spC σ w n k 69 = σ 69 := by unfold spC; simp (disch := omega) only [su_k, ra_k]
    simp (disch := omega) only [su_k]
    rw [e2, e1, e5]
    have e3 : z_add (z_mul w 64) (σ 70 w + k) = w * 64 + σ 70 w + k := by unfold z_add z_mul; rw [w32_i (w * 64) (by omega) (by omega), w32_i _ (by omega) (by omega)]; omega
    have e4 : z_add (w * 8) k = w * 8 + k := by unfold z_add; exact w32_i _ (by omega) (by omega)
    have e6 : z_add (σ 70 w + k) 1 = σ 70 w + ((k + 1 : Nat) : Int) := by unfold z_add; rw [w32_i _ (by omega) (by omega)]; omega
    rw [e3, e4, e6, w32_i _ (by omega) (by omega)]
    refine ⟨fun h => by omega, fun _ => ⟨hw, by omega, by omega, hw, by omega, by omega, hw, hw, ?_⟩⟩
    have e7 : su (su (su (spC σ w n k) 71 (w * 64 + σ 70 w + k) (σ 68 (w * 8 + k))) 72 (w * 64 + σ 70 w + k) (σ 69 (w * 8 + k))) 70 w (σ 70 w + ((k + 1 : Nat) : Int)) = spC σ w n ((k + 1 : Nat) : Int) := by
      unfold spC
      rw [su_cm (k := 70) (k' := 71) (by decide), su_cm (k := 70) (k' := 72) (by decide), su_ow, su_ra (by decide), ra_s (by omega) (by congr 1; omega), ra_s (by omega) (by congr 1; omega)]
      rw [show w * 64 + σ 70 w + (k : Int) + 1 = w * 64 + σ 70 w + ((k + 1 : Nat) : Int) by omega]
    rw [e7]
    exact ih (k + 1) (by omega)
theorem v_M_spill_143 {l : Launch} {ad : Nat → Nat} {D : va_G} {cA : Nat → ClassId} {WW : Nat → qP} {QR : Option qA → qS → Prop} (S : qSnd l rm_M_spill ad D cA R_M b_M_spill 10 WW) (Q : qRet (none) b_M_spill WW QR) (σ0 σ : qS) (w : Int) (hp : P_M_spill w σ0) (hF : ∀ k, k ∉ [68, 69] → σ k = σ0 k) (hB : ∀ j, (j < w * 8 ∨ w * 8 + 8 ≤ j) → σ 68 j = σ0 68 j ∧ σ 69 j = σ0 69 j) (hS : row σ 68 69 (w * 8) (σ0 67 w).toNat = srt (row σ0 68 69 (w * 8) (σ0 67 w).toNat)) (hq : ∀ σ', Q_M_spill w σ0 σ' → QR none σ') :
    WW 143 [] [some (.inr (.inr 900)), some (.inl w), some (.inl (σ0 67 w)), some (.inl (w * 8)), none, none, none, none, none, none] σ := by
  obtain ⟨hw, hn, hr, hsp0, hsp1⟩ := hp
  refine s_M_spill_143 S Q _ _ _ ?_
  simp only [k_M_spill_0, k_M_spill_15, k_M_spill_21, k_M_spill_47, k_M_spill_52, k_M_spill_69, k_M_spill_115, k_M_spill_143, k_M_spill_172, k_M_spill_178, k_M_spill_244, o_c, o_il, o_ll, o_al, o_is, o_as, o_ls, o_inc, o_bi, o_bid, o_bl, o_bld, o_sl, o_i2l, o_l2i, o_dup, o_dup2, o_pop, o_pop2, o_if, o_i2, o_l2, swg, o_sw, o_gI, o_gZ, o_gJ, o_gA, o_gR, o_pI, o_pZ, o_pJ, o_pR, o_ia, o_iak, o_zak, o_ja, o_jak, o_is_, o_isk, o_zsk, o_js_, o_jsk, o_len, o_ri, o_rz, o_rl, o_rv, ls1, ls2, lks, lkj, List.getD_cons_zero, List.getD_cons_succ, List.set_cons_zero, List.set_cons_succ, qcat, true_and, and_true, List.map_nil, List.map_cons, List.sum_nil, List.sum_cons, Nat.reduceAdd, Nat.reduceLeDiff, Nat.zero_le, Int.reduceAdd, Int.reduceNeg, Int.reduceEq, or_true, true_or, Decidable.not_not, false_implies, not_false_eq_true, true_implies, not_true_eq_false, Int.reduceLT, Int.reduceLE]
  have er : σ 73 = σ0 73 := hF _ (by decide)
  have es : σ 70 = σ0 70 := hF _ (by decide)
  have e1 : z_add (z_mul w 65) (σ 73 w) = w * 65 + σ0 73 w := by rw [er]; unfold z_add z_mul; rw [w32_i (w * 65) (by omega) (by omega), w32_i _ (by omega) (by omega)]
  rw [e1, es]
  refine ⟨hw, hw, by omega, ?_⟩
  generalize hT : su σ 74 (w * 65 + σ0 73 w) (σ0 70 w) = σ1
  have f1 : ∀ k, k ∉ [68, 69, 74] → σ1 k = σ0 k := fun k hk => by
    rw [← hT, su_k (by intro e; subst e; exact hk (by decide))]; exact hF k (fun e => hk (by simp only [List.mem_cons, List.not_mem_nil, or_false] at e ⊢; omega))
  have f2 : σ1 68 = σ 68 ∧ σ1 69 = σ 69 := by rw [← hT]; exact ⟨su_k (by decide), su_k (by decide)⟩
  have s1 : σ1 70 = σ0 70 := f1 _ (by decide)
  have s2 : σ1 73 = σ0 73 := f1 _ (by decide)
  have := v_M_spill_172 S Q σ1 w (σ0 67 w) (w * 65 + σ0 73 w) hw hn (by rw [s1]; omega) (by omega) (by rw [s2]; exact hr) ?_ (σ0 67 w).toNat 0 (by omega)
  · have e0 : spC σ1 w (σ0 67 w) ((0 : Nat) : Int) = σ1 := by
      unfold spC; rw [ra_0 (by simp), ra_0 (by simp), su_id (by simp)]
    rw [e0] at this
    exact this
  · apply hq
    rw [s1, s2]
    have hk : ∀ k, k ∉ [71, 72, 70] → spC σ1 w (σ0 67 w) (σ0 67 w) k = σ1 k := fun k hk => by
      unfold spC; rw [su_k (by intro e; subst e; exact hk (by decide)), ra_k (by intro e; subst e; exact hk (by decide)), ra_k (by intro e; subst e; exact hk (by decide))]
    have hsk : ∀ j, spC σ1 w (σ0 67 w) (σ0 67 w) 71 j = if w * 64 + σ0 70 w ≤ j ∧ j < w * 64 + σ0 70 w + σ0 67 w then σ 68 (w * 8 + (j - (w * 64 + σ0 70 w))) else σ0 71 j := fun j => by
      unfold spC; rw [su_k (by decide), ra_k (by decide), ra_e, s1, f2.1, f1 _ (by decide)]
    have hsv : ∀ j, spC σ1 w (σ0 67 w) (σ0 67 w) 72 j = if w * 64 + σ0 70 w ≤ j ∧ j < w * 64 + σ0 70 w + σ0 67 w then σ 69 (w * 8 + (j - (w * 64 + σ0 70 w))) else σ0 72 j := fun j => by
      unfold spC; rw [su_k (by decide), ra_e, ra_k (by decide), s1, f2.2, f1 _ (by decide)]
    have hss : ∀ j, spC σ1 w (σ0 67 w) (σ0 67 w) 70 j = if j = w then σ0 70 w + σ0 67 w else σ0 70 j := fun j => by
      unfold spC; rw [su_e, ra_k (by decide), ra_k (by decide), s1]
    generalize hT2 : spC σ1 w (σ0 67 w) (σ0 67 w) = σ2 at *
    refine ⟨⟨fun k hk' => ?_, fun j hj => ?_, fun j hj => ⟨?_, ?_, ?_⟩, fun j hj => ?_, fun j hj => ⟨?_, ?_⟩⟩, ?_, ?_, su_s, fun j j1 j2 => ?_, ?_, ?_, fun j hj => ⟨?_, ?_⟩, ?_⟩
    · rw [su_k (by intro e; subst e; exact hk' (by decide)), su_k (by intro e; subst e; exact hk' (by decide)), su_k (by intro e; subst e; exact hk' (by decide)), hk k (fun e => hk' (by simp only [List.mem_cons, List.not_mem_nil, or_false] at e ⊢; omega)), f1 k (fun e => hk' (by simp only [List.mem_cons, List.not_mem_nil, or_false] at e ⊢; omega))]
    · simp (disch := omega) only [su_k]
      rw [hk _ (by decide), hk _ (by decide), f2.1, f2.2]; exact hB j hj
    · simp (disch := omega) only [su_k]; rw [hss, if_neg hj]
    · simp (disch := omega) only [su_k]; rw [su_e, if_neg hj, hk _ (by decide), s2]
    · rw [su_e, if_neg hj]; simp (disch := omega) only [su_k]; rw [hk _ (by decide), f1 _ (by decide)]
    · rw [su_k (by decide), su_e, if_neg (by omega), su_k (by decide), hk _ (by decide), ← hT, su_e, if_neg (by omega), hF _ (by decide)]
    · simp (disch := omega) only [su_k]; rw [hsk, if_neg (by omega)]
    · simp (disch := omega) only [su_k]; rw [hsv, if_neg (by omega)]
    · simp (disch := omega) only [su_k]; rw [hss, if_pos rfl]
    · simp (disch := omega) only [su_k, su_s]
    · rw [su_k (by decide), su_e, if_neg (by omega), su_k (by decide), hk _ (by decide), ← hT, su_e, if_neg (by omega), hF _ (by decide)]
    · rw [su_k (by decide), su_e, if_neg (by omega), su_k (by decide), hk _ (by decide), ← hT, su_s]
    · rw [su_k (by decide), su_s]
    · simp (disch := omega) only [su_k]; rw [hsk, if_neg (by omega)]
    · simp (disch := omega) only [su_k]; rw [hsv, if_neg (by omega)]
    · rw [← hS]
      unfold row
      apply List.map_congr_left
      intro i hi
      have := List.mem_range.mp hi
      simp (disch := omega) only [su_k]
      rw [hsk, hsv, if_pos (by omega), if_pos (by omega)]
      rw [show w * 8 + (w * 64 + σ0 70 w + (i : Int) - (w * 64 + σ0 70 w)) = w * 8 + (i : Int) by omega]
theorem v_M_spill_47 {l : Launch} {ad : Nat → Nat} {D : va_G} {cA : Nat → ClassId} {WW : Nat → qP} {QR : Option qA → qS → Prop} (S : qSnd l rm_M_spill ad D cA R_M b_M_spill 10 WW) (Q : qRet (none) b_M_spill WW QR) (σk : qS) (w n : Int) (k : Nat) (x : Pr) (hw : 0 ≤ w ∧ w < 6) (hk : k < 8) (hs : srtd (row σk 68 69 (w * 8) k)) (hq : ∀ (σ' : qS) (i : Nat), i ≤ k → (∀ q, q ∉ [68, 69] → σ' q = σk q) → (∀ j, (j < w * 8 ∨ w * 8 + k < j) → σ' 68 j = σk 68 j ∧ σ' 69 j = σk 69 j) → row σ' 68 69 (w * 8) (k + 1) = (row σk 68 69 (w * 8) k).take i ++ x :: (row σk 68 69 (w * 8) k).drop i → (∀ y ∈ (row σk 68 69 (w * 8) k).drop i, x.1 < y.1) → (∀ y ∈ (row σk 68 69 (w * 8) k).take i, y.1 ≤ x.1) → WW 15 [] [some (.inr (.inr 900)), some (.inl w), some (.inl n), some (.inl (w * 8)), some (.inl ((k + 1 : Nat) : Int)), none, none, none, none, none] σ') :
    ∀ (i : Nat) (σ : qS), i ≤ k → Hol σk σ 68 69 (w * 8) k i → (∀ j : Int, i ≤ j → j < k → x.1 < σk 68 (w * 8 + j)) → WW 47 [] [some (.inr (.inr 900)), some (.inl w), some (.inl n), some (.inl (w * 8)), some (.inl (k : Int)), some (.inr (.inl x.1)), none, some (.inr (.inl x.2)), none, some (.inl (i : Int))] σ := by
  have fin : ∀ (i : Nat) (σ : qS), i ≤ k → Hol σk σ 68 69 (w * 8) k i → (∀ j : Int, i ≤ j → j < k → x.1 < σk 68 (w * 8 + j)) → (i = 0 ∨ σk 68 (w * 8 + i - 1) ≤ x.1) → WW 15 [] [some (.inr (.inr 900)), some (.inl w), some (.inl n), some (.inl (w * 8)), some (.inl ((k + 1 : Nat) : Int)), some (.inr (.inl x.1)), none, some (.inr (.inl x.2)), none, some (.inl (i : Int))] (su (su σ 68 (w * 8 + i) x.1) 69 (w * 8 + i) x.2) := by
    intro i σ hi hH hgt hle
    refine S.fg (ls' := [some (.inr (.inr 900)), some (.inl w), some (.inl n), some (.inl (w * 8)), some (.inl ((k + 1 : Nat) : Int)), none, none, none, none, none]) ⟨rfl, rfl, rfl, rfl, rfl, trivial⟩ ?_
    refine hq _ i hi (fun q hq' => ?_) (fun j hj => ?_) (Hol_end (by decide) hH hi) (drop_ext fun j y hj hy => ?_) (take_ext fun j y hj hy => ?_)
    · rw [su_k (by intro e; subst e; exact hq' (by decide)), su_k (by intro e; subst e; exact hq' (by decide))]
      exact hH.1 q (by intro e; subst e; exact hq' (by decide)) (by intro e; subst e; exact hq' (by decide))
    · rw [su_k (by decide), su_e, su_e, if_neg (by omega), if_neg (by omega), su_k (by decide)]
      exact hH.2.1 j (by omega)
    · by_cases hjk : j < k
      · rw [row_at hjk] at hy; cases hy; exact hgt j (by omega) (by omega)
      · rw [row_no hjk] at hy; cases hy
    · by_cases hjk : j < k
      · rcases hle with h0 | hle
        · omega
        · have h1 := srtd_at hs (i := j) (j := i - 1) (by omega) hy (row_at (by omega))
          have h2 : w * 8 + ((i - 1 : Nat) : Int) = w * 8 + (i : Int) - 1 := by omega
          simp only at h1
          rw [h2] at h1
          omega
      · rw [row_no hjk] at hy; cases hy
  intro i
  induction i with
  | zero =>
    intro σ hi hH hgt
    refine s_M_spill_47 S Q _ _ _ ?_
    simp only [k_M_spill_0, k_M_spill_15, k_M_spill_21, k_M_spill_47, k_M_spill_52, k_M_spill_69, k_M_spill_115, k_M_spill_143, k_M_spill_172, k_M_spill_178, k_M_spill_244, o_c, o_il, o_ll, o_al, o_is, o_as, o_ls, o_inc, o_bi, o_bid, o_bl, o_bld, o_sl, o_i2l, o_l2i, o_dup, o_dup2, o_pop, o_pop2, o_if, o_i2, o_l2, swg, o_sw, o_gI, o_gZ, o_gJ, o_gA, o_gR, o_pI, o_pZ, o_pJ, o_pR, o_ia, o_iak, o_zak, o_ja, o_jak, o_is_, o_isk, o_zsk, o_js_, o_jsk, o_len, o_ri, o_rz, o_rl, o_rv, ls1, ls2, lks, lkj, List.getD_cons_zero, List.getD_cons_succ, List.set_cons_zero, List.set_cons_succ, qcat, true_and, and_true, List.map_nil, List.map_cons, List.sum_nil, List.sum_cons, Nat.reduceAdd, Nat.reduceLeDiff, Nat.zero_le, Int.reduceAdd, Int.reduceNeg, Int.reduceEq, or_true, true_or, Decidable.not_not, false_implies, not_false_eq_true, true_implies, not_true_eq_false, Int.reduceLT, Int.reduceLE]
    have e1 : z_add (w * 8) ((0 : Nat) : Int) = w * 8 + ((0 : Nat) : Int) := by unfold z_add; exact w32_i _ (by omega) (by omega)
    rw [e1]
    refine ⟨fun _ => ⟨by omega, by omega, ?_⟩, fun h => absurd (by simp) h⟩
    have := fin 0 σ hi hH hgt (Or.inl rfl)
    rw [w32_i _ (by omega) (by omega)]
    exact this
  | succ i ih =>
    intro σ hi hH hgt
    refine s_M_spill_47 S Q _ _ _ ?_
    simp only [k_M_spill_0, k_M_spill_15, k_M_spill_21, k_M_spill_47, k_M_spill_52, k_M_spill_69, k_M_spill_115, k_M_spill_143, k_M_spill_172, k_M_spill_178, k_M_spill_244, o_c, o_il, o_ll, o_al, o_is, o_as, o_ls, o_inc, o_bi, o_bid, o_bl, o_bld, o_sl, o_i2l, o_l2i, o_dup, o_dup2, o_pop, o_pop2, o_if, o_i2, o_l2, swg, o_sw, o_gI, o_gZ, o_gJ, o_gA, o_gR, o_pI, o_pZ, o_pJ, o_pR, o_ia, o_iak, o_zak, o_ja, o_jak, o_is_, o_isk, o_zsk, o_js_, o_jsk, o_len, o_ri, o_rz, o_rl, o_rv, ls1, ls2, lks, lkj, List.getD_cons_zero, List.getD_cons_succ, List.set_cons_zero, List.set_cons_succ, qcat, true_and, and_true, List.map_nil, List.map_cons, List.sum_nil, List.sum_cons, Nat.reduceAdd, Nat.reduceLeDiff, Nat.zero_le, Int.reduceAdd, Int.reduceNeg, Int.reduceEq, or_true, true_or, Decidable.not_not, false_implies, not_false_eq_true, true_implies, not_true_eq_false, Int.reduceLT, Int.reduceLE]
    have e1 : z_add (w * 8) ((i + 1 : Nat) : Int) = w * 8 + ((i + 1 : Nat) : Int) := by unfold z_add; exact w32_i _ (by omega) (by omega)
    have e2 : z_sub (w * 8 + ((i + 1 : Nat) : Int)) 1 = w * 8 + ((i + 1 : Nat) : Int) - 1 := by unfold z_sub; exact w32_i _ (by omega) (by omega)
    have e3 : w32 (((i + 1 : Nat) : Int) + -1) = (i : Int) := by rw [w32_i _ (by omega) (by omega)]; omega
    have e5 : w32 ((k : Int) + 1) = ((k + 1 : Nat) : Int) := by rw [w32_i _ (by omega) (by omega)]; omega
    have e4 := hH.2.1 (w * 8 + ((i + 1 : Nat) : Int) - 1) (by omega)
    rw [e1, e2, e3, e5]
    refine ⟨fun h => by omega, fun _ => ⟨by omega, fun hle => ⟨by omega, by omega, ?_⟩, fun hle => ⟨by omega, by omega, by omega, by omega, ?_⟩⟩⟩
    · rw [e4.1] at hle
      exact fin (i + 1) σ hi hH hgt (Or.inr hle)
    · have := Hol_s (by decide) hH (by omega) (by omega)
      refine ih _ (by omega) ?_ (fun j j1 j2 => ?_)
      · rw [show ((i + 1 : Nat) : Int) - 1 = (i : Int) by omega] at this
        exact this
      · by_cases ej : j = i
        · subst ej; rw [e4.1] at hle; rw [show w * 8 + ((i + 1 : Nat) : Int) - 1 = w * 8 + (i : Int) by omega] at hle; omega
        · exact hgt j (by omega) j2
theorem v_M_spill_15 {l : Launch} {ad : Nat → Nat} {D : va_G} {cA : Nat → ClassId} {WW : Nat → qP} {QR : Option qA → qS → Prop} (S : qSnd l rm_M_spill ad D cA R_M b_M_spill 10 WW) (Q : qRet (none) b_M_spill WW QR) (σ0 : qS) (w : Int) (hp : P_M_spill w σ0) (hq : ∀ σ', Q_M_spill w σ0 σ' → QR none σ') :
    ∀ (m k : Nat) (σ : qS), 1 ≤ k → (k ≤ (σ0 67 w).toNat ∨ (σ0 67 w = 0 ∧ k = 1)) → ((k + m : Nat) : Int) = max (σ0 67 w) 1 → (∀ q, q ∉ [68, 69] → σ q = σ0 q) → (∀ j, (j < w * 8 ∨ w * 8 + k ≤ j) → σ 68 j = σ0 68 j ∧ σ 69 j = σ0 69 j) → SS (row σ0 68 69 (w * 8) k) (row σ 68 69 (w * 8) k) →
      WW 15 [] [some (.inr (.inr 900)), some (.inl w), some (.inl (σ0 67 w)), some (.inl (w * 8)), some (.inl (k : Int)), none, none, none, none, none] σ := by
  have hp' := hp
  obtain ⟨hw, hn, hr, hsp⟩ := hp
  intro m
  induction m with
  | zero =>
    intro k σ hk0 hk1 hk hF hB hSS
    refine s_M_spill_15 S Q _ _ _ ?_
    simp only [k_M_spill_0, k_M_spill_15, k_M_spill_21, k_M_spill_47, k_M_spill_52, k_M_spill_69, k_M_spill_115, k_M_spill_143, k_M_spill_172, k_M_spill_178, k_M_spill_244, o_c, o_il, o_ll, o_al, o_is, o_as, o_ls, o_inc, o_bi, o_bid, o_bl, o_bld, o_sl, o_i2l, o_l2i, o_dup, o_dup2, o_pop, o_pop2, o_if, o_i2, o_l2, swg, o_sw, o_gI, o_gZ, o_gJ, o_gA, o_gR, o_pI, o_pZ, o_pJ, o_pR, o_ia, o_iak, o_zak, o_ja, o_jak, o_is_, o_isk, o_zsk, o_js_, o_jsk, o_len, o_ri, o_rz, o_rl, o_rv, ls1, ls2, lks, lkj, List.getD_cons_zero, List.getD_cons_succ, List.set_cons_zero, List.set_cons_succ, qcat, true_and, and_true, List.map_nil, List.map_cons, List.sum_nil, List.sum_cons, Nat.reduceAdd, Nat.reduceLeDiff, Nat.zero_le, Int.reduceAdd, Int.reduceNeg, Int.reduceEq, or_true, true_or, Decidable.not_not, false_implies, not_false_eq_true, true_implies, not_true_eq_false, Int.reduceLT, Int.reduceLE]
    refine ⟨fun _ => ?_, fun h => by omega⟩
    refine S.fg (ls' := [some (.inr (.inr 900)), some (.inl w), some (.inl (σ0 67 w)), some (.inl (w * 8)), none, none, none, none, none, none]) ⟨rfl, rfl, rfl, rfl, trivial⟩ ?_
    refine v_M_spill_143 S Q σ0 σ w hp' hF (fun j hj => hB j (by omega)) ?_ hq
    by_cases h0 : σ0 67 w = 0
    · rw [h0]; rfl
    · rw [show (σ0 67 w).toNat = k by omega]
      exact srt_eq hSS
  | succ m ih =>
    intro k σ hk0 hk1 hk hF hB hSS
    refine s_M_spill_15 S Q _ _ _ ?_
    simp only [k_M_spill_0, k_M_spill_15, k_M_spill_21, k_M_spill_47, k_M_spill_52, k_M_spill_69, k_M_spill_115, k_M_spill_143, k_M_spill_172, k_M_spill_178, k_M_spill_244, o_c, o_il, o_ll, o_al, o_is, o_as, o_ls, o_inc, o_bi, o_bid, o_bl, o_bld, o_sl, o_i2l, o_l2i, o_dup, o_dup2, o_pop, o_pop2, o_if, o_i2, o_l2, swg, o_sw, o_gI, o_gZ, o_gJ, o_gA, o_gR, o_pI, o_pZ, o_pJ, o_pR, o_ia, o_iak, o_zak, o_ja, o_jak, o_is_, o_isk, o_zsk, o_js_, o_jsk, o_len, o_ri, o_rz, o_rl, o_rv, ls1, ls2, lks, lkj, List.getD_cons_zero, List.getD_cons_succ, List.set_cons_zero, List.set_cons_succ, qcat, true_and, and_true, List.map_nil, List.map_cons, List.sum_nil, List.sum_cons, Nat.reduceAdd, Nat.reduceLeDiff, Nat.zero_le, Int.reduceAdd, Int.reduceNeg, Int.reduceEq, or_true, true_or, Decidable.not_not, false_implies, not_false_eq_true, true_implies, not_true_eq_false, Int.reduceLT, Int.reduceLE]
    have e1 : z_add (w * 8) (k : Int) = w * 8 + (k : Int) := by unfold z_add; exact w32_i _ (by omega) (by omega)
    rw [e1]
    refine ⟨fun h => by omega, fun _ => ⟨by omega, by omega, ?_⟩⟩
    refine v_M_spill_47 S Q σ w (σ0 67 w) k (σ 68 (w * 8 + k), σ 69 (w * 8 + k)) hw (by omega) hSS.1 (fun σ' i hi hF' hB' hrow hd ht => ?_) k σ (Nat.le_refl _) Hol_0 (fun j j1 j2 => by omega)
    refine ih (k + 1) σ' (by omega) (by omega) (by omega) (fun q hq' => (hF' q hq').trans (hF q hq')) (fun j hj => ?_) ?_
    · obtain ⟨a1, a2⟩ := hB' j (by omega)
      obtain ⟨b1, b2⟩ := hB j (by omega)
      exact ⟨a1.trans b1, a2.trans b2⟩
    · rw [hrow, row_s σ0]
      have := SS_ins hSS hd ht
      obtain ⟨b1, b2⟩ := hB (w * 8 + k) (by omega)
      rw [b1, b2] at this
      rw [b1, b2]
      exact this
theorem w_M_spill {l : Launch} {ad : Nat → Nat} {D : va_G} {cA : Nat → ClassId} {WW : Nat → qP} {QR : Option qA → qS → Prop} (S : qSnd l rm_M_spill ad D cA R_M b_M_spill 10 WW) (Q : qRet (none) b_M_spill WW QR) (a1 : Int) (σ : qS) (ha1 : r32 a1) (hσ : qoS σ) (h : P_M_spill a1 σ) (hq : ∀ σ', Q_M_spill a1 σ σ' → QR none σ') : WW 0 [] [some (.inr (.inr 900)), some (.inl a1), none, none, none, none, none, none, none, none] σ := by
  refine s_M_spill_0 S Q _ _ _ ?_
  simp only [k_M_spill_0, k_M_spill_15, k_M_spill_21, k_M_spill_47, k_M_spill_52, k_M_spill_69, k_M_spill_115, k_M_spill_143, k_M_spill_172, k_M_spill_178, k_M_spill_244, o_c, o_il, o_ll, o_al, o_is, o_as, o_ls, o_inc, o_bi, o_bid, o_bl, o_bld, o_sl, o_i2l, o_l2i, o_dup, o_dup2, o_pop, o_pop2, o_if, o_i2, o_l2, swg, o_sw, o_gI, o_gZ, o_gJ, o_gA, o_gR, o_pI, o_pZ, o_pJ, o_pR, o_ia, o_iak, o_zak, o_ja, o_jak, o_is_, o_isk, o_zsk, o_js_, o_jsk, o_len, o_ri, o_rz, o_rl, o_rv, ls1, ls2, lks, lkj, List.getD_cons_zero, List.getD_cons_succ, List.set_cons_zero, List.set_cons_succ, qcat, true_and, and_true, List.map_nil, List.map_cons, List.sum_nil, List.sum_cons, Nat.reduceAdd, Nat.reduceLeDiff, Nat.zero_le, Int.reduceAdd, Int.reduceNeg, Int.reduceEq, or_true, true_or, Decidable.not_not, false_implies, not_false_eq_true, true_implies, not_true_eq_false, Int.reduceLT, Int.reduceLE]
  have hp := h
  obtain ⟨hw, hn, hr, hsp⟩ := h
  have e1 : z_mul a1 8 = a1 * 8 := by unfold z_mul; exact w32_i _ (by omega) (by omega)
  rw [e1]
  refine ⟨hw, ?_⟩
  refine v_M_spill_15 S Q σ a1 hp hq ((max (σ 67 a1) 1).toNat - 1) 1 σ (Nat.le_refl _) (by omega) (by omega) (fun _ _ => rfl) (fun _ _ => ⟨rfl, rfl⟩) ⟨?_, fun _ => rfl⟩
  unfold srtd row
  simp [List.range_succ]
theorem c_M_spill (l : Launch) (ad : Nat → Nat) (D : va_G) (cA : Nat → ClassId) : qC l ad D cA y_M_spill (Cond.code y_M_spill b_M_spill 10 (none) :: lw_g) rm_M_spill pre_M_spill post_M_spill := by
  refine qC_of (own := R_M) (by decide) rfl ⟨rfl, rfl⟩ ?_ ?_
  · intro av σ h; unfold pre_M_spill at h; split at h
    · simp [qen]
    · exact h.elim
  · intro WW QR S Q av σ hav hσ h hq; unfold pre_M_spill at h; split at h
    next o a1 =>
      obtain ⟨rfl, h⟩ := h
      exact w_M_spill S Q a1 σ (hav _ (List.mem_of_getElem? (i := 1) rfl)) hσ h (fun σ' h' => hq _ σ' h')
    next => exact h.elim

