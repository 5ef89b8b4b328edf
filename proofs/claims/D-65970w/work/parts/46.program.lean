def P_M_program (_j _w : Int) (σ : qS) : Prop := 0 ≤ σ 5 0 ∧ σ 5 0 ≤ 40
def pwok (σ : qS) (w : Int) : Prop := (0 ≤ w ∧ w ≤ 2) ∧ (0 < σ 5 0 ∨ w = 1)
def pj1 (σ : qS) (k : Int) : Prop := σ 3 k = 15 ∨ σ 3 k = 16 → σ 4 k ≤ σ 5 0
def pjok (σ : qS) : Prop := ∀ k, 0 ≤ k → k < σ 5 0 → pj1 σ k
def pgm (σ : qS) (p k : Int) : qS := ra (ra σ 6 (p * 40) (p * 40 + k) (fun i => σ 3 (i - p * 40))) 7 (p * 40) (p * 40 + k) (fun i => σ 4 (i - p * 40))
def Q_M_program (j w : Int) (σ : qS) (r : Int) (σ' : qS) : Prop := (0 ≤ j ∧ j ≤ 7) ∧ pwok σ w ∧ pjok σ ∧ σ 26 0 = 0 ∧ r = σ 5 0 ∧ σ' = su (su (pgm σ (j * 3 + w) (σ 5 0)) 8 (j * 3 + w) (σ 5 0)) 5 0 0
def T_M_program (j w : Int) (σ : qS) (t : Nat) (σ' : qS) : Prop := σ' = σ ∧ ((¬ (0 ≤ j ∧ j ≤ 7) ∧ t = 2) ∨ ((0 ≤ j ∧ j ≤ 7) ∧ ¬ (pwok σ w ∧ pjok σ) ∧ t = 0) ∨ ((0 ≤ j ∧ j ≤ 7) ∧ pwok σ w ∧ pjok σ ∧ σ 26 0 ≠ 0 ∧ t = 1))
def pre_M_program (av : List qA) (σ : qS) : Prop := match av with
  | [.inr (.inr o), .inl a1, .inl a2] => o = 900 ∧ P_M_program a1 a2 σ
  | _ => False
def post_M_program (av : List qA) (σ : qS) (r : Option qA) (σ' : qS) : Prop := match av, r with
  | [_, .inl a1, .inl a2], some (.inl r) => Q_M_program a1 a2 σ r σ'
  | _, _ => False
def oc_M_program (K : qP) : qP := fun st ls σ => match st with
  | .inl a2 :: .inl a1 :: .inr (.inr o) :: st => o = 900 ∧ (st.map qcat).sum ≤ 8 ∧ P_M_program a1 a2 σ ∧ ∀ (r : Int) (σ' : qS), Q_M_program a1 a2 σ r σ' → K (.inl r :: st) ls σ'
  | _ => False
def pst_M_program (av : List qA) (σ : qS) (t : Nat) (σ' : qS) : Prop := match av with
  | [_, .inl a1, .inl a2] => T_M_program a1 a2 σ t σ'
  | _ => False
def ot_M_program (QT : Nat → qS → Prop) (K : qP) : qP := fun st ls σ => match st with
  | .inl a2 :: .inl a1 :: .inr (.inr o) :: st => o = 900 ∧ (st.map qcat).sum ≤ 8 ∧ P_M_program a1 a2 σ ∧ (∀ (r : Int) (σ' : qS), Q_M_program a1 a2 σ r σ' → K (.inl r :: st) ls σ') ∧ ∀ (t : Nat) (σ' : qS), T_M_program a1 a2 σ t σ' → QT t σ'
  | _ => False
def rm_M_program : Room := { frames := 8, cells := 1, slots := 6, locals := 121 }
def k_M_program_171 (QR : Option qA → qS → Prop) (QT : Nat → qS → Prop) (H : Nat → qP) : qP :=
  o_al 0 <| o_gA 900 8 <| o_il 3 <| o_al 0 <| o_gI 900 5 <| o_isk 8 24 <| o_al 0 <| o_c (.inl 0) <| o_pI 900 5 <| o_al 0 <| o_gA 900 8 <| o_il 3 <| o_iak 8 24 <| o_ri QR
def k_M_program_127 (QR : Option qA → qS → Prop) (QT : Nat → qS → Prop) (H : Nat → qP) : qP :=
  o_al 0 <| o_gA 900 6 <| o_il 3 <| o_c (.inl 40) <| o_bi z_mul <| o_il 4 <| o_bi z_add <| o_al 0 <| o_gA 900 3 <| o_il 4 <| o_iak 3 40 <| o_isk 6 960 <| o_al 0 <| o_gA 900 7 <| o_il 3 <| o_c (.inl 40) <| o_bi z_mul <| o_il 4 <| o_bi z_add <| o_al 0 <| o_gA 900 4 <| o_il 4 <| o_jak 4 40 <| o_jsk 7 960 <| o_inc 4 1 <| H 118
def k_M_program_118 (QR : Option qA → qS → Prop) (QT : Nat → qS → Prop) (H : Nat → qP) : qP :=
  o_il 4 <| o_al 0 <| o_gI 900 5 <| o_i2 (fun a b => b ≤ a) (k_M_program_171 QR QT H) (k_M_program_127 QR QT H)
def k_M_program_105 (QR : Option qA → qS → Prop) (QT : Nat → qS → Prop) (H : Nat → qP) : qP :=
  o_al 0 <| ot_M_notGoing QT <| o_il 1 <| o_c (.inl 3) <| o_bi z_mul <| o_il 2 <| o_bi z_add <| o_is 3 <| o_c (.inl 0) <| o_is 4 <| H 118
def k_M_program_99 (QR : Option qA → qS → Prop) (QT : Nat → qS → Prop) (H : Nat → qP) : qP :=
  o_inc 3 1 <| H 46
def k_M_program_96 (QR : Option qA → qS → Prop) (QT : Nat → qS → Prop) (H : Nat → qP) : qP :=
  ot_M_right QT <| H 99
def k_M_program_95 (QR : Option qA → qS → Prop) (QT : Nat → qS → Prop) (H : Nat → qP) : qP :=
  o_c (.inl 0) <| k_M_program_96 QR QT H
def k_M_program_91 (QR : Option qA → qS → Prop) (QT : Nat → qS → Prop) (H : Nat → qP) : qP :=
  o_c (.inl 1) <| k_M_program_96 QR QT H
def k_M_program_76 (QR : Option qA → qS → Prop) (QT : Nat → qS → Prop) (H : Nat → qP) : qP :=
  o_al 0 <| o_gA 900 4 <| o_il 3 <| o_jak 4 40 <| o_al 0 <| o_gI 900 5 <| o_i2l <| o_l2 (fun a b => b < a) (H 95) (H 91)
def k_M_program_65 (QR : Option qA → qS → Prop) (QT : Nat → qS → Prop) (H : Nat → qP) : qP :=
  o_al 0 <| o_gA 900 3 <| o_il 3 <| o_iak 3 40 <| o_c (.inl 16) <| o_i2 (fun a b => ¬ a = b) (H 91) (k_M_program_76 QR QT H)
def k_M_program_54 (QR : Option qA → qS → Prop) (QT : Nat → qS → Prop) (H : Nat → qP) : qP :=
  o_al 0 <| o_gA 900 3 <| o_il 3 <| o_iak 3 40 <| o_c (.inl 15) <| o_i2 (fun a b => a = b) (k_M_program_76 QR QT H) (k_M_program_65 QR QT H)
def k_M_program_46 (QR : Option qA → qS → Prop) (QT : Nat → qS → Prop) (H : Nat → qP) : qP :=
  o_il 3 <| o_al 0 <| o_gI 900 5 <| o_i2 (fun a b => b ≤ a) (H 105) (k_M_program_54 QR QT H)
def k_M_program_44 (QR : Option qA → qS → Prop) (QT : Nat → qS → Prop) (H : Nat → qP) : qP :=
  o_c (.inl 0) <| o_is 3 <| H 46
def k_M_program_41 (QR : Option qA → qS → Prop) (QT : Nat → qS → Prop) (H : Nat → qP) : qP :=
  ot_M_right QT <| H 44
def k_M_program_40 (QR : Option qA → qS → Prop) (QT : Nat → qS → Prop) (H : Nat → qP) : qP :=
  o_c (.inl 0) <| k_M_program_41 QR QT H
def k_M_program_36 (QR : Option qA → qS → Prop) (QT : Nat → qS → Prop) (H : Nat → qP) : qP :=
  o_c (.inl 1) <| k_M_program_41 QR QT H
def k_M_program_31 (QR : Option qA → qS → Prop) (QT : Nat → qS → Prop) (H : Nat → qP) : qP :=
  o_il 2 <| o_c (.inl 1) <| o_i2 (fun a b => ¬ a = b) (H 40) (H 36)
def k_M_program_24 (QR : Option qA → qS → Prop) (QT : Nat → qS → Prop) (H : Nat → qP) : qP :=
  o_al 0 <| o_gI 900 5 <| o_if (fun a => 0 < a) (H 36) (k_M_program_31 QR QT H)
def k_M_program_0 (QR : Option qA → qS → Prop) (QT : Nat → qS → Prop) (H : Nat → qP) : qP :=
  o_il 1 <| o_i2l <| o_c (.inr (.inl 0)) <| o_c (.inr (.inl 7)) <| oc_M_in <| ot_M_there QT <| o_il 2 <| o_i2l <| o_c (.inr (.inl 0)) <| o_c (.inr (.inl 2)) <| oc_M_in <| o_if (fun a => a = 0) (H 40) (k_M_program_24 QR QT H)
set_option maxRecDepth 8000 in
theorem s_M_program_171 {l : Launch} {ad : Nat → Nat} {D : va_G} {cA : Nat → ClassId} {WW : Nat → qP} {QR : Option qA → qS → Prop} (S : qSnd l rm_M_program ad D cA R_M b_M_program 5 WW) (Q : qRet (some .int) b_M_program WW QR) {QT : Nat → qS → Prop} (Th : qThr l rm_M_program ad D cA R_M b_M_program WW QT) : qle (k_M_program_171 QR QT WW) WW 171 :=
  S.aload_n d_M_program_171 rfl <| S.gA fl_M_32 (by decide) d_M_program_172 <| S.iload_n d_M_program_175 rfl <| S.aload_n d_M_program_176 rfl <| S.gI fl_M_453 (by decide) d_M_program_177 <| S.isk (by decide) d_M_program_180 <| S.aload_n d_M_program_181 rfl <| S.iconst d_M_program_182 (by decide) <| S.pI fl_M_453 (by decide) (by decide +kernel) d_M_program_183 <| S.aload_n d_M_program_186 rfl <| S.gA fl_M_32 (by decide) d_M_program_187 <| S.iload_n d_M_program_190 rfl <| S.iak (by decide) d_M_program_191 <| Q.1 rfl _ d_M_program_192
set_option maxRecDepth 8000 in
theorem s_M_program_127 {l : Launch} {ad : Nat → Nat} {D : va_G} {cA : Nat → ClassId} {WW : Nat → qP} {QR : Option qA → qS → Prop} (S : qSnd l rm_M_program ad D cA R_M b_M_program 5 WW) (Q : qRet (some .int) b_M_program WW QR) {QT : Nat → qS → Prop} (Th : qThr l rm_M_program ad D cA R_M b_M_program WW QT) : qle (k_M_program_127 QR QT WW) WW 127 :=
  S.aload_n d_M_program_127 rfl <| S.gA fl_M_26 (by decide) d_M_program_128 <| S.iload_n d_M_program_131 rfl <| S.bipush d_M_program_132 (by decide) <| S.imul d_M_program_134 <| S.iload d_M_program_135 <| S.iadd d_M_program_137 <| S.aload_n d_M_program_138 rfl <| S.gA fl_M_20 (by decide) d_M_program_139 <| S.iload d_M_program_142 <| S.iak (by decide) d_M_program_144 <| S.isk (by decide) d_M_program_145 <| S.aload_n d_M_program_146 rfl <| S.gA fl_M_29 (by decide) d_M_program_147 <| S.iload_n d_M_program_150 rfl <| S.bipush d_M_program_151 (by decide) <| S.imul d_M_program_153 <| S.iload d_M_program_154 <| S.iadd d_M_program_156 <| S.aload_n d_M_program_157 rfl <| S.gA fl_M_23 (by decide) d_M_program_158 <| S.iload d_M_program_161 <| S.jak (by decide) d_M_program_163 <| S.jsk (by decide) d_M_program_164 <| S.iinc d_M_program_165 (by decide) <| S.goto d_M_program_168 (by decide) (fun _ _ _ h => h)
set_option maxRecDepth 8000 in
theorem s_M_program_118 {l : Launch} {ad : Nat → Nat} {D : va_G} {cA : Nat → ClassId} {WW : Nat → qP} {QR : Option qA → qS → Prop} (S : qSnd l rm_M_program ad D cA R_M b_M_program 5 WW) (Q : qRet (some .int) b_M_program WW QR) {QT : Nat → qS → Prop} (Th : qThr l rm_M_program ad D cA R_M b_M_program WW QT) : qle (k_M_program_118 QR QT WW) WW 118 :=
  S.iload d_M_program_118 <| S.aload_n d_M_program_120 rfl <| S.gI fl_M_453 (by decide) d_M_program_121 <| S.icmp_ge d_M_program_124 (by decide) (s_M_program_171 S Q Th) (s_M_program_127 S Q Th)
set_option maxRecDepth 8000 in
theorem s_M_program_105 {l : Launch} {ad : Nat → Nat} {D : va_G} {cA : Nat → ClassId} {WW : Nat → qP} {QR : Option qA → qS → Prop} (S : qSnd l rm_M_program ad D cA R_M b_M_program 5 WW) (Q : qRet (some .int) b_M_program WW QR) {QT : Nat → qS → Prop} (Th : qThr l rm_M_program ad D cA R_M b_M_program WW QT) : qle (k_M_program_105 QR QT WW) WW 105 :=
  S.aload_n d_M_program_105 rfl <| st_M_441 Th (by decide) d_M_program_106 <| S.iload_n d_M_program_109 rfl <| S.iconst d_M_program_110 (by decide) <| S.imul d_M_program_111 <| S.iload_n d_M_program_112 rfl <| S.iadd d_M_program_113 <| S.istore_n d_M_program_114 rfl (by decide) <| S.iconst d_M_program_115 (by decide) <| S.istore d_M_program_116 (by decide) <| (fun _ _ _ h => h)
set_option maxRecDepth 8000 in
theorem s_M_program_99 {l : Launch} {ad : Nat → Nat} {D : va_G} {cA : Nat → ClassId} {WW : Nat → qP} {QR : Option qA → qS → Prop} (S : qSnd l rm_M_program ad D cA R_M b_M_program 5 WW) (Q : qRet (some .int) b_M_program WW QR) {QT : Nat → qS → Prop} (Th : qThr l rm_M_program ad D cA R_M b_M_program WW QT) : qle (k_M_program_99 QR QT WW) WW 99 :=
  S.iinc d_M_program_99 (by decide) <| S.goto d_M_program_102 (by decide) (fun _ _ _ h => h)
set_option maxRecDepth 8000 in
theorem s_M_program_96 {l : Launch} {ad : Nat → Nat} {D : va_G} {cA : Nat → ClassId} {WW : Nat → qP} {QR : Option qA → qS → Prop} (S : qSnd l rm_M_program ad D cA R_M b_M_program 5 WW) (Q : qRet (some .int) b_M_program WW QR) {QT : Nat → qS → Prop} (Th : qThr l rm_M_program ad D cA R_M b_M_program WW QT) : qle (k_M_program_96 QR QT WW) WW 96 :=
  st_M_450 Th (by decide) d_M_program_96 <| (fun _ _ _ h => h)
set_option maxRecDepth 8000 in
theorem s_M_program_95 {l : Launch} {ad : Nat → Nat} {D : va_G} {cA : Nat → ClassId} {WW : Nat → qP} {QR : Option qA → qS → Prop} (S : qSnd l rm_M_program ad D cA R_M b_M_program 5 WW) (Q : qRet (some .int) b_M_program WW QR) {QT : Nat → qS → Prop} (Th : qThr l rm_M_program ad D cA R_M b_M_program WW QT) : qle (k_M_program_95 QR QT WW) WW 95 :=
  S.iconst d_M_program_95 (by decide) <| (s_M_program_96 S Q Th)
set_option maxRecDepth 8000 in
theorem s_M_program_91 {l : Launch} {ad : Nat → Nat} {D : va_G} {cA : Nat → ClassId} {WW : Nat → qP} {QR : Option qA → qS → Prop} (S : qSnd l rm_M_program ad D cA R_M b_M_program 5 WW) (Q : qRet (some .int) b_M_program WW QR) {QT : Nat → qS → Prop} (Th : qThr l rm_M_program ad D cA R_M b_M_program WW QT) : qle (k_M_program_91 QR QT WW) WW 91 :=
  S.iconst d_M_program_91 (by decide) <| S.goto d_M_program_92 (by decide) (s_M_program_96 S Q Th)
set_option maxRecDepth 8000 in
theorem s_M_program_76 {l : Launch} {ad : Nat → Nat} {D : va_G} {cA : Nat → ClassId} {WW : Nat → qP} {QR : Option qA → qS → Prop} (S : qSnd l rm_M_program ad D cA R_M b_M_program 5 WW) (Q : qRet (some .int) b_M_program WW QR) {QT : Nat → qS → Prop} (Th : qThr l rm_M_program ad D cA R_M b_M_program WW QT) : qle (k_M_program_76 QR QT WW) WW 76 :=
  S.aload_n d_M_program_76 rfl <| S.gA fl_M_23 (by decide) d_M_program_77 <| S.iload_n d_M_program_80 rfl <| S.jak (by decide) d_M_program_81 <| S.aload_n d_M_program_82 rfl <| S.gI fl_M_453 (by decide) d_M_program_83 <| S.i2l d_M_program_86 <| S.lcmp_gt d_M_program_87 d_M_program_88 (by decide) (fun _ _ _ h => h) (fun _ _ _ h => h)
set_option maxRecDepth 8000 in
theorem s_M_program_65 {l : Launch} {ad : Nat → Nat} {D : va_G} {cA : Nat → ClassId} {WW : Nat → qP} {QR : Option qA → qS → Prop} (S : qSnd l rm_M_program ad D cA R_M b_M_program 5 WW) (Q : qRet (some .int) b_M_program WW QR) {QT : Nat → qS → Prop} (Th : qThr l rm_M_program ad D cA R_M b_M_program WW QT) : qle (k_M_program_65 QR QT WW) WW 65 :=
  S.aload_n d_M_program_65 rfl <| S.gA fl_M_20 (by decide) d_M_program_66 <| S.iload_n d_M_program_69 rfl <| S.iak (by decide) d_M_program_70 <| S.bipush d_M_program_71 (by decide) <| S.icmp_ne d_M_program_73 (by decide) (fun _ _ _ h => h) (s_M_program_76 S Q Th)
set_option maxRecDepth 8000 in
theorem s_M_program_54 {l : Launch} {ad : Nat → Nat} {D : va_G} {cA : Nat → ClassId} {WW : Nat → qP} {QR : Option qA → qS → Prop} (S : qSnd l rm_M_program ad D cA R_M b_M_program 5 WW) (Q : qRet (some .int) b_M_program WW QR) {QT : Nat → qS → Prop} (Th : qThr l rm_M_program ad D cA R_M b_M_program WW QT) : qle (k_M_program_54 QR QT WW) WW 54 :=
  S.aload_n d_M_program_54 rfl <| S.gA fl_M_20 (by decide) d_M_program_55 <| S.iload_n d_M_program_58 rfl <| S.iak (by decide) d_M_program_59 <| S.bipush d_M_program_60 (by decide) <| S.icmp_eq d_M_program_62 (by decide) (s_M_program_76 S Q Th) (s_M_program_65 S Q Th)
set_option maxRecDepth 8000 in
theorem s_M_program_46 {l : Launch} {ad : Nat → Nat} {D : va_G} {cA : Nat → ClassId} {WW : Nat → qP} {QR : Option qA → qS → Prop} (S : qSnd l rm_M_program ad D cA R_M b_M_program 5 WW) (Q : qRet (some .int) b_M_program WW QR) {QT : Nat → qS → Prop} (Th : qThr l rm_M_program ad D cA R_M b_M_program WW QT) : qle (k_M_program_46 QR QT WW) WW 46 :=
  S.iload_n d_M_program_46 rfl <| S.aload_n d_M_program_47 rfl <| S.gI fl_M_453 (by decide) d_M_program_48 <| S.icmp_ge d_M_program_51 (by decide) (fun _ _ _ h => h) (s_M_program_54 S Q Th)
set_option maxRecDepth 8000 in
theorem s_M_program_44 {l : Launch} {ad : Nat → Nat} {D : va_G} {cA : Nat → ClassId} {WW : Nat → qP} {QR : Option qA → qS → Prop} (S : qSnd l rm_M_program ad D cA R_M b_M_program 5 WW) (Q : qRet (some .int) b_M_program WW QR) {QT : Nat → qS → Prop} (Th : qThr l rm_M_program ad D cA R_M b_M_program WW QT) : qle (k_M_program_44 QR QT WW) WW 44 :=
  S.iconst d_M_program_44 (by decide) <| S.istore_n d_M_program_45 rfl (by decide) <| (fun _ _ _ h => h)
set_option maxRecDepth 8000 in
theorem s_M_program_41 {l : Launch} {ad : Nat → Nat} {D : va_G} {cA : Nat → ClassId} {WW : Nat → qP} {QR : Option qA → qS → Prop} (S : qSnd l rm_M_program ad D cA R_M b_M_program 5 WW) (Q : qRet (some .int) b_M_program WW QR) {QT : Nat → qS → Prop} (Th : qThr l rm_M_program ad D cA R_M b_M_program WW QT) : qle (k_M_program_41 QR QT WW) WW 41 :=
  st_M_450 Th (by decide) d_M_program_41 <| (fun _ _ _ h => h)
set_option maxRecDepth 8000 in
theorem s_M_program_40 {l : Launch} {ad : Nat → Nat} {D : va_G} {cA : Nat → ClassId} {WW : Nat → qP} {QR : Option qA → qS → Prop} (S : qSnd l rm_M_program ad D cA R_M b_M_program 5 WW) (Q : qRet (some .int) b_M_program WW QR) {QT : Nat → qS → Prop} (Th : qThr l rm_M_program ad D cA R_M b_M_program WW QT) : qle (k_M_program_40 QR QT WW) WW 40 :=
  S.iconst d_M_program_40 (by decide) <| (s_M_program_41 S Q Th)
set_option maxRecDepth 8000 in
theorem s_M_program_36 {l : Launch} {ad : Nat → Nat} {D : va_G} {cA : Nat → ClassId} {WW : Nat → qP} {QR : Option qA → qS → Prop} (S : qSnd l rm_M_program ad D cA R_M b_M_program 5 WW) (Q : qRet (some .int) b_M_program WW QR) {QT : Nat → qS → Prop} (Th : qThr l rm_M_program ad D cA R_M b_M_program WW QT) : qle (k_M_program_36 QR QT WW) WW 36 :=
  S.iconst d_M_program_36 (by decide) <| S.goto d_M_program_37 (by decide) (s_M_program_41 S Q Th)
set_option maxRecDepth 8000 in
theorem s_M_program_31 {l : Launch} {ad : Nat → Nat} {D : va_G} {cA : Nat → ClassId} {WW : Nat → qP} {QR : Option qA → qS → Prop} (S : qSnd l rm_M_program ad D cA R_M b_M_program 5 WW) (Q : qRet (some .int) b_M_program WW QR) {QT : Nat → qS → Prop} (Th : qThr l rm_M_program ad D cA R_M b_M_program WW QT) : qle (k_M_program_31 QR QT WW) WW 31 :=
  S.iload_n d_M_program_31 rfl <| S.iconst d_M_program_32 (by decide) <| S.icmp_ne d_M_program_33 (by decide) (fun _ _ _ h => h) (fun _ _ _ h => h)
set_option maxRecDepth 8000 in
theorem s_M_program_24 {l : Launch} {ad : Nat → Nat} {D : va_G} {cA : Nat → ClassId} {WW : Nat → qP} {QR : Option qA → qS → Prop} (S : qSnd l rm_M_program ad D cA R_M b_M_program 5 WW) (Q : qRet (some .int) b_M_program WW QR) {QT : Nat → qS → Prop} (Th : qThr l rm_M_program ad D cA R_M b_M_program WW QT) : qle (k_M_program_24 QR QT WW) WW 24 :=
  S.aload_n d_M_program_24 rfl <| S.gI fl_M_453 (by decide) d_M_program_25 <| S.if_gt d_M_program_28 (by decide) (fun _ _ _ h => h) (s_M_program_31 S Q Th)
set_option maxRecDepth 8000 in
theorem s_M_program_0 {l : Launch} {ad : Nat → Nat} {D : va_G} {cA : Nat → ClassId} {WW : Nat → qP} {QR : Option qA → qS → Prop} (S : qSnd l rm_M_program ad D cA R_M b_M_program 5 WW) (Q : qRet (some .int) b_M_program WW QR) {QT : Nat → qS → Prop} (Th : qThr l rm_M_program ad D cA R_M b_M_program WW QT) : qle (k_M_program_0 QR QT WW) WW 0 :=
  S.iload_n d_M_program_0 rfl <| S.i2l d_M_program_1 <| S.lconst d_M_program_2 (by decide) <| S.ldc2 d_M_program_3 (lw_at 500 (by decide +kernel) rfl) (by decide) <| sc_M_431 S (by decide) d_M_program_6 <| st_M_435 Th (by decide) d_M_program_9 <| S.iload_n d_M_program_12 rfl <| S.i2l d_M_program_13 <| S.lconst d_M_program_14 (by decide) <| S.ldc2 d_M_program_15 (lw_at 501 (by decide +kernel) rfl) (by decide) <| sc_M_431 S (by decide) d_M_program_18 <| S.if_eq d_M_program_21 (by decide) (fun _ _ _ h => h) (s_M_program_24 S Q Th)
theorem v_M_program_118 {l : Launch} {ad : Nat → Nat} {D : va_G} {cA : Nat → ClassId} {WW : Nat → qP} {QR : Option qA → qS → Prop} (S : qSnd l rm_M_program ad D cA R_M b_M_program 5 WW) (Q : qRet (some .int) b_M_program WW QR) {QT : Nat → qS → Prop} (Th : qThr l rm_M_program ad D cA R_M b_M_program WW QT) (σ : qS) (j w p : Int) (hc : 0 ≤ σ 5 0 ∧ σ 5 0 ≤ 40) (hp : 0 ≤ p ∧ p < 24) (hq : QR (some (.inl (σ 5 0))) (su (su (pgm σ p (σ 5 0)) 8 p (σ 5 0)) 5 0 0)) : ∀ (m k : Nat), ((k + m : Nat) : Int) = σ 5 0 → WW 118 [] [some (.inr (.inr 900)), some (.inl j), some (.inl w), some (.inl p), some (.inl (k : Int))] (pgm σ p k) := by
  have ec : ∀ k, pgm σ p k 5 = σ 5 := fun k => by unfold pgm; rw [ra_k (by decide), ra_k (by decide)]
  have eo : ∀ k, pgm σ p k 3 = σ 3 := fun k => by unfold pgm; rw [ra_k (by decide), ra_k (by decide)]
  have ea : ∀ k, pgm σ p k 4 = σ 4 := fun k => by unfold pgm; rw [ra_k (by decide), ra_k (by decide)]
  intro m
  induction m with
  | zero =>
    intro k hk
    refine s_M_program_118 S Q Th _ _ _ ?_
    simp only [k_M_program_0, k_M_program_24, k_M_program_31, k_M_program_36, k_M_program_40, k_M_program_41, k_M_program_44, k_M_program_46, k_M_program_54, k_M_program_65, k_M_program_76, k_M_program_91, k_M_program_95, k_M_program_96, k_M_program_99, k_M_program_105, k_M_program_118, k_M_program_127, k_M_program_171, oc_M_in, ot_M_notGoing, ot_M_right, ot_M_there, o_th, o_c, o_il, o_ll, o_al, o_is, o_as, o_ls, o_inc, o_bi, o_bid, o_bl, o_bld, o_sl, o_i2l, o_l2i, o_dup, o_dup2, o_pop, o_pop2, o_if, o_i2, o_l2, swg, o_sw, o_gI, o_gZ, o_gJ, o_gA, o_gR, o_pI, o_pZ, o_pJ, o_pR, o_ia, o_iak, o_zak, o_ja, o_jak, o_is_, o_isk, o_zsk, o_js_, o_jsk, o_len, o_ri, o_rz, o_rl, o_rv, ls1, ls2, lks, lkj, List.getD_cons_zero, List.getD_cons_succ, List.set_cons_zero, List.set_cons_succ, qcat, true_and, and_true, List.map_nil, List.map_cons, List.sum_nil, List.sum_cons, Nat.reduceAdd, Nat.reduceLeDiff, Nat.zero_le, Int.reduceAdd, Int.reduceNeg, Int.reduceEq, or_true, true_or, Decidable.not_not, false_implies, not_false_eq_true, true_implies, not_true_eq_false, Int.reduceLT, Int.reduceLE]
    simp (disch := omega) only [su_k]
    rw [ec, show (k : Int) = σ 5 0 by omega, su_s]
    exact ⟨fun _ => ⟨hp, hp, hq⟩, fun h => by omega⟩
  | succ m ih =>
    intro k hk
    refine s_M_program_118 S Q Th _ _ _ ?_
    simp only [k_M_program_0, k_M_program_24, k_M_program_31, k_M_program_36, k_M_program_40, k_M_program_41, k_M_program_44, k_M_program_46, k_M_program_54, k_M_program_65, k_M_program_76, k_M_program_91, k_M_program_95, k_M_program_96, k_M_program_99, k_M_program_105, k_M_program_118, k_M_program_127, k_M_program_171, oc_M_in, ot_M_notGoing, ot_M_right, ot_M_there, o_th, o_c, o_il, o_ll, o_al, o_is, o_as, o_ls, o_inc, o_bi, o_bid, o_bl, o_bld, o_sl, o_i2l, o_l2i, o_dup, o_dup2, o_pop, o_pop2, o_if, o_i2, o_l2, swg, o_sw, o_gI, o_gZ, o_gJ, o_gA, o_gR, o_pI, o_pZ, o_pJ, o_pR, o_ia, o_iak, o_zak, o_ja, o_jak, o_is_, o_isk, o_zsk, o_js_, o_jsk, o_len, o_ri, o_rz, o_rl, o_rv, ls1, ls2, lks, lkj, List.getD_cons_zero, List.getD_cons_succ, List.set_cons_zero, List.set_cons_succ, qcat, true_and, and_true, List.map_nil, List.map_cons, List.sum_nil, List.sum_cons, Nat.reduceAdd, Nat.reduceLeDiff, Nat.zero_le, Int.reduceAdd, Int.reduceNeg, Int.reduceEq, or_true, true_or, Decidable.not_not, false_implies, not_false_eq_true, true_implies, not_true_eq_false, Int.reduceLT, Int.reduceLE]
    simp (disch := omega) only [su_k]
    have e1 : z_add (z_mul p 40) (k : Int) = p * 40 + k := by unfold z_add z_mul; rw [w32_i (p * 40) (by omega) (by omega), w32_i _ (by omega) (by omega)]
    rw [ec, eo, ea, e1, w32_i _ (by omega) (by omega)]
    refine ⟨fun h => by omega, fun _ => ⟨by omega, by omega, by omega, by omega, ?_⟩⟩
    have e2 : su (su (pgm σ p k) 6 (p * 40 + k) (σ 3 k)) 7 (p * 40 + k) (σ 4 k) = pgm σ p ((k + 1 : Nat) : Int) := by
      unfold pgm
      rw [su_ra (by decide), ra_s (by omega) (by congr 1; omega), ra_s (by omega) (by congr 1; omega)]
      rw [show p * 40 + (k : Int) + 1 = p * 40 + ((k + 1 : Nat) : Int) by omega]
    rw [e2]
    exact ih (k + 1) (by omega)
theorem v_M_program_46 {l : Launch} {ad : Nat → Nat} {D : va_G} {cA : Nat → ClassId} {WW : Nat → qP} {QR : Option qA → qS → Prop} (S : qSnd l rm_M_program ad D cA R_M b_M_program 5 WW) (Q : qRet (some .int) b_M_program WW QR) {QT : Nat → qS → Prop} (Th : qThr l rm_M_program ad D cA R_M b_M_program WW QT) (σ : qS) (j w : Int) (hc : 0 ≤ σ 5 0 ∧ σ 5 0 ≤ 40) (no : ¬ pjok σ → QT 0 σ) (K : pjok σ → WW 105 [] [some (.inr (.inr 900)), some (.inl j), some (.inl w), none, none] σ) : ∀ (m k : Nat), ((k + m : Nat) : Int) = σ 5 0 → (∀ i, 0 ≤ i → i < (k : Int) → pj1 σ i) → WW 46 [] [some (.inr (.inr 900)), some (.inl j), some (.inl w), some (.inl (k : Int)), none] σ := by
  intro m
  induction m with
  | zero =>
    intro k hk hj
    refine s_M_program_46 S Q Th _ _ _ ?_
    simp only [k_M_program_0, k_M_program_24, k_M_program_31, k_M_program_36, k_M_program_40, k_M_program_41, k_M_program_44, k_M_program_46, k_M_program_54, k_M_program_65, k_M_program_76, k_M_program_91, k_M_program_95, k_M_program_96, k_M_program_99, k_M_program_105, k_M_program_118, k_M_program_127, k_M_program_171, oc_M_in, ot_M_notGoing, ot_M_right, ot_M_there, o_th, o_c, o_il, o_ll, o_al, o_is, o_as, o_ls, o_inc, o_bi, o_bid, o_bl, o_bld, o_sl, o_i2l, o_l2i, o_dup, o_dup2, o_pop, o_pop2, o_if, o_i2, o_l2, swg, o_sw, o_gI, o_gZ, o_gJ, o_gA, o_gR, o_pI, o_pZ, o_pJ, o_pR, o_ia, o_iak, o_zak, o_ja, o_jak, o_is_, o_isk, o_zsk, o_js_, o_jsk, o_len, o_ri, o_rz, o_rl, o_rv, ls1, ls2, lks, lkj, List.getD_cons_zero, List.getD_cons_succ, List.set_cons_zero, List.set_cons_succ, qcat, true_and, and_true, List.map_nil, List.map_cons, List.sum_nil, List.sum_cons, Nat.reduceAdd, Nat.reduceLeDiff, Nat.zero_le, Int.reduceAdd, Int.reduceNeg, Int.reduceEq, or_true, true_or, Decidable.not_not, false_implies, not_false_eq_true, true_implies, not_true_eq_false, Int.reduceLT, Int.reduceLE]
    exact ⟨fun _ => S.fg (ls' := [some (.inr (.inr 900)), some (.inl j), some (.inl w), none, none]) ⟨rfl, rfl, rfl, trivial⟩ (K (fun i h0 h1 => hj i h0 (by omega))), fun h => by omega⟩
  | succ m ih =>
    intro k hk hj
    have nx : pj1 σ k → WW 91 [] [some (.inr (.inr 900)), some (.inl j), some (.inl w), some (.inl (k : Int)), none] σ := fun h1 => by
      refine s_M_program_91 S Q Th _ _ _ ?_
      simp only [k_M_program_0, k_M_program_24, k_M_program_31, k_M_program_36, k_M_program_40, k_M_program_41, k_M_program_44, k_M_program_46, k_M_program_54, k_M_program_65, k_M_program_76, k_M_program_91, k_M_program_95, k_M_program_96, k_M_program_99, k_M_program_105, k_M_program_118, k_M_program_127, k_M_program_171, oc_M_in, ot_M_notGoing, ot_M_right, ot_M_there, o_th, o_c, o_il, o_ll, o_al, o_is, o_as, o_ls, o_inc, o_bi, o_bid, o_bl, o_bld, o_sl, o_i2l, o_l2i, o_dup, o_dup2, o_pop, o_pop2, o_if, o_i2, o_l2, swg, o_sw, o_gI, o_gZ, o_gJ, o_gA, o_gR, o_pI, o_pZ, o_pJ, o_pR, o_ia, o_iak, o_zak, o_ja, o_jak, o_is_, o_isk, o_zsk, o_js_, o_jsk, o_len, o_ri, o_rz, o_rl, o_rv, ls1, ls2, lks, lkj, List.getD_cons_zero, List.getD_cons_succ, List.set_cons_zero, List.set_cons_succ, qcat, true_and, and_true, List.map_nil, List.map_cons, List.sum_nil, List.sum_cons, Nat.reduceAdd, Nat.reduceLeDiff, Nat.zero_le, Int.reduceAdd, Int.reduceNeg, Int.reduceEq, or_true, true_or, Decidable.not_not, false_implies, not_false_eq_true, true_implies, not_true_eq_false, Int.reduceLT, Int.reduceLE]
      refine rightY ?_
      refine s_M_program_99 S Q Th _ _ _ ?_
      simp only [k_M_program_0, k_M_program_24, k_M_program_31, k_M_program_36, k_M_program_40, k_M_program_41, k_M_program_44, k_M_program_46, k_M_program_54, k_M_program_65, k_M_program_76, k_M_program_91, k_M_program_95, k_M_program_96, k_M_program_99, k_M_program_105, k_M_program_118, k_M_program_127, k_M_program_171, oc_M_in, ot_M_notGoing, ot_M_right, ot_M_there, o_th, o_c, o_il, o_ll, o_al, o_is, o_as, o_ls, o_inc, o_bi, o_bid, o_bl, o_bld, o_sl, o_i2l, o_l2i, o_dup, o_dup2, o_pop, o_pop2, o_if, o_i2, o_l2, swg, o_sw, o_gI, o_gZ, o_gJ, o_gA, o_gR, o_pI, o_pZ, o_pJ, o_pR, o_ia, o_iak, o_zak, o_ja, o_jak, o_is_, o_isk, o_zsk, o_js_, o_jsk, o_len, o_ri, o_rz, o_rl, o_rv, ls1, ls2, lks, lkj, List.getD_cons_zero, List.getD_cons_succ, List.set_cons_zero, List.set_cons_succ, qcat, true_and, and_true, List.map_nil, List.map_cons, List.sum_nil, List.sum_cons, Nat.reduceAdd, Nat.reduceLeDiff, Nat.zero_le, Int.reduceAdd, Int.reduceNeg, Int.reduceEq, or_true, true_or, Decidable.not_not, false_implies, not_false_eq_true, true_implies, not_true_eq_false, Int.reduceLT, Int.reduceLE]
      rw [w32_i _ (by omega) (by omega)]
      exact ih (k + 1) (by omega) (fun i h0 h2 => by by_cases e : i = (k : Int); rw [e]; exact h1; exact hj i h0 (by omega))
    have bad : ¬ pj1 σ k → WW 95 [] [some (.inr (.inr 900)), some (.inl j), some (.inl w), some (.inl (k : Int)), none] σ := fun h1 => by
      refine s_M_program_95 S Q Th _ _ _ ?_
      simp only [k_M_program_0, k_M_program_24, k_M_program_31, k_M_program_36, k_M_program_40, k_M_program_41, k_M_program_44, k_M_program_46, k_M_program_54, k_M_program_65, k_M_program_76, k_M_program_91, k_M_program_95, k_M_program_96, k_M_program_99, k_M_program_105, k_M_program_118, k_M_program_127, k_M_program_171, oc_M_in, ot_M_notGoing, ot_M_right, ot_M_there, o_th, o_c, o_il, o_ll, o_al, o_is, o_as, o_ls, o_inc, o_bi, o_bid, o_bl, o_bld, o_sl, o_i2l, o_l2i, o_dup, o_dup2, o_pop, o_pop2, o_if, o_i2, o_l2, swg, o_sw, o_gI, o_gZ, o_gJ, o_gA, o_gR, o_pI, o_pZ, o_pJ, o_pR, o_ia, o_iak, o_zak, o_ja, o_jak, o_is_, o_isk, o_zsk, o_js_, o_jsk, o_len, o_ri, o_rz, o_rl, o_rv, ls1, ls2, lks, lkj, List.getD_cons_zero, List.getD_cons_succ, List.set_cons_zero, List.set_cons_succ, qcat, true_and, and_true, List.map_nil, List.map_cons, List.sum_nil, List.sum_cons, Nat.reduceAdd, Nat.reduceLeDiff, Nat.zero_le, Int.reduceAdd, Int.reduceNeg, Int.reduceEq, or_true, true_or, Decidable.not_not, false_implies, not_false_eq_true, true_implies, not_true_eq_false, Int.reduceLT, Int.reduceLE]
      exact rightN (no (fun hp => h1 (hp k (by omega) (by omega))))
    refine s_M_program_46 S Q Th _ _ _ ?_
    simp only [k_M_program_0, k_M_program_24, k_M_program_31, k_M_program_36, k_M_program_40, k_M_program_41, k_M_program_44, k_M_program_46, k_M_program_54, k_M_program_65, k_M_program_76, k_M_program_91, k_M_program_95, k_M_program_96, k_M_program_99, k_M_program_105, k_M_program_118, k_M_program_127, k_M_program_171, oc_M_in, ot_M_notGoing, ot_M_right, ot_M_there, o_th, o_c, o_il, o_ll, o_al, o_is, o_as, o_ls, o_inc, o_bi, o_bid, o_bl, o_bld, o_sl, o_i2l, o_l2i, o_dup, o_dup2, o_pop, o_pop2, o_if, o_i2, o_l2, swg, o_sw, o_gI, o_gZ, o_gJ, o_gA, o_gR, o_pI, o_pZ, o_pJ, o_pR, o_ia, o_iak, o_zak, o_ja, o_jak, o_is_, o_isk, o_zsk, o_js_, o_jsk, o_len, o_ri, o_rz, o_rl, o_rv, ls1, ls2, lks, lkj, List.getD_cons_zero, List.getD_cons_succ, List.set_cons_zero, List.set_cons_succ, qcat, true_and, and_true, List.map_nil, List.map_cons, List.sum_nil, List.sum_cons, Nat.reduceAdd, Nat.reduceLeDiff, Nat.zero_le, Int.reduceAdd, Int.reduceNeg, Int.reduceEq, or_true, true_or, Decidable.not_not, false_implies, not_false_eq_true, true_implies, not_true_eq_false, Int.reduceLT, Int.reduceLE]
    exact ⟨fun h => by omega, fun _ => ⟨by omega, fun e => ⟨by omega, fun hl => bad (fun h1 => by have := h1 (Or.inl e); omega), fun hl => nx (fun _ => by omega)⟩, fun n15 => ⟨by omega, fun n16 => nx (fun e => by omega), fun e => ⟨by omega, fun hl => bad (fun h1 => by have := h1 (Or.inr e); omega), fun hl => nx (fun _ => by omega)⟩⟩⟩⟩
theorem w_M_program {l : Launch} {ad : Nat → Nat} {D : va_G} {cA : Nat → ClassId} {WW : Nat → qP} {QR : Option qA → qS → Prop} (S : qSnd l rm_M_program ad D cA R_M b_M_program 5 WW) (Q : qRet (some .int) b_M_program WW QR) {QT : Nat → qS → Prop} (Th : qThr l rm_M_program ad D cA R_M b_M_program WW QT) (a1 : Int) (a2 : Int) (σ : qS) (ha1 : r32 a1) (ha2 : r32 a2) (hσ : qoS σ) (h : P_M_program a1 a2 σ) (hq : ∀ (r : Int) σ', Q_M_program a1 a2 σ r σ' → QR (some (.inl r)) σ') (ht : ∀ (t : Nat) σ', T_M_program a1 a2 σ t σ' → QT t σ') : WW 0 [] [some (.inr (.inr 900)), some (.inl a1), some (.inl a2), none, none] σ := by
  have hc : 0 ≤ σ 5 0 ∧ σ 5 0 ≤ 40 := h
  have no : (0 ≤ a1 ∧ a1 ≤ 7) → ¬ pwok σ a2 → WW 40 [] [some (.inr (.inr 900)), some (.inl a1), some (.inl a2), none, none] σ := fun hj hw => by
    refine s_M_program_40 S Q Th _ _ _ ?_
    simp only [k_M_program_0, k_M_program_24, k_M_program_31, k_M_program_36, k_M_program_40, k_M_program_41, k_M_program_44, k_M_program_46, k_M_program_54, k_M_program_65, k_M_program_76, k_M_program_91, k_M_program_95, k_M_program_96, k_M_program_99, k_M_program_105, k_M_program_118, k_M_program_127, k_M_program_171, oc_M_in, ot_M_notGoing, ot_M_right, ot_M_there, o_th, o_c, o_il, o_ll, o_al, o_is, o_as, o_ls, o_inc, o_bi, o_bid, o_bl, o_bld, o_sl, o_i2l, o_l2i, o_dup, o_dup2, o_pop, o_pop2, o_if, o_i2, o_l2, swg, o_sw, o_gI, o_gZ, o_gJ, o_gA, o_gR, o_pI, o_pZ, o_pJ, o_pR, o_ia, o_iak, o_zak, o_ja, o_jak, o_is_, o_isk, o_zsk, o_js_, o_jsk, o_len, o_ri, o_rz, o_rl, o_rv, ls1, ls2, lks, lkj, List.getD_cons_zero, List.getD_cons_succ, List.set_cons_zero, List.set_cons_succ, qcat, true_and, and_true, List.map_nil, List.map_cons, List.sum_nil, List.sum_cons, Nat.reduceAdd, Nat.reduceLeDiff, Nat.zero_le, Int.reduceAdd, Int.reduceNeg, Int.reduceEq, or_true, true_or, Decidable.not_not, false_implies, not_false_eq_true, true_implies, not_true_eq_false, Int.reduceLT, Int.reduceLE]
    exact rightN (ht _ _ ⟨rfl, Or.inr (Or.inl ⟨hj, fun x => hw x.1, rfl⟩)⟩)
  have yes : (0 ≤ a1 ∧ a1 ≤ 7) → pwok σ a2 → WW 36 [] [some (.inr (.inr 900)), some (.inl a1), some (.inl a2), none, none] σ := fun hj hw => by
    refine s_M_program_36 S Q Th _ _ _ ?_
    simp only [k_M_program_0, k_M_program_24, k_M_program_31, k_M_program_36, k_M_program_40, k_M_program_41, k_M_program_44, k_M_program_46, k_M_program_54, k_M_program_65, k_M_program_76, k_M_program_91, k_M_program_95, k_M_program_96, k_M_program_99, k_M_program_105, k_M_program_118, k_M_program_127, k_M_program_171, oc_M_in, ot_M_notGoing, ot_M_right, ot_M_there, o_th, o_c, o_il, o_ll, o_al, o_is, o_as, o_ls, o_inc, o_bi, o_bid, o_bl, o_bld, o_sl, o_i2l, o_l2i, o_dup, o_dup2, o_pop, o_pop2, o_if, o_i2, o_l2, swg, o_sw, o_gI, o_gZ, o_gJ, o_gA, o_gR, o_pI, o_pZ, o_pJ, o_pR, o_ia, o_iak, o_zak, o_ja, o_jak, o_is_, o_isk, o_zsk, o_js_, o_jsk, o_len, o_ri, o_rz, o_rl, o_rv, ls1, ls2, lks, lkj, List.getD_cons_zero, List.getD_cons_succ, List.set_cons_zero, List.set_cons_succ, qcat, true_and, and_true, List.map_nil, List.map_cons, List.sum_nil, List.sum_cons, Nat.reduceAdd, Nat.reduceLeDiff, Nat.zero_le, Int.reduceAdd, Int.reduceNeg, Int.reduceEq, or_true, true_or, Decidable.not_not, false_implies, not_false_eq_true, true_implies, not_true_eq_false, Int.reduceLT, Int.reduceLE]
    refine rightY ?_
    refine s_M_program_44 S Q Th _ _ _ ?_
    simp only [k_M_program_0, k_M_program_24, k_M_program_31, k_M_program_36, k_M_program_40, k_M_program_41, k_M_program_44, k_M_program_46, k_M_program_54, k_M_program_65, k_M_program_76, k_M_program_91, k_M_program_95, k_M_program_96, k_M_program_99, k_M_program_105, k_M_program_118, k_M_program_127, k_M_program_171, oc_M_in, ot_M_notGoing, ot_M_right, ot_M_there, o_th, o_c, o_il, o_ll, o_al, o_is, o_as, o_ls, o_inc, o_bi, o_bid, o_bl, o_bld, o_sl, o_i2l, o_l2i, o_dup, o_dup2, o_pop, o_pop2, o_if, o_i2, o_l2, swg, o_sw, o_gI, o_gZ, o_gJ, o_gA, o_gR, o_pI, o_pZ, o_pJ, o_pR, o_ia, o_iak, o_zak, o_ja, o_jak, o_is_, o_isk, o_zsk, o_js_, o_jsk, o_len, o_ri, o_rz, o_rl, o_rv, ls1, ls2, lks, lkj, List.getD_cons_zero, List.getD_cons_succ, List.set_cons_zero, List.set_cons_succ, qcat, true_and, and_true, List.map_nil, List.map_cons, List.sum_nil, List.sum_cons, Nat.reduceAdd, Nat.reduceLeDiff, Nat.zero_le, Int.reduceAdd, Int.reduceNeg, Int.reduceEq, or_true, true_or, Decidable.not_not, false_implies, not_false_eq_true, true_implies, not_true_eq_false, Int.reduceLT, Int.reduceLE]
    refine v_M_program_46 S Q Th σ a1 a2 hc (fun hn => ht _ _ ⟨rfl, Or.inr (Or.inl ⟨hj, fun x => hn x.2, rfl⟩)⟩) (fun hp => ?_) (σ 5 0).toNat 0 (by omega) (fun i h0 h1 => by omega)
    refine s_M_program_105 S Q Th _ _ _ ?_
    simp only [k_M_program_0, k_M_program_24, k_M_program_31, k_M_program_36, k_M_program_40, k_M_program_41, k_M_program_44, k_M_program_46, k_M_program_54, k_M_program_65, k_M_program_76, k_M_program_91, k_M_program_95, k_M_program_96, k_M_program_99, k_M_program_105, k_M_program_118, k_M_program_127, k_M_program_171, oc_M_in, ot_M_notGoing, ot_M_right, ot_M_there, o_th, o_c, o_il, o_ll, o_al, o_is, o_as, o_ls, o_inc, o_bi, o_bid, o_bl, o_bld, o_sl, o_i2l, o_l2i, o_dup, o_dup2, o_pop, o_pop2, o_if, o_i2, o_l2, swg, o_sw, o_gI, o_gZ, o_gJ, o_gA, o_gR, o_pI, o_pZ, o_pJ, o_pR, o_ia, o_iak, o_zak, o_ja, o_jak, o_is_, o_isk, o_zsk, o_js_, o_jsk, o_len, o_ri, o_rz, o_rl, o_rv, ls1, ls2, lks, lkj, List.getD_cons_zero, List.getD_cons_succ, List.set_cons_zero, List.set_cons_succ, qcat, true_and, and_true, List.map_nil, List.map_cons, List.sum_nil, List.sum_cons, Nat.reduceAdd, Nat.reduceLeDiff, Nat.zero_le, Int.reduceAdd, Int.reduceNeg, Int.reduceEq, or_true, true_or, Decidable.not_not, false_implies, not_false_eq_true, true_implies, not_true_eq_false, Int.reduceLT, Int.reduceLE]
    refine notG (fun hb => ?_) (fun hb => ht _ _ ⟨rfl, Or.inr (Or.inr ⟨hj, hw, hp, hb, rfl⟩)⟩)
    have hw1 := hw.1
    have e1 : z_add (z_mul a1 3) a2 = a1 * 3 + a2 := by unfold z_add z_mul; rw [w32_i (a1 * 3) (by omega) (by omega), w32_i _ (by omega) (by omega)]
    rw [e1]
    have := v_M_program_118 S Q Th σ a1 a2 (a1 * 3 + a2) hc (by omega) (hq _ _ ⟨hj, hw, hp, hb, rfl, rfl⟩) (σ 5 0).toNat 0 (by omega)
    have e0 : pgm σ (a1 * 3 + a2) ((0 : Nat) : Int) = σ := by unfold pgm; rw [ra_0 (by simp), ra_0 (by simp)]
    rw [e0] at this
    exact this
  refine s_M_program_0 S Q Th _ _ _ ?_
  simp only [k_M_program_0, k_M_program_24, k_M_program_31, k_M_program_36, k_M_program_40, k_M_program_41, k_M_program_44, k_M_program_46, k_M_program_54, k_M_program_65, k_M_program_76, k_M_program_91, k_M_program_95, k_M_program_96, k_M_program_99, k_M_program_105, k_M_program_118, k_M_program_127, k_M_program_171, oc_M_in, ot_M_notGoing, ot_M_right, ot_M_there, o_th, o_c, o_il, o_ll, o_al, o_is, o_as, o_ls, o_inc, o_bi, o_bid, o_bl, o_bld, o_sl, o_i2l, o_l2i, o_dup, o_dup2, o_pop, o_pop2, o_if, o_i2, o_l2, swg, o_sw, o_gI, o_gZ, o_gJ, o_gA, o_gR, o_pI, o_pZ, o_pJ, o_pR, o_ia, o_iak, o_zak, o_ja, o_jak, o_is_, o_isk, o_zsk, o_js_, o_jsk, o_len, o_ri, o_rz, o_rl, o_rv, ls1, ls2, lks, lkj, List.getD_cons_zero, List.getD_cons_succ, List.set_cons_zero, List.set_cons_succ, qcat, true_and, and_true, List.map_nil, List.map_cons, List.sum_nil, List.sum_cons, Nat.reduceAdd, Nat.reduceLeDiff, Nat.zero_le, Int.reduceAdd, Int.reduceNeg, Int.reduceEq, or_true, true_or, Decidable.not_not, false_implies, not_false_eq_true, true_implies, not_true_eq_false, Int.reduceLT, Int.reduceLE]
  exact inTh (fun hj => inC (fun hw => ⟨fun h0 => yes hj ⟨hw, Or.inl h0⟩, fun h0 => ⟨fun n1 => no hj (fun x => by have := x.2; omega), fun e1 => yes hj ⟨hw, Or.inr e1⟩⟩⟩) (fun hw => no hj (fun x => hw x.1))) (fun hj => ht _ _ ⟨rfl, Or.inl ⟨hj, rfl⟩⟩)
theorem c_M_program (l : Launch) (ad : Nat → Nat) (D : va_G) (cA : Nat → ClassId) : qT l ad D cA y_M_program (Cond.code y_M_program b_M_program 5 (some .int) :: lw_g) rm_M_program pre_M_program post_M_program pst_M_program := by
  refine qT_of (own := R_M) (by decide) rfl ?_ ?_
  · intro av σ h; unfold pre_M_program at h; split at h
    · simp [qen]
    · exact h.elim
  · intro WW QR QT S Q Th av σ hav hσ h hq ht; unfold pre_M_program at h; split at h
    next o a1 a2 =>
      obtain ⟨rfl, h⟩ := h
      exact w_M_program S Q Th a1 a2 σ (hav _ (List.mem_of_getElem? (i := 1) rfl)) (hav _ (List.mem_of_getElem? (i := 2) rfl)) hσ h (fun r σ' h' => hq _ σ' h') (fun t σ' h' => ht t σ' h')
    next => exact h.elim
def cok (w : Int) : Prop := (0 ≤ w ∧ w ≤ 3) ∨ (10 ≤ w ∧ w ≤ 17) ∨ (20 ≤ w ∧ w ≤ 27) ∨ (30 ≤ w ∧ w ≤ 37) ∨ (40 ≤ w ∧ w ≤ 47)
def nmd (σ : qS) : Nat → Int
  | 0 => 0
  | n + 1 => nmd σ n + if σ 9 n = 0 then 0 else 1
def cnt (σ : qS) (w : Int) : Int := if 20 ≤ w then σ 8 (3 * (w % 10) + w / 10 - 2) else if 10 ≤ w then (if σ 9 (w - 10) = 0 then 0 else 1) else if w = 0 then (if σ 26 0 = 0 then 0 else 1) else if w = 1 then nmd σ 8 else if w = 2 then σ 5 0 else σ 14 0
def P_M_count (_w : Int) (_σ : qS) : Prop := True
def Q_M_count (w : Int) (σ : qS) (r : Int) (σ' : qS) : Prop := cok w ∧ r = cnt σ w ∧ σ' = σ
def T_M_count (w : Int) (σ : qS) (t : Nat) (σ' : qS) : Prop := ¬ cok w ∧ t = 0 ∧ σ' = σ
def pre_M_count (av : List qA) (σ : qS) : Prop := match av with
  | [.inr (.inr o), .inl a1] => o = 900 ∧ P_M_count a1 σ
  | _ => False
def post_M_count (av : List qA) (σ : qS) (r : Option qA) (σ' : qS) : Prop := match av, r with
  | [_, .inl a1], some (.inl r) => Q_M_count a1 σ r σ'
  | _, _ => False
def oc_M_count (K : qP) : qP := fun st ls σ => match st with
  | .inl a1 :: .inr (.inr o) :: st => o = 900 ∧ (st.map qcat).sum ≤ 8 ∧ P_M_count a1 σ ∧ ∀ (r : Int) (σ' : qS), Q_M_count a1 σ r σ' → K (.inl r :: st) ls σ'
  | _ => False
def pst_M_count (av : List qA) (σ : qS) (t : Nat) (σ' : qS) : Prop := match av with
  | [_, .inl a1] => T_M_count a1 σ t σ'
  | _ => False
def ot_M_count (QT : Nat → qS → Prop) (K : qP) : qP := fun st ls σ => match st with
  | .inl a1 :: .inr (.inr o) :: st => o = 900 ∧ (st.map qcat).sum ≤ 8 ∧ P_M_count a1 σ ∧ (∀ (r : Int) (σ' : qS), Q_M_count a1 σ r σ' → K (.inl r :: st) ls σ') ∧ ∀ (t : Nat) (σ' : qS), T_M_count a1 σ t σ' → QT t σ'
  | _ => False
def rm_M_count : Room := { frames := 7, cells := 1, slots := 6, locals := 101 }
theorem fl_M_473 : qF R_M 900 0 82 0 R_M F_M 473 14 := ⟨Or.inl ⟨rfl, rfl, rfl, rfl, rfl, rfl⟩, by decide, lw_at 92 (by decide +kernel) rfl⟩
def k_M_count_202 (QR : Option qA → qS → Prop) (QT : Nat → qS → Prop) (H : Nat → qP) : qP :=
  o_al 0 <| o_gI 900 14 <| o_ri QR
def k_M_count_197 (QR : Option qA → qS → Prop) (QT : Nat → qS → Prop) (H : Nat → qP) : qP :=
  o_al 0 <| o_gI 900 5 <| o_ri QR
def k_M_count_195 (QR : Option qA → qS → Prop) (QT : Nat → qS → Prop) (H : Nat → qP) : qP :=
  o_il 2 <| o_ri QR
def k_M_count_189 (QR : Option qA → qS → Prop) (QT : Nat → qS → Prop) (H : Nat → qP) : qP :=
  o_inc 3 1 <| H 171
def k_M_count_186 (QR : Option qA → qS → Prop) (QT : Nat → qS → Prop) (H : Nat → qP) : qP :=
  o_inc 2 1 <| k_M_count_189 QR QT H
def k_M_count_177 (QR : Option qA → qS → Prop) (QT : Nat → qS → Prop) (H : Nat → qP) : qP :=
  o_al 0 <| o_gA 900 9 <| o_il 3 <| o_zak 9 8 <| o_if (fun a => a = 0) (k_M_count_189 QR QT H) (k_M_count_186 QR QT H)
def k_M_count_171 (QR : Option qA → qS → Prop) (QT : Nat → qS → Prop) (H : Nat → qP) : qP :=
  o_il 3 <| o_c (.inl 8) <| o_i2 (fun a b => b ≤ a) (k_M_count_195 QR QT H) (k_M_count_177 QR QT H)
def k_M_count_169 (QR : Option qA → qS → Prop) (QT : Nat → qS → Prop) (H : Nat → qP) : qP :=
  o_c (.inl 0) <| o_is 3 <| H 171
def k_M_count_168 (QR : Option qA → qS → Prop) (QT : Nat → qS → Prop) (H : Nat → qP) : qP :=
  o_ri QR
def k_M_count_167 (QR : Option qA → qS → Prop) (QT : Nat → qS → Prop) (H : Nat → qP) : qP :=
  o_c (.inl 0) <| k_M_count_168 QR QT H
def k_M_count_163 (QR : Option qA → qS → Prop) (QT : Nat → qS → Prop) (H : Nat → qP) : qP :=
  o_c (.inl 1) <| k_M_count_168 QR QT H
def k_M_count_156 (QR : Option qA → qS → Prop) (QT : Nat → qS → Prop) (H : Nat → qP) : qP :=
  o_al 0 <| o_gZ 900 26 <| o_if (fun a => a = 0) (k_M_count_167 QR QT H) (k_M_count_163 QR QT H)
def k_M_count_125 (QR : Option qA → qS → Prop) (QT : Nat → qS → Prop) (H : Nat → qP) : qP :=
  o_c (.inl 0) <| o_is 2 <| o_il 1 <| o_sw 0 [k_M_count_156 QR QT H, k_M_count_169 QR QT H, k_M_count_197 QR QT H] (k_M_count_202 QR QT H)
def k_M_count_124 (QR : Option qA → qS → Prop) (QT : Nat → qS → Prop) (H : Nat → qP) : qP :=
  o_ri QR
def k_M_count_123 (QR : Option qA → qS → Prop) (QT : Nat → qS → Prop) (H : Nat → qP) : qP :=
  o_c (.inl 0) <| k_M_count_124 QR QT H
def k_M_count_119 (QR : Option qA → qS → Prop) (QT : Nat → qS → Prop) (H : Nat → qP) : qP :=
  o_c (.inl 1) <| k_M_count_124 QR QT H
def k_M_count_107 (QR : Option qA → qS → Prop) (QT : Nat → qS → Prop) (H : Nat → qP) : qP :=
  o_al 0 <| o_gA 900 9 <| o_il 1 <| o_c (.inl 10) <| o_bi z_sub <| o_zak 9 8 <| o_if (fun a => a = 0) (k_M_count_123 QR QT H) (k_M_count_119 QR QT H)
def k_M_count_101 (QR : Option qA → qS → Prop) (QT : Nat → qS → Prop) (H : Nat → qP) : qP :=
  o_il 1 <| o_c (.inl 10) <| o_i2 (fun a b => a < b) (k_M_count_125 QR QT H) (k_M_count_107 QR QT H)
def k_M_count_82 (QR : Option qA → qS → Prop) (QT : Nat → qS → Prop) (H : Nat → qP) : qP :=
  o_al 0 <| o_gA 900 8 <| o_c (.inl 3) <| o_il 1 <| o_c (.inl 10) <| o_bid z_rem <| o_bi z_mul <| o_il 1 <| o_c (.inl 10) <| o_bid z_div <| o_bi z_add <| o_c (.inl 2) <| o_bi z_sub <| o_iak 8 24 <| o_ri QR
def k_M_count_76 (QR : Option qA → qS → Prop) (QT : Nat → qS → Prop) (H : Nat → qP) : qP :=
  o_il 1 <| o_c (.inl 20) <| o_i2 (fun a b => a < b) (k_M_count_101 QR QT H) (k_M_count_82 QR QT H)
def k_M_count_73 (QR : Option qA → qS → Prop) (QT : Nat → qS → Prop) (H : Nat → qP) : qP :=
  ot_M_right QT <| H 76
def k_M_count_72 (QR : Option qA → qS → Prop) (QT : Nat → qS → Prop) (H : Nat → qP) : qP :=
  o_c (.inl 0) <| k_M_count_73 QR QT H
def k_M_count_68 (QR : Option qA → qS → Prop) (QT : Nat → qS → Prop) (H : Nat → qP) : qP :=
  o_c (.inl 1) <| k_M_count_73 QR QT H
def k_M_count_54 (QR : Option qA → qS → Prop) (QT : Nat → qS → Prop) (H : Nat → qP) : qP :=
  o_il 1 <| o_i2l <| o_c (.inr (.inl 40)) <| o_c (.inr (.inl 47)) <| oc_M_in <| o_if (fun a => a = 0) (k_M_count_72 QR QT H) (H 68)
def k_M_count_40 (QR : Option qA → qS → Prop) (QT : Nat → qS → Prop) (H : Nat → qP) : qP :=
  o_il 1 <| o_i2l <| o_c (.inr (.inl 30)) <| o_c (.inr (.inl 37)) <| oc_M_in <| o_if (fun a => ¬ a = 0) (H 68) (k_M_count_54 QR QT H)
def k_M_count_26 (QR : Option qA → qS → Prop) (QT : Nat → qS → Prop) (H : Nat → qP) : qP :=
  o_il 1 <| o_i2l <| o_c (.inr (.inl 20)) <| o_c (.inr (.inl 27)) <| oc_M_in <| o_if (fun a => ¬ a = 0) (H 68) (k_M_count_40 QR QT H)
def k_M_count_12 (QR : Option qA → qS → Prop) (QT : Nat → qS → Prop) (H : Nat → qP) : qP :=
  o_il 1 <| o_i2l <| o_c (.inr (.inl 10)) <| o_c (.inr (.inl 17)) <| oc_M_in <| o_if (fun a => ¬ a = 0) (H 68) (k_M_count_26 QR QT H)
def k_M_count_0 (QR : Option qA → qS → Prop) (QT : Nat → qS → Prop) (H : Nat → qP) : qP :=
  o_il 1 <| o_i2l <| o_c (.inr (.inl 0)) <| o_c (.inr (.inl 3)) <| oc_M_in <| o_if (fun a => ¬ a = 0) (H 68) (k_M_count_12 QR QT H)
set_option maxRecDepth 8000 in
theorem s_M_count_202 {l : Launch} {ad : Nat → Nat} {D : va_G} {cA : Nat → ClassId} {WW : Nat → qP} {QR : Option qA → qS → Prop} (S : qSnd l rm_M_count ad D cA R_M b_M_count 4 WW) (Q : qRet (some .int) b_M_count WW QR) {QT : Nat → qS → Prop} (Th : qThr l rm_M_count ad D cA R_M b_M_count WW QT) : qle (k_M_count_202 QR QT WW) WW 202 :=
  S.aload_n d_M_count_202 rfl <| S.gI fl_M_473 (by decide) d_M_count_203 <| Q.1 rfl _ d_M_count_206
set_option maxRecDepth 8000 in
theorem s_M_count_197 {l : Launch} {ad : Nat → Nat} {D : va_G} {cA : Nat → ClassId} {WW : Nat → qP} {QR : Option qA → qS → Prop} (S : qSnd l rm_M_count ad D cA R_M b_M_count 4 WW) (Q : qRet (some .int) b_M_count WW QR) {QT : Nat → qS → Prop} (Th : qThr l rm_M_count ad D cA R_M b_M_count WW QT) : qle (k_M_count_197 QR QT WW) WW 197 :=
  S.aload_n d_M_count_197 rfl <| S.gI fl_M_453 (by decide) d_M_count_198 <| Q.1 rfl _ d_M_count_201
set_option maxRecDepth 8000 in
theorem s_M_count_195 {l : Launch} {ad : Nat → Nat} {D : va_G} {cA : Nat → ClassId} {WW : Nat → qP} {QR : Option qA → qS → Prop} (S : qSnd l rm_M_count ad D cA R_M b_M_count 4 WW) (Q : qRet (some .int) b_M_count WW QR) {QT : Nat → qS → Prop} (Th : qThr l rm_M_count ad D cA R_M b_M_count WW QT) : qle (k_M_count_195 QR QT WW) WW 195 :=
  S.iload_n d_M_count_195 rfl <| Q.1 rfl _ d_M_count_196
set_option maxRecDepth 8000 in
theorem s_M_count_189 {l : Launch} {ad : Nat → Nat} {D : va_G} {cA : Nat → ClassId} {WW : Nat → qP} {QR : Option qA → qS → Prop} (S : qSnd l rm_M_count ad D cA R_M b_M_count 4 WW) (Q : qRet (some .int) b_M_count WW QR) {QT : Nat → qS → Prop} (Th : qThr l rm_M_count ad D cA R_M b_M_count WW QT) : qle (k_M_count_189 QR QT WW) WW 189 :=
  S.iinc d_M_count_189 (by decide) <| S.goto d_M_count_192 (by decide) (fun _ _ _ h => h)
set_option maxRecDepth 8000 in
theorem s_M_count_186 {l : Launch} {ad : Nat → Nat} {D : va_G} {cA : Nat → ClassId} {WW : Nat → qP} {QR : Option qA → qS → Prop} (S : qSnd l rm_M_count ad D cA R_M b_M_count 4 WW) (Q : qRet (some .int) b_M_count WW QR) {QT : Nat → qS → Prop} (Th : qThr l rm_M_count ad D cA R_M b_M_count WW QT) : qle (k_M_count_186 QR QT WW) WW 186 :=
  S.iinc d_M_count_186 (by decide) <| (s_M_count_189 S Q Th)
set_option maxRecDepth 8000 in
theorem s_M_count_177 {l : Launch} {ad : Nat → Nat} {D : va_G} {cA : Nat → ClassId} {WW : Nat → qP} {QR : Option qA → qS → Prop} (S : qSnd l rm_M_count ad D cA R_M b_M_count 4 WW) (Q : qRet (some .int) b_M_count WW QR) {QT : Nat → qS → Prop} (Th : qThr l rm_M_count ad D cA R_M b_M_count WW QT) : qle (k_M_count_177 QR QT WW) WW 177 :=
  S.aload_n d_M_count_177 rfl <| S.gA fl_M_35 (by decide) d_M_count_178 <| S.iload_n d_M_count_181 rfl <| S.zak (by decide) d_M_count_182 <| S.if_eq d_M_count_183 (by decide) (s_M_count_189 S Q Th) (s_M_count_186 S Q Th)
set_option maxRecDepth 8000 in
theorem s_M_count_171 {l : Launch} {ad : Nat → Nat} {D : va_G} {cA : Nat → ClassId} {WW : Nat → qP} {QR : Option qA → qS → Prop} (S : qSnd l rm_M_count ad D cA R_M b_M_count 4 WW) (Q : qRet (some .int) b_M_count WW QR) {QT : Nat → qS → Prop} (Th : qThr l rm_M_count ad D cA R_M b_M_count WW QT) : qle (k_M_count_171 QR QT WW) WW 171 :=
  S.iload_n d_M_count_171 rfl <| S.bipush d_M_count_172 (by decide) <| S.icmp_ge d_M_count_174 (by decide) (s_M_count_195 S Q Th) (s_M_count_177 S Q Th)
set_option maxRecDepth 8000 in
theorem s_M_count_169 {l : Launch} {ad : Nat → Nat} {D : va_G} {cA : Nat → ClassId} {WW : Nat → qP} {QR : Option qA → qS → Prop} (S : qSnd l rm_M_count ad D cA R_M b_M_count 4 WW) (Q : qRet (some .int) b_M_count WW QR) {QT : Nat → qS → Prop} (Th : qThr l rm_M_count ad D cA R_M b_M_count WW QT) : qle (k_M_count_169 QR QT WW) WW 169 :=
  S.iconst d_M_count_169 (by decide) <| S.istore_n d_M_count_170 rfl (by decide) <| (fun _ _ _ h => h)
set_option maxRecDepth 8000 in
theorem s_M_count_168 {l : Launch} {ad : Nat → Nat} {D : va_G} {cA : Nat → ClassId} {WW : Nat → qP} {QR : Option qA → qS → Prop} (S : qSnd l rm_M_count ad D cA R_M b_M_count 4 WW) (Q : qRet (some .int) b_M_count WW QR) {QT : Nat → qS → Prop} (Th : qThr l rm_M_count ad D cA R_M b_M_count WW QT) : qle (k_M_count_168 QR QT WW) WW 168 :=
  Q.1 rfl _ d_M_count_168
set_option maxRecDepth 8000 in
theorem s_M_count_167 {l : Launch} {ad : Nat → Nat} {D : va_G} {cA : Nat → ClassId} {WW : Nat → qP} {QR : Option qA → qS → Prop} (S : qSnd l rm_M_count ad D cA R_M b_M_count 4 WW) (Q : qRet (some .int) b_M_count WW QR) {QT : Nat → qS → Prop} (Th : qThr l rm_M_count ad D cA R_M b_M_count WW QT) : qle (k_M_count_167 QR QT WW) WW 167 :=
  S.iconst d_M_count_167 (by decide) <| (s_M_count_168 S Q Th)
set_option maxRecDepth 8000 in
theorem s_M_count_163 {l : Launch} {ad : Nat → Nat} {D : va_G} {cA : Nat → ClassId} {WW : Nat → qP} {QR : Option qA → qS → Prop} (S : qSnd l rm_M_count ad D cA R_M b_M_count 4 WW) (Q : qRet (some .int) b_M_count WW QR) {QT : Nat → qS → Prop} (Th : qThr l rm_M_count ad D cA R_M b_M_count WW QT) : qle (k_M_count_163 QR QT WW) WW 163 :=
  S.iconst d_M_count_163 (by decide) <| S.goto d_M_count_164 (by decide) (s_M_count_168 S Q Th)
set_option maxRecDepth 8000 in
theorem s_M_count_156 {l : Launch} {ad : Nat → Nat} {D : va_G} {cA : Nat → ClassId} {WW : Nat → qP} {QR : Option qA → qS → Prop} (S : qSnd l rm_M_count ad D cA R_M b_M_count 4 WW) (Q : qRet (some .int) b_M_count WW QR) {QT : Nat → qS → Prop} (Th : qThr l rm_M_count ad D cA R_M b_M_count WW QT) : qle (k_M_count_156 QR QT WW) WW 156 :=
  S.aload_n d_M_count_156 rfl <| S.gZ fl_M_422 (by decide) d_M_count_157 <| S.if_eq d_M_count_160 (by decide) (s_M_count_167 S Q Th) (s_M_count_163 S Q Th)
set_option maxRecDepth 8000 in
theorem s_M_count_125 {l : Launch} {ad : Nat → Nat} {D : va_G} {cA : Nat → ClassId} {WW : Nat → qP} {QR : Option qA → qS → Prop} (S : qSnd l rm_M_count ad D cA R_M b_M_count 4 WW) (Q : qRet (some .int) b_M_count WW QR) {QT : Nat → qS → Prop} (Th : qThr l rm_M_count ad D cA R_M b_M_count WW QT) : qle (k_M_count_125 QR QT WW) WW 125 :=
  S.iconst d_M_count_125 (by decide) <| S.istore_n d_M_count_126 rfl (by decide) <| S.iload_n d_M_count_127 rfl <| S.sw d_M_count_128 (by decide) (⟨⟨156, by decide, (s_M_count_156 S Q Th)⟩, ⟨⟨169, by decide, (s_M_count_169 S Q Th)⟩, ⟨⟨197, by decide, (s_M_count_197 S Q Th)⟩, trivial⟩⟩⟩) (by decide) (s_M_count_202 S Q Th)
set_option maxRecDepth 8000 in
theorem s_M_count_124 {l : Launch} {ad : Nat → Nat} {D : va_G} {cA : Nat → ClassId} {WW : Nat → qP} {QR : Option qA → qS → Prop} (S : qSnd l rm_M_count ad D cA R_M b_M_count 4 WW) (Q : qRet (some .int) b_M_count WW QR) {QT : Nat → qS → Prop} (Th : qThr l rm_M_count ad D cA R_M b_M_count WW QT) : qle (k_M_count_124 QR QT WW) WW 124 :=
  Q.1 rfl _ d_M_count_124
set_option maxRecDepth 8000 in
theorem s_M_count_123 {l : Launch} {ad : Nat → Nat} {D : va_G} {cA : Nat → ClassId} {WW : Nat → qP} {QR : Option qA → qS → Prop} (S : qSnd l rm_M_count ad D cA R_M b_M_count 4 WW) (Q : qRet (some .int) b_M_count WW QR) {QT : Nat → qS → Prop} (Th : qThr l rm_M_count ad D cA R_M b_M_count WW QT) : qle (k_M_count_123 QR QT WW) WW 123 :=
  S.iconst d_M_count_123 (by decide) <| (s_M_count_124 S Q Th)
set_option maxRecDepth 8000 in
theorem s_M_count_119 {l : Launch} {ad : Nat → Nat} {D : va_G} {cA : Nat → ClassId} {WW : Nat → qP} {QR : Option qA → qS → Prop} (S : qSnd l rm_M_count ad D cA R_M b_M_count 4 WW) (Q : qRet (some .int) b_M_count WW QR) {QT : Nat → qS → Prop} (Th : qThr l rm_M_count ad D cA R_M b_M_count WW QT) : qle (k_M_count_119 QR QT WW) WW 119 :=
  S.iconst d_M_count_119 (by decide) <| S.goto d_M_count_120 (by decide) (s_M_count_124 S Q Th)
set_option maxRecDepth 8000 in
theorem s_M_count_107 {l : Launch} {ad : Nat → Nat} {D : va_G} {cA : Nat → ClassId} {WW : Nat → qP} {QR : Option qA → qS → Prop} (S : qSnd l rm_M_count ad D cA R_M b_M_count 4 WW) (Q : qRet (some .int) b_M_count WW QR) {QT : Nat → qS → Prop} (Th : qThr l rm_M_count ad D cA R_M b_M_count WW QT) : qle (k_M_count_107 QR QT WW) WW 107 :=
  S.aload_n d_M_count_107 rfl <| S.gA fl_M_35 (by decide) d_M_count_108 <| S.iload_n d_M_count_111 rfl <| S.bipush d_M_count_112 (by decide) <| S.isub d_M_count_114 <| S.zak (by decide) d_M_count_115 <| S.if_eq d_M_count_116 (by decide) (s_M_count_123 S Q Th) (s_M_count_119 S Q Th)
set_option maxRecDepth 8000 in
theorem s_M_count_101 {l : Launch} {ad : Nat → Nat} {D : va_G} {cA : Nat → ClassId} {WW : Nat → qP} {QR : Option qA → qS → Prop} (S : qSnd l rm_M_count ad D cA R_M b_M_count 4 WW) (Q : qRet (some .int) b_M_count WW QR) {QT : Nat → qS → Prop} (Th : qThr l rm_M_count ad D cA R_M b_M_count WW QT) : qle (k_M_count_101 QR QT WW) WW 101 :=
  S.iload_n d_M_count_101 rfl <| S.bipush d_M_count_102 (by decide) <| S.icmp_lt d_M_count_104 (by decide) (s_M_count_125 S Q Th) (s_M_count_107 S Q Th)
set_option maxRecDepth 8000 in
theorem s_M_count_82 {l : Launch} {ad : Nat → Nat} {D : va_G} {cA : Nat → ClassId} {WW : Nat → qP} {QR : Option qA → qS → Prop} (S : qSnd l rm_M_count ad D cA R_M b_M_count 4 WW) (Q : qRet (some .int) b_M_count WW QR) {QT : Nat → qS → Prop} (Th : qThr l rm_M_count ad D cA R_M b_M_count WW QT) : qle (k_M_count_82 QR QT WW) WW 82 :=
  S.aload_n d_M_count_82 rfl <| S.gA fl_M_32 (by decide) d_M_count_83 <| S.iconst d_M_count_86 (by decide) <| S.iload_n d_M_count_87 rfl <| S.bipush d_M_count_88 (by decide) <| S.irem d_M_count_90 <| S.imul d_M_count_91 <| S.iload_n d_M_count_92 rfl <| S.bipush d_M_count_93 (by decide) <| S.idiv d_M_count_95 <| S.iadd d_M_count_96 <| S.iconst d_M_count_97 (by decide) <| S.isub d_M_count_98 <| S.iak (by decide) d_M_count_99 <| Q.1 rfl _ d_M_count_100
set_option maxRecDepth 8000 in
theorem s_M_count_76 {l : Launch} {ad : Nat → Nat} {D : va_G} {cA : Nat → ClassId} {WW : Nat → qP} {QR : Option qA → qS → Prop} (S : qSnd l rm_M_count ad D cA R_M b_M_count 4 WW) (Q : qRet (some .int) b_M_count WW QR) {QT : Nat → qS → Prop} (Th : qThr l rm_M_count ad D cA R_M b_M_count WW QT) : qle (k_M_count_76 QR QT WW) WW 76 :=
  S.iload_n d_M_count_76 rfl <| S.bipush d_M_count_77 (by decide) <| S.icmp_lt d_M_count_79 (by decide) (s_M_count_101 S Q Th) (s_M_count_82 S Q Th)
set_option maxRecDepth 8000 in
theorem s_M_count_73 {l : Launch} {ad : Nat → Nat} {D : va_G} {cA : Nat → ClassId} {WW : Nat → qP} {QR : Option qA → qS → Prop} (S : qSnd l rm_M_count ad D cA R_M b_M_count 4 WW) (Q : qRet (some .int) b_M_count WW QR) {QT : Nat → qS → Prop} (Th : qThr l rm_M_count ad D cA R_M b_M_count WW QT) : qle (k_M_count_73 QR QT WW) WW 73 :=
  st_M_450 Th (by decide) d_M_count_73 <| (fun _ _ _ h => h)
set_option maxRecDepth 8000 in
theorem s_M_count_72 {l : Launch} {ad : Nat → Nat} {D : va_G} {cA : Nat → ClassId} {WW : Nat → qP} {QR : Option qA → qS → Prop} (S : qSnd l rm_M_count ad D cA R_M b_M_count 4 WW) (Q : qRet (some .int) b_M_count WW QR) {QT : Nat → qS → Prop} (Th : qThr l rm_M_count ad D cA R_M b_M_count WW QT) : qle (k_M_count_72 QR QT WW) WW 72 :=
  S.iconst d_M_count_72 (by decide) <| (s_M_count_73 S Q Th)
set_option maxRecDepth 8000 in
theorem s_M_count_68 {l : Launch} {ad : Nat → Nat} {D : va_G} {cA : Nat → ClassId} {WW : Nat → qP} {QR : Option qA → qS → Prop} (S : qSnd l rm_M_count ad D cA R_M b_M_count 4 WW) (Q : qRet (some .int) b_M_count WW QR) {QT : Nat → qS → Prop} (Th : qThr l rm_M_count ad D cA R_M b_M_count WW QT) : qle (k_M_count_68 QR QT WW) WW 68 :=
  S.iconst d_M_count_68 (by decide) <| S.goto d_M_count_69 (by decide) (s_M_count_73 S Q Th)
set_option maxRecDepth 8000 in
theorem s_M_count_54 {l : Launch} {ad : Nat → Nat} {D : va_G} {cA : Nat → ClassId} {WW : Nat → qP} {QR : Option qA → qS → Prop} (S : qSnd l rm_M_count ad D cA R_M b_M_count 4 WW) (Q : qRet (some .int) b_M_count WW QR) {QT : Nat → qS → Prop} (Th : qThr l rm_M_count ad D cA R_M b_M_count WW QT) : qle (k_M_count_54 QR QT WW) WW 54 :=
  S.iload_n d_M_count_54 rfl <| S.i2l d_M_count_55 <| S.ldc2 d_M_count_56 (lw_at 474 (by decide +kernel) rfl) (by decide) <| S.ldc2 d_M_count_59 (lw_at 782 (by decide +kernel) rfl) (by decide) <| sc_M_431 S (by decide) d_M_count_62 <| S.if_eq d_M_count_65 (by decide) (s_M_count_72 S Q Th) (fun _ _ _ h => h)
set_option maxRecDepth 8000 in
theorem s_M_count_40 {l : Launch} {ad : Nat → Nat} {D : va_G} {cA : Nat → ClassId} {WW : Nat → qP} {QR : Option qA → qS → Prop} (S : qSnd l rm_M_count ad D cA R_M b_M_count 4 WW) (Q : qRet (some .int) b_M_count WW QR) {QT : Nat → qS → Prop} (Th : qThr l rm_M_count ad D cA R_M b_M_count WW QT) : qle (k_M_count_40 QR QT WW) WW 40 :=
  S.iload_n d_M_count_40 rfl <| S.i2l d_M_count_41 <| S.ldc2 d_M_count_42 (lw_at 780 (by decide +kernel) rfl) (by decide) <| S.ldc2 d_M_count_45 (lw_at 781 (by decide +kernel) rfl) (by decide) <| sc_M_431 S (by decide) d_M_count_48 <| S.if_ne d_M_count_51 (by decide) (fun _ _ _ h => h) (s_M_count_54 S Q Th)
set_option maxRecDepth 8000 in
theorem s_M_count_26 {l : Launch} {ad : Nat → Nat} {D : va_G} {cA : Nat → ClassId} {WW : Nat → qP} {QR : Option qA → qS → Prop} (S : qSnd l rm_M_count ad D cA R_M b_M_count 4 WW) (Q : qRet (some .int) b_M_count WW QR) {QT : Nat → qS → Prop} (Th : qThr l rm_M_count ad D cA R_M b_M_count WW QT) : qle (k_M_count_26 QR QT WW) WW 26 :=
  S.iload_n d_M_count_26 rfl <| S.i2l d_M_count_27 <| S.ldc2 d_M_count_28 (lw_at 778 (by decide +kernel) rfl) (by decide) <| S.ldc2 d_M_count_31 (lw_at 779 (by decide +kernel) rfl) (by decide) <| sc_M_431 S (by decide) d_M_count_34 <| S.if_ne d_M_count_37 (by decide) (fun _ _ _ h => h) (s_M_count_40 S Q Th)
set_option maxRecDepth 8000 in
theorem s_M_count_12 {l : Launch} {ad : Nat → Nat} {D : va_G} {cA : Nat → ClassId} {WW : Nat → qP} {QR : Option qA → qS → Prop} (S : qSnd l rm_M_count ad D cA R_M b_M_count 4 WW) (Q : qRet (some .int) b_M_count WW QR) {QT : Nat → qS → Prop} (Th : qThr l rm_M_count ad D cA R_M b_M_count WW QT) : qle (k_M_count_12 QR QT WW) WW 12 :=
  S.iload_n d_M_count_12 rfl <| S.i2l d_M_count_13 <| S.ldc2 d_M_count_14 (lw_at 776 (by decide +kernel) rfl) (by decide) <| S.ldc2 d_M_count_17 (lw_at 777 (by decide +kernel) rfl) (by decide) <| sc_M_431 S (by decide) d_M_count_20 <| S.if_ne d_M_count_23 (by decide) (fun _ _ _ h => h) (s_M_count_26 S Q Th)
set_option maxRecDepth 8000 in
theorem s_M_count_0 {l : Launch} {ad : Nat → Nat} {D : va_G} {cA : Nat → ClassId} {WW : Nat → qP} {QR : Option qA → qS → Prop} (S : qSnd l rm_M_count ad D cA R_M b_M_count 4 WW) (Q : qRet (some .int) b_M_count WW QR) {QT : Nat → qS → Prop} (Th : qThr l rm_M_count ad D cA R_M b_M_count WW QT) : qle (k_M_count_0 QR QT WW) WW 0 :=
  S.iload_n d_M_count_0 rfl <| S.i2l d_M_count_1 <| S.lconst d_M_count_2 (by decide) <| S.ldc2 d_M_count_3 (lw_at 473 (by decide +kernel) rfl) (by decide) <| sc_M_431 S (by decide) d_M_count_6 <| S.if_ne d_M_count_9 (by decide) (fun _ _ _ h => h) (s_M_count_12 S Q Th)
theorem nmd_b (σ : qS) : ∀ n : Nat, 0 ≤ nmd σ n ∧ nmd σ n ≤ n
  | 0 => by simp [nmd]
  | n + 1 => by have := nmd_b σ n; rw [nmd]; split <;> omega
theorem v_M_count_171 {l : Launch} {ad : Nat → Nat} {D : va_G} {cA : Nat → ClassId} {WW : Nat → qP} {QR : Option qA → qS → Prop} (S : qSnd l rm_M_count ad D cA R_M b_M_count 4 WW) (Q : qRet (some .int) b_M_count WW QR) {QT : Nat → qS → Prop} (Th : qThr l rm_M_count ad D cA R_M b_M_count WW QT) (σ : qS) (w : Int) (hq : QR (some (.inl (nmd σ 8))) σ) : ∀ (m k : Nat), k + m = 8 → WW 171 [] [some (.inr (.inr 900)), some (.inl w), some (.inl (nmd σ k)), some (.inl (k : Int))] σ := by
  intro m
  induction m with
  | zero =>
    intro k hk
    refine s_M_count_171 S Q Th _ _ _ ?_
    simp only [k_M_count_0, k_M_count_12, k_M_count_26, k_M_count_40, k_M_count_54, k_M_count_68, k_M_count_72, k_M_count_73, k_M_count_76, k_M_count_82, k_M_count_101, k_M_count_107, k_M_count_119, k_M_count_123, k_M_count_124, k_M_count_125, k_M_count_156, k_M_count_163, k_M_count_167, k_M_count_168, k_M_count_169, k_M_count_171, k_M_count_177, k_M_count_186, k_M_count_189, k_M_count_195, k_M_count_197, k_M_count_202, oc_M_in, ot_M_right, o_th, o_c, o_il, o_ll, o_al, o_is, o_as, o_ls, o_inc, o_bi, o_bid, o_bl, o_bld, o_sl, o_i2l, o_l2i, o_dup, o_dup2, o_pop, o_pop2, o_if, o_i2, o_l2, swg, o_sw, o_gI, o_gZ, o_gJ, o_gA, o_gR, o_pI, o_pZ, o_pJ, o_pR, o_ia, o_iak, o_zak, o_ja, o_jak, o_is_, o_isk, o_zsk, o_js_, o_jsk, o_len, o_ri, o_rz, o_rl, o_rv, ls1, ls2, lks, lkj, List.getD_cons_zero, List.getD_cons_succ, List.set_cons_zero, List.set_cons_succ, qcat, true_and, and_true, List.map_nil, List.map_cons, List.sum_nil, List.sum_cons, Nat.reduceAdd, Nat.reduceLeDiff, Nat.zero_le, Int.reduceAdd, Int.reduceNeg, Int.reduceEq, or_true, true_or, Decidable.not_not, false_implies, not_false_eq_true, true_implies, not_true_eq_false, Int.reduceLT, Int.reduceLE]
    rw [show k = 8 by omega]
    exact ⟨fun _ => hq, fun h => by omega⟩
  | succ m ih =>
    intro k hk
    refine s_M_count_171 S Q Th _ _ _ ?_
    simp only [k_M_count_0, k_M_count_12, k_M_count_26, k_M_count_40, k_M_count_54, k_M_count_68, k_M_count_72, k_M_count_73, k_M_count_76, k_M_count_82, k_M_count_101, k_M_count_107, k_M_count_119, k_M_count_123, k_M_count_124, k_M_count_125, k_M_count_156, k_M_count_163, k_M_count_167, k_M_count_168, k_M_count_169, k_M_count_171, k_M_count_177, k_M_count_186, k_M_count_189, k_M_count_195, k_M_count_197, k_M_count_202, oc_M_in, ot_M_right, o_th, o_c, o_il, o_ll, o_al, o_is, o_as, o_ls, o_inc, o_bi, o_bid, o_bl, o_bld, o_sl, o_i2l, o_l2i, o_dup, o_dup2, o_pop, o_pop2, o_if, o_i2, o_l2, swg, o_sw, o_gI, o_gZ, o_gJ, o_gA, o_gR, o_pI, o_pZ, o_pJ, o_pR, o_ia, o_iak, o_zak, o_ja, o_jak, o_is_, o_isk, o_zsk, o_js_, o_jsk, o_len, o_ri, o_rz, o_rl, o_rv, ls1, ls2, lks, lkj, List.getD_cons_zero, List.getD_cons_succ, List.set_cons_zero, List.set_cons_succ, qcat, true_and, and_true, List.map_nil, List.map_cons, List.sum_nil, List.sum_cons, Nat.reduceAdd, Nat.reduceLeDiff, Nat.zero_le, Int.reduceAdd, Int.reduceNeg, Int.reduceEq, or_true, true_or, Decidable.not_not, false_implies, not_false_eq_true, true_implies, not_true_eq_false, Int.reduceLT, Int.reduceLE]
    have hb := nmd_b σ k
    have := ih (k + 1) (by omega)
    rw [nmd] at this
    rw [w32_i ((k : Int) + 1) (by omega) (by omega), w32_i (nmd σ k + 1) (by omega) (by omega)]
    refine ⟨fun h => by omega, fun _ => ⟨by omega, fun _ => ⟨fun h0 => ?_, fun h0 => ?_⟩⟩⟩
    · rw [if_pos h0, show nmd σ k + 0 = nmd σ k by omega] at this; exact this
    · rw [if_neg h0] at this; exact this
theorem w_M_count {l : Launch} {ad : Nat → Nat} {D : va_G} {cA : Nat → ClassId} {WW : Nat → qP} {QR : Option qA → qS → Prop} (S : qSnd l rm_M_count ad D cA R_M b_M_count 4 WW) (Q : qRet (some .int) b_M_count WW QR) {QT : Nat → qS → Prop} (Th : qThr l rm_M_count ad D cA R_M b_M_count WW QT) (a1 : Int) (σ : qS) (ha1 : r32 a1) (hσ : qoS σ) (h : P_M_count a1 σ) (hq : ∀ (r : Int) σ', Q_M_count a1 σ r σ' → QR (some (.inl r)) σ') (ht : ∀ (t : Nat) σ', T_M_count a1 σ t σ' → QT t σ') : WW 0 [] [some (.inr (.inr 900)), some (.inl a1), none, none] σ := by
  have yes : cok a1 → WW 68 [] [some (.inr (.inr 900)), some (.inl a1), none, none] σ := fun hc => by
    refine s_M_count_68 S Q Th _ _ _ ?_
    simp only [k_M_count_0, k_M_count_12, k_M_count_26, k_M_count_40, k_M_count_54, k_M_count_68, k_M_count_72, k_M_count_73, k_M_count_76, k_M_count_82, k_M_count_101, k_M_count_107, k_M_count_119, k_M_count_123, k_M_count_124, k_M_count_125, k_M_count_156, k_M_count_163, k_M_count_167, k_M_count_168, k_M_count_169, k_M_count_171, k_M_count_177, k_M_count_186, k_M_count_189, k_M_count_195, k_M_count_197, k_M_count_202, oc_M_in, ot_M_right, o_th, o_c, o_il, o_ll, o_al, o_is, o_as, o_ls, o_inc, o_bi, o_bid, o_bl, o_bld, o_sl, o_i2l, o_l2i, o_dup, o_dup2, o_pop, o_pop2, o_if, o_i2, o_l2, swg, o_sw, o_gI, o_gZ, o_gJ, o_gA, o_gR, o_pI, o_pZ, o_pJ, o_pR, o_ia, o_iak, o_zak, o_ja, o_jak, o_is_, o_isk, o_zsk, o_js_, o_jsk, o_len, o_ri, o_rz, o_rl, o_rv, ls1, ls2, lks, lkj, List.getD_cons_zero, List.getD_cons_succ, List.set_cons_zero, List.set_cons_succ, qcat, true_and, and_true, List.map_nil, List.map_cons, List.sum_nil, List.sum_cons, Nat.reduceAdd, Nat.reduceLeDiff, Nat.zero_le, Int.reduceAdd, Int.reduceNeg, Int.reduceEq, or_true, true_or, Decidable.not_not, false_implies, not_false_eq_true, true_implies, not_true_eq_false, Int.reduceLT, Int.reduceLE]
    refine rightY ?_
    refine s_M_count_76 S Q Th _ _ _ ?_
    simp only [k_M_count_0, k_M_count_12, k_M_count_26, k_M_count_40, k_M_count_54, k_M_count_68, k_M_count_72, k_M_count_73, k_M_count_76, k_M_count_82, k_M_count_101, k_M_count_107, k_M_count_119, k_M_count_123, k_M_count_124, k_M_count_125, k_M_count_156, k_M_count_163, k_M_count_167, k_M_count_168, k_M_count_169, k_M_count_171, k_M_count_177, k_M_count_186, k_M_count_189, k_M_count_195, k_M_count_197, k_M_count_202, oc_M_in, ot_M_right, o_th, o_c, o_il, o_ll, o_al, o_is, o_as, o_ls, o_inc, o_bi, o_bid, o_bl, o_bld, o_sl, o_i2l, o_l2i, o_dup, o_dup2, o_pop, o_pop2, o_if, o_i2, o_l2, swg, o_sw, o_gI, o_gZ, o_gJ, o_gA, o_gR, o_pI, o_pZ, o_pJ, o_pR, o_ia, o_iak, o_zak, o_ja, o_jak, o_is_, o_isk, o_zsk, o_js_, o_jsk, o_len, o_ri, o_rz, o_rl, o_rv, ls1, ls2, lks, lkj, List.getD_cons_zero, List.getD_cons_succ, List.set_cons_zero, List.set_cons_succ, qcat, true_and, and_true, List.map_nil, List.map_cons, List.sum_nil, List.sum_cons, Nat.reduceAdd, Nat.reduceLeDiff, Nat.zero_le, Int.reduceAdd, Int.reduceNeg, Int.reduceEq, or_true, true_or, Decidable.not_not, false_implies, not_false_eq_true, true_implies, not_true_eq_false, Int.reduceLT, Int.reduceLE]
    unfold Q_M_count cnt at hq
    unfold cok at hc
    refine ⟨fun h20 => ⟨fun h10 => ⟨fun e0 _ => ⟨fun hb => hq _ _ ⟨hc, ?_, rfl⟩, fun hb => hq _ _ ⟨hc, ?_, rfl⟩⟩, fun n0 => ⟨fun e1 => ?_, fun n1 => ⟨fun e2 => hq _ _ ⟨hc, ?_, rfl⟩, fun n2 => hq _ _ ⟨hc, ?_, rfl⟩⟩⟩⟩, fun h10 => ?_⟩, fun h20 => ?_⟩
    · rw [if_neg (by omega), if_neg (by omega), if_pos e0, if_pos hb]
    · rw [if_neg (by omega), if_neg (by omega), if_pos e0, if_neg hb]
    · have := v_M_count_171 S Q Th σ a1 (hq _ _ ⟨hc, by rw [if_neg (by omega), if_neg (by omega), if_neg n0, if_pos e1], rfl⟩) 8 0 (by omega)
      exact this
    · rw [if_neg (by omega), if_neg (by omega), if_neg n0, if_neg n1, if_pos e2]
    · rw [if_neg (by omega), if_neg (by omega), if_neg n0, if_neg n1, if_neg n2]
    · have e1 : z_sub a1 10 = a1 - 10 := by unfold z_sub; exact w32_i _ (by omega) (by omega)
      rw [e1]
      exact ⟨by omega, fun _ => ⟨fun hm => hq _ _ ⟨hc, by rw [if_neg (by omega), if_pos (by omega), if_pos hm], rfl⟩, fun hm => hq _ _ ⟨hc, by rw [if_neg (by omega), if_pos (by omega), if_neg hm], rfl⟩⟩⟩
    · have e1 : z_rem a1 10 = a1 % 10 := by unfold z_rem; exact Int.tmod_eq_emod_of_nonneg (by omega)
      have e2 : z_div a1 10 = a1 / 10 := by unfold z_div; rw [Int.tdiv_eq_ediv_of_nonneg (by omega)]; exact w32_i _ (by omega) (by omega)
      have e3 : z_sub (z_add (z_mul 3 (a1 % 10)) (a1 / 10)) 2 = 3 * (a1 % 10) + a1 / 10 - 2 := by unfold z_sub z_add z_mul; rw [w32_i (3 * (a1 % 10)) (by omega) (by omega), w32_i (3 * (a1 % 10) + a1 / 10) (by omega) (by omega), w32_i _ (by omega) (by omega)]
      rw [e1, e2, e3]
      clear e1 e2 e3
      have hA : (a1 % 10 ≤ 7 ∧ 0 ≤ a1 % 10) ∧ 2 ≤ a1 / 10 ∧ a1 / 10 ≤ 4 := by
        rcases hc with x | x | x | x | x
        · omega
        · omega
        · omega
        · omega
        · omega
      exact ⟨by omega, by omega, by omega, hq _ _ ⟨hc, by rw [if_pos (by omega)], rfl⟩⟩
  refine s_M_count_0 S Q Th _ _ _ ?_
  simp only [k_M_count_0, k_M_count_12, k_M_count_26, k_M_count_40, k_M_count_54, k_M_count_68, k_M_count_72, k_M_count_73, k_M_count_76, k_M_count_82, k_M_count_101, k_M_count_107, k_M_count_119, k_M_count_123, k_M_count_124, k_M_count_125, k_M_count_156, k_M_count_163, k_M_count_167, k_M_count_168, k_M_count_169, k_M_count_171, k_M_count_177, k_M_count_186, k_M_count_189, k_M_count_195, k_M_count_197, k_M_count_202, oc_M_in, ot_M_right, o_th, o_c, o_il, o_ll, o_al, o_is, o_as, o_ls, o_inc, o_bi, o_bid, o_bl, o_bld, o_sl, o_i2l, o_l2i, o_dup, o_dup2, o_pop, o_pop2, o_if, o_i2, o_l2, swg, o_sw, o_gI, o_gZ, o_gJ, o_gA, o_gR, o_pI, o_pZ, o_pJ, o_pR, o_ia, o_iak, o_zak, o_ja, o_jak, o_is_, o_isk, o_zsk, o_js_, o_jsk, o_len, o_ri, o_rz, o_rl, o_rv, ls1, ls2, lks, lkj, List.getD_cons_zero, List.getD_cons_succ, List.set_cons_zero, List.set_cons_succ, qcat, true_and, and_true, List.map_nil, List.map_cons, List.sum_nil, List.sum_cons, Nat.reduceAdd, Nat.reduceLeDiff, Nat.zero_le, Int.reduceAdd, Int.reduceNeg, Int.reduceEq, or_true, true_or, Decidable.not_not, false_implies, not_false_eq_true, true_implies, not_true_eq_false, Int.reduceLT, Int.reduceLE]
  have fl : ∀ {v lo hi : Int} {σ : qS} {A B : qS → Prop}, (lo ≤ v ∧ v ≤ hi → B σ) → (¬ (lo ≤ v ∧ v ≤ hi) → A σ) → P_M_in v lo hi σ ∧ ∀ r σ1, Q_M_in v lo hi σ r σ1 → (¬ r = 0 → B σ1) ∧ (r = 0 → A σ1) := fun h1 h2 => by
    have := inC h1 h2
    exact ⟨this.1, fun r σ1 q => ⟨(this.2 r σ1 q).2, (this.2 r σ1 q).1⟩⟩
  exact fl (fun h => yes (Or.inl h)) (fun n1 => fl (fun h => yes (Or.inr (Or.inl h))) (fun n2 => fl (fun h => yes (Or.inr (Or.inr (Or.inl h)))) (fun n3 => fl (fun h => yes (Or.inr (Or.inr (Or.inr (Or.inl h))))) (fun n4 => inC (fun h => yes (Or.inr (Or.inr (Or.inr (Or.inr h))))) (fun n5 => rightN (ht _ _ ⟨fun hc => by unfold cok at hc; omega, rfl, rfl⟩))))))
theorem c_M_count (l : Launch) (ad : Nat → Nat) (D : va_G) (cA : Nat → ClassId) : qT l ad D cA y_M_count (Cond.code y_M_count b_M_count 4 (some .int) :: lw_g) rm_M_count pre_M_count post_M_count pst_M_count := by
  refine qT_of (own := R_M) (by decide) rfl ?_ ?_
  · intro av σ h; unfold pre_M_count at h; split at h
    · simp [qen]
    · exact h.elim
  · intro WW QR QT S Q Th av σ hav hσ h hq ht; unfold pre_M_count at h; split at h
    next o a1 =>
      obtain ⟨rfl, h⟩ := h
      exact w_M_count S Q Th a1 σ (hav _ (List.mem_of_getElem? (i := 1) rfl)) hσ h (fun r σ' h' => hq _ σ' h') (fun t σ' h' => ht t σ' h')
    next => exact h.elim

