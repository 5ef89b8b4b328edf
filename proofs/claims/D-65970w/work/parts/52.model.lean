def dmd (σ : qS) : Nat → Int
  | 0 => 0
  | n + 1 => dmd σ n + if σ 113 n = 0 then 0 else 1
theorem dmd_b (σ : qS) : ∀ n : Nat, 0 ≤ dmd σ n ∧ dmd σ n ≤ n
  | 0 => by simp [dmd]
  | n + 1 => by have := dmd_b σ n; rw [dmd]; split <;> omega
def dcnt (σ : qS) (w : Int) : Int := if 20 ≤ w then σ 104 (3 * (w % 10) + w / 10 - 2) else if 10 ≤ w then (if σ 113 (w - 10) = 0 then 0 else 1) else if w = 0 then (if σ 119 0 = 0 then 0 else 1) else if w = 1 then dmd σ 8 else if w = 2 then σ 115 0 else σ 116 0
def P_D_count (_w : Int) (_σ : qS) : Prop := True
def Q_D_count (w : Int) (σ : qS) (r : Int) (σ' : qS) : Prop := (¬ cok w ∧ r = 0 ∧ σ' = su σ 118 0 1) ∨ (cok w ∧ r = dcnt σ w ∧ σ' = su σ 118 0 0)
def pre_D_count (av : List qA) (σ : qS) : Prop := match av with
  | [.inr (.inr o), .inl a1] => o = 901 ∧ P_D_count a1 σ
  | _ => False
def post_D_count (av : List qA) (σ : qS) (r : Option qA) (σ' : qS) : Prop := match av, r with
  | [_, .inl a1], some (.inl r) => Q_D_count a1 σ r σ'
  | _, _ => False
def oc_D_count (K : qP) : qP := fun st ls σ => match st with
  | .inl a1 :: .inr (.inr o) :: st => o = 901 ∧ (st.map qcat).sum ≤ 8 ∧ P_D_count a1 σ ∧ ∀ (r : Int) (σ' : qS), Q_D_count a1 σ r σ' → K (.inl r :: st) ls σ'
  | _ => False
def rm_D_count : Room := { frames := 1, cells := 0, slots := 0, locals := 22 }
theorem fl_D_154 : qF R_D 901 1 32 100 R_D F_D 154 16 := ⟨Or.inr ⟨rfl, rfl, rfl, rfl, rfl, rfl⟩, by decide, lw_at 805 (by decide +kernel) rfl⟩
def k_D_count_194 (QR : Option qA → qS → Prop) (H : Nat → qP) : qP :=
  o_ri QR
def k_D_count_190 (QR : Option qA → qS → Prop) (H : Nat → qP) : qP :=
  o_al 0 <| o_gI 901 116 <| k_D_count_194 QR H
def k_D_count_183 (QR : Option qA → qS → Prop) (H : Nat → qP) : qP :=
  o_al 0 <| o_gI 901 115 <| k_D_count_194 QR H
def k_D_count_178 (QR : Option qA → qS → Prop) (H : Nat → qP) : qP :=
  o_il 1 <| o_c (.inl 2) <| o_i2 (fun a b => ¬ a = b) (k_D_count_190 QR H) (k_D_count_183 QR H)
def k_D_count_174 (QR : Option qA → qS → Prop) (H : Nat → qP) : qP :=
  o_il 3 <| k_D_count_194 QR H
def k_D_count_169 (QR : Option qA → qS → Prop) (H : Nat → qP) : qP :=
  o_il 1 <| o_c (.inl 1) <| o_i2 (fun a b => ¬ a = b) (k_D_count_178 QR H) (k_D_count_174 QR H)
def k_D_count_165 (QR : Option qA → qS → Prop) (H : Nat → qP) : qP :=
  o_c (.inl 0) <| k_D_count_194 QR H
def k_D_count_161 (QR : Option qA → qS → Prop) (H : Nat → qP) : qP :=
  o_c (.inl 1) <| k_D_count_194 QR H
def k_D_count_154 (QR : Option qA → qS → Prop) (H : Nat → qP) : qP :=
  o_al 0 <| o_gZ 901 119 <| o_if (fun a => a = 0) (k_D_count_165 QR H) (k_D_count_161 QR H)
def k_D_count_150 (QR : Option qA → qS → Prop) (H : Nat → qP) : qP :=
  o_il 1 <| o_if (fun a => ¬ a = 0) (k_D_count_169 QR H) (k_D_count_154 QR H)
def k_D_count_144 (QR : Option qA → qS → Prop) (H : Nat → qP) : qP :=
  o_inc 4 1 <| H 124
def k_D_count_141 (QR : Option qA → qS → Prop) (H : Nat → qP) : qP :=
  o_inc 3 1 <| k_D_count_144 QR H
def k_D_count_131 (QR : Option qA → qS → Prop) (H : Nat → qP) : qP :=
  o_al 0 <| o_gA 901 113 <| o_il 4 <| o_zak 113 8 <| o_if (fun a => a = 0) (k_D_count_144 QR H) (k_D_count_141 QR H)
def k_D_count_124 (QR : Option qA → qS → Prop) (H : Nat → qP) : qP :=
  o_il 4 <| o_c (.inl 8) <| o_i2 (fun a b => b ≤ a) (H 150) (k_D_count_131 QR H)
def k_D_count_119 (QR : Option qA → qS → Prop) (H : Nat → qP) : qP :=
  o_c (.inl 0) <| o_is 3 <| o_c (.inl 0) <| o_is 4 <| H 124
def k_D_count_118 (QR : Option qA → qS → Prop) (H : Nat → qP) : qP :=
  o_ri QR
def k_D_count_117 (QR : Option qA → qS → Prop) (H : Nat → qP) : qP :=
  o_c (.inl 0) <| k_D_count_118 QR H
def k_D_count_113 (QR : Option qA → qS → Prop) (H : Nat → qP) : qP :=
  o_c (.inl 1) <| k_D_count_118 QR H
def k_D_count_104 (QR : Option qA → qS → Prop) (H : Nat → qP) : qP :=
  o_al 0 <| o_gA 901 113 <| o_il 2 <| o_zak 113 8 <| o_if (fun a => a = 0) (k_D_count_117 QR H) (k_D_count_113 QR H)
def k_D_count_98 (QR : Option qA → qS → Prop) (H : Nat → qP) : qP :=
  o_il 1 <| o_c (.inl 10) <| o_i2 (fun a b => a < b) (k_D_count_119 QR H) (k_D_count_104 QR H)
def k_D_count_82 (QR : Option qA → qS → Prop) (H : Nat → qP) : qP :=
  o_al 0 <| o_gA 901 104 <| o_c (.inl 3) <| o_il 2 <| o_bi z_mul <| o_il 1 <| o_c (.inl 10) <| o_bid z_div <| o_bi z_add <| o_c (.inl 2) <| o_bi z_sub <| o_iak 104 24 <| o_ri QR
def k_D_count_76 (QR : Option qA → qS → Prop) (H : Nat → qP) : qP :=
  o_il 1 <| o_c (.inl 20) <| o_i2 (fun a b => a < b) (k_D_count_98 QR H) (k_D_count_82 QR H)
def k_D_count_74 (QR : Option qA → qS → Prop) (H : Nat → qP) : qP :=
  o_c (.inl 0) <| o_ri QR
def k_D_count_64 (QR : Option qA → qS → Prop) (H : Nat → qP) : qP :=
  o_pI 901 118 <| o_al 0 <| o_gI 901 118 <| o_if (fun a => a ≤ 0) (H 76) (k_D_count_74 QR H)
def k_D_count_63 (QR : Option qA → qS → Prop) (H : Nat → qP) : qP :=
  o_c (.inl 1) <| k_D_count_64 QR H
def k_D_count_59 (QR : Option qA → qS → Prop) (H : Nat → qP) : qP :=
  o_c (.inl 0) <| k_D_count_64 QR H
def k_D_count_48 (QR : Option qA → qS → Prop) (H : Nat → qP) : qP :=
  o_il 1 <| o_c (.inl 40) <| o_c (.inl 47) <| oc_D_in <| o_if (fun a => a = 0) (k_D_count_63 QR H) (k_D_count_59 QR H)
def k_D_count_37 (QR : Option qA → qS → Prop) (H : Nat → qP) : qP :=
  o_il 1 <| o_c (.inl 30) <| o_c (.inl 37) <| oc_D_in <| o_if (fun a => ¬ a = 0) (k_D_count_59 QR H) (k_D_count_48 QR H)
def k_D_count_26 (QR : Option qA → qS → Prop) (H : Nat → qP) : qP :=
  o_il 1 <| o_c (.inl 20) <| o_c (.inl 27) <| oc_D_in <| o_if (fun a => ¬ a = 0) (k_D_count_59 QR H) (k_D_count_37 QR H)
def k_D_count_15 (QR : Option qA → qS → Prop) (H : Nat → qP) : qP :=
  o_il 1 <| o_c (.inl 10) <| o_c (.inl 17) <| oc_D_in <| o_if (fun a => ¬ a = 0) (k_D_count_59 QR H) (k_D_count_26 QR H)
def k_D_count_0 (QR : Option qA → qS → Prop) (H : Nat → qP) : qP :=
  o_il 1 <| o_c (.inl 10) <| o_bid z_rem <| o_is 2 <| o_al 0 <| o_il 1 <| o_c (.inl 0) <| o_c (.inl 3) <| oc_D_in <| o_if (fun a => ¬ a = 0) (k_D_count_59 QR H) (k_D_count_15 QR H)
set_option maxRecDepth 8000 in
theorem s_D_count_194 {l : Launch} {ad : Nat → Nat} {D : va_G} {cA : Nat → ClassId} {WW : Nat → qP} {QR : Option qA → qS → Prop} (S : qSnd l rm_D_count ad D cA R_D b_D_count 5 WW) (Q : qRet (some .int) b_D_count WW QR) : qle (k_D_count_194 QR WW) WW 194 :=
  Q.1 rfl _ d_D_count_194
set_option maxRecDepth 8000 in
theorem s_D_count_190 {l : Launch} {ad : Nat → Nat} {D : va_G} {cA : Nat → ClassId} {WW : Nat → qP} {QR : Option qA → qS → Prop} (S : qSnd l rm_D_count ad D cA R_D b_D_count 5 WW) (Q : qRet (some .int) b_D_count WW QR) : qle (k_D_count_190 QR WW) WW 190 :=
  S.aload_n d_D_count_190 rfl <| S.gI fl_D_154 (by decide) d_D_count_191 <| (s_D_count_194 S Q)
set_option maxRecDepth 8000 in
theorem s_D_count_183 {l : Launch} {ad : Nat → Nat} {D : va_G} {cA : Nat → ClassId} {WW : Nat → qP} {QR : Option qA → qS → Prop} (S : qSnd l rm_D_count ad D cA R_D b_D_count 5 WW) (Q : qRet (some .int) b_D_count WW QR) : qle (k_D_count_183 QR WW) WW 183 :=
  S.aload_n d_D_count_183 rfl <| S.gI fl_D_147 (by decide) d_D_count_184 <| S.goto d_D_count_187 (by decide) (s_D_count_194 S Q)
set_option maxRecDepth 8000 in
theorem s_D_count_178 {l : Launch} {ad : Nat → Nat} {D : va_G} {cA : Nat → ClassId} {WW : Nat → qP} {QR : Option qA → qS → Prop} (S : qSnd l rm_D_count ad D cA R_D b_D_count 5 WW) (Q : qRet (some .int) b_D_count WW QR) : qle (k_D_count_178 QR WW) WW 178 :=
  S.iload_n d_D_count_178 rfl <| S.iconst d_D_count_179 (by decide) <| S.icmp_ne d_D_count_180 (by decide) (s_D_count_190 S Q) (s_D_count_183 S Q)
set_option maxRecDepth 8000 in
theorem s_D_count_174 {l : Launch} {ad : Nat → Nat} {D : va_G} {cA : Nat → ClassId} {WW : Nat → qP} {QR : Option qA → qS → Prop} (S : qSnd l rm_D_count ad D cA R_D b_D_count 5 WW) (Q : qRet (some .int) b_D_count WW QR) : qle (k_D_count_174 QR WW) WW 174 :=
  S.iload_n d_D_count_174 rfl <| S.goto d_D_count_175 (by decide) (s_D_count_194 S Q)
set_option maxRecDepth 8000 in
theorem s_D_count_169 {l : Launch} {ad : Nat → Nat} {D : va_G} {cA : Nat → ClassId} {WW : Nat → qP} {QR : Option qA → qS → Prop} (S : qSnd l rm_D_count ad D cA R_D b_D_count 5 WW) (Q : qRet (some .int) b_D_count WW QR) : qle (k_D_count_169 QR WW) WW 169 :=
  S.iload_n d_D_count_169 rfl <| S.iconst d_D_count_170 (by decide) <| S.icmp_ne d_D_count_171 (by decide) (s_D_count_178 S Q) (s_D_count_174 S Q)
set_option maxRecDepth 8000 in
theorem s_D_count_165 {l : Launch} {ad : Nat → Nat} {D : va_G} {cA : Nat → ClassId} {WW : Nat → qP} {QR : Option qA → qS → Prop} (S : qSnd l rm_D_count ad D cA R_D b_D_count 5 WW) (Q : qRet (some .int) b_D_count WW QR) : qle (k_D_count_165 QR WW) WW 165 :=
  S.iconst d_D_count_165 (by decide) <| S.goto d_D_count_166 (by decide) (s_D_count_194 S Q)
set_option maxRecDepth 8000 in
theorem s_D_count_161 {l : Launch} {ad : Nat → Nat} {D : va_G} {cA : Nat → ClassId} {WW : Nat → qP} {QR : Option qA → qS → Prop} (S : qSnd l rm_D_count ad D cA R_D b_D_count 5 WW) (Q : qRet (some .int) b_D_count WW QR) : qle (k_D_count_161 QR WW) WW 161 :=
  S.iconst d_D_count_161 (by decide) <| S.goto d_D_count_162 (by decide) (s_D_count_194 S Q)
set_option maxRecDepth 8000 in
theorem s_D_count_154 {l : Launch} {ad : Nat → Nat} {D : va_G} {cA : Nat → ClassId} {WW : Nat → qP} {QR : Option qA → qS → Prop} (S : qSnd l rm_D_count ad D cA R_D b_D_count 5 WW) (Q : qRet (some .int) b_D_count WW QR) : qle (k_D_count_154 QR WW) WW 154 :=
  S.aload_n d_D_count_154 rfl <| S.gZ fl_D_139 (by decide) d_D_count_155 <| S.if_eq d_D_count_158 (by decide) (s_D_count_165 S Q) (s_D_count_161 S Q)
set_option maxRecDepth 8000 in
theorem s_D_count_150 {l : Launch} {ad : Nat → Nat} {D : va_G} {cA : Nat → ClassId} {WW : Nat → qP} {QR : Option qA → qS → Prop} (S : qSnd l rm_D_count ad D cA R_D b_D_count 5 WW) (Q : qRet (some .int) b_D_count WW QR) : qle (k_D_count_150 QR WW) WW 150 :=
  S.iload_n d_D_count_150 rfl <| S.if_ne d_D_count_151 (by decide) (s_D_count_169 S Q) (s_D_count_154 S Q)
set_option maxRecDepth 8000 in
theorem s_D_count_144 {l : Launch} {ad : Nat → Nat} {D : va_G} {cA : Nat → ClassId} {WW : Nat → qP} {QR : Option qA → qS → Prop} (S : qSnd l rm_D_count ad D cA R_D b_D_count 5 WW) (Q : qRet (some .int) b_D_count WW QR) : qle (k_D_count_144 QR WW) WW 144 :=
  S.iinc d_D_count_144 (by decide) <| S.goto d_D_count_147 (by decide) (fun _ _ _ h => h)
set_option maxRecDepth 8000 in
theorem s_D_count_141 {l : Launch} {ad : Nat → Nat} {D : va_G} {cA : Nat → ClassId} {WW : Nat → qP} {QR : Option qA → qS → Prop} (S : qSnd l rm_D_count ad D cA R_D b_D_count 5 WW) (Q : qRet (some .int) b_D_count WW QR) : qle (k_D_count_141 QR WW) WW 141 :=
  S.iinc d_D_count_141 (by decide) <| (s_D_count_144 S Q)
set_option maxRecDepth 8000 in
theorem s_D_count_131 {l : Launch} {ad : Nat → Nat} {D : va_G} {cA : Nat → ClassId} {WW : Nat → qP} {QR : Option qA → qS → Prop} (S : qSnd l rm_D_count ad D cA R_D b_D_count 5 WW) (Q : qRet (some .int) b_D_count WW QR) : qle (k_D_count_131 QR WW) WW 131 :=
  S.aload_n d_D_count_131 rfl <| S.gA fl_D_50 (by decide) d_D_count_132 <| S.iload d_D_count_135 <| S.zak (by decide) d_D_count_137 <| S.if_eq d_D_count_138 (by decide) (s_D_count_144 S Q) (s_D_count_141 S Q)
set_option maxRecDepth 8000 in
theorem s_D_count_124 {l : Launch} {ad : Nat → Nat} {D : va_G} {cA : Nat → ClassId} {WW : Nat → qP} {QR : Option qA → qS → Prop} (S : qSnd l rm_D_count ad D cA R_D b_D_count 5 WW) (Q : qRet (some .int) b_D_count WW QR) : qle (k_D_count_124 QR WW) WW 124 :=
  S.iload d_D_count_124 <| S.bipush d_D_count_126 (by decide) <| S.icmp_ge d_D_count_128 (by decide) (fun _ _ _ h => h) (s_D_count_131 S Q)
set_option maxRecDepth 8000 in
theorem s_D_count_119 {l : Launch} {ad : Nat → Nat} {D : va_G} {cA : Nat → ClassId} {WW : Nat → qP} {QR : Option qA → qS → Prop} (S : qSnd l rm_D_count ad D cA R_D b_D_count 5 WW) (Q : qRet (some .int) b_D_count WW QR) : qle (k_D_count_119 QR WW) WW 119 :=
  S.iconst d_D_count_119 (by decide) <| S.istore_n d_D_count_120 rfl (by decide) <| S.iconst d_D_count_121 (by decide) <| S.istore d_D_count_122 (by decide) <| (fun _ _ _ h => h)
set_option maxRecDepth 8000 in
theorem s_D_count_118 {l : Launch} {ad : Nat → Nat} {D : va_G} {cA : Nat → ClassId} {WW : Nat → qP} {QR : Option qA → qS → Prop} (S : qSnd l rm_D_count ad D cA R_D b_D_count 5 WW) (Q : qRet (some .int) b_D_count WW QR) : qle (k_D_count_118 QR WW) WW 118 :=
  Q.1 rfl _ d_D_count_118
set_option maxRecDepth 8000 in
theorem s_D_count_117 {l : Launch} {ad : Nat → Nat} {D : va_G} {cA : Nat → ClassId} {WW : Nat → qP} {QR : Option qA → qS → Prop} (S : qSnd l rm_D_count ad D cA R_D b_D_count 5 WW) (Q : qRet (some .int) b_D_count WW QR) : qle (k_D_count_117 QR WW) WW 117 :=
  S.iconst d_D_count_117 (by decide) <| (s_D_count_118 S Q)
set_option maxRecDepth 8000 in
theorem s_D_count_113 {l : Launch} {ad : Nat → Nat} {D : va_G} {cA : Nat → ClassId} {WW : Nat → qP} {QR : Option qA → qS → Prop} (S : qSnd l rm_D_count ad D cA R_D b_D_count 5 WW) (Q : qRet (some .int) b_D_count WW QR) : qle (k_D_count_113 QR WW) WW 113 :=
  S.iconst d_D_count_113 (by decide) <| S.goto d_D_count_114 (by decide) (s_D_count_118 S Q)
set_option maxRecDepth 8000 in
theorem s_D_count_104 {l : Launch} {ad : Nat → Nat} {D : va_G} {cA : Nat → ClassId} {WW : Nat → qP} {QR : Option qA → qS → Prop} (S : qSnd l rm_D_count ad D cA R_D b_D_count 5 WW) (Q : qRet (some .int) b_D_count WW QR) : qle (k_D_count_104 QR WW) WW 104 :=
  S.aload_n d_D_count_104 rfl <| S.gA fl_D_50 (by decide) d_D_count_105 <| S.iload_n d_D_count_108 rfl <| S.zak (by decide) d_D_count_109 <| S.if_eq d_D_count_110 (by decide) (s_D_count_117 S Q) (s_D_count_113 S Q)
set_option maxRecDepth 8000 in
theorem s_D_count_98 {l : Launch} {ad : Nat → Nat} {D : va_G} {cA : Nat → ClassId} {WW : Nat → qP} {QR : Option qA → qS → Prop} (S : qSnd l rm_D_count ad D cA R_D b_D_count 5 WW) (Q : qRet (some .int) b_D_count WW QR) : qle (k_D_count_98 QR WW) WW 98 :=
  S.iload_n d_D_count_98 rfl <| S.bipush d_D_count_99 (by decide) <| S.icmp_lt d_D_count_101 (by decide) (s_D_count_119 S Q) (s_D_count_104 S Q)
set_option maxRecDepth 8000 in
theorem s_D_count_82 {l : Launch} {ad : Nat → Nat} {D : va_G} {cA : Nat → ClassId} {WW : Nat → qP} {QR : Option qA → qS → Prop} (S : qSnd l rm_D_count ad D cA R_D b_D_count 5 WW) (Q : qRet (some .int) b_D_count WW QR) : qle (k_D_count_82 QR WW) WW 82 :=
  S.aload_n d_D_count_82 rfl <| S.gA fl_D_23 (by decide) d_D_count_83 <| S.iconst d_D_count_86 (by decide) <| S.iload_n d_D_count_87 rfl <| S.imul d_D_count_88 <| S.iload_n d_D_count_89 rfl <| S.bipush d_D_count_90 (by decide) <| S.idiv d_D_count_92 <| S.iadd d_D_count_93 <| S.iconst d_D_count_94 (by decide) <| S.isub d_D_count_95 <| S.iak (by decide) d_D_count_96 <| Q.1 rfl _ d_D_count_97
set_option maxRecDepth 8000 in
theorem s_D_count_76 {l : Launch} {ad : Nat → Nat} {D : va_G} {cA : Nat → ClassId} {WW : Nat → qP} {QR : Option qA → qS → Prop} (S : qSnd l rm_D_count ad D cA R_D b_D_count 5 WW) (Q : qRet (some .int) b_D_count WW QR) : qle (k_D_count_76 QR WW) WW 76 :=
  S.iload_n d_D_count_76 rfl <| S.bipush d_D_count_77 (by decide) <| S.icmp_lt d_D_count_79 (by decide) (s_D_count_98 S Q) (s_D_count_82 S Q)
set_option maxRecDepth 8000 in
theorem s_D_count_74 {l : Launch} {ad : Nat → Nat} {D : va_G} {cA : Nat → ClassId} {WW : Nat → qP} {QR : Option qA → qS → Prop} (S : qSnd l rm_D_count ad D cA R_D b_D_count 5 WW) (Q : qRet (some .int) b_D_count WW QR) : qle (k_D_count_74 QR WW) WW 74 :=
  S.iconst d_D_count_74 (by decide) <| Q.1 rfl _ d_D_count_75
set_option maxRecDepth 8000 in
theorem s_D_count_64 {l : Launch} {ad : Nat → Nat} {D : va_G} {cA : Nat → ClassId} {WW : Nat → qP} {QR : Option qA → qS → Prop} (S : qSnd l rm_D_count ad D cA R_D b_D_count 5 WW) (Q : qRet (some .int) b_D_count WW QR) : qle (k_D_count_64 QR WW) WW 64 :=
  S.pI fl_D_87 (by decide) (by decide +kernel) d_D_count_64 <| S.aload_n d_D_count_67 rfl <| S.gI fl_D_87 (by decide) d_D_count_68 <| S.if_le d_D_count_71 (by decide) (fun _ _ _ h => h) (s_D_count_74 S Q)
set_option maxRecDepth 8000 in
theorem s_D_count_63 {l : Launch} {ad : Nat → Nat} {D : va_G} {cA : Nat → ClassId} {WW : Nat → qP} {QR : Option qA → qS → Prop} (S : qSnd l rm_D_count ad D cA R_D b_D_count 5 WW) (Q : qRet (some .int) b_D_count WW QR) : qle (k_D_count_63 QR WW) WW 63 :=
  S.iconst d_D_count_63 (by decide) <| (s_D_count_64 S Q)
set_option maxRecDepth 8000 in
theorem s_D_count_59 {l : Launch} {ad : Nat → Nat} {D : va_G} {cA : Nat → ClassId} {WW : Nat → qP} {QR : Option qA → qS → Prop} (S : qSnd l rm_D_count ad D cA R_D b_D_count 5 WW) (Q : qRet (some .int) b_D_count WW QR) : qle (k_D_count_59 QR WW) WW 59 :=
  S.iconst d_D_count_59 (by decide) <| S.goto d_D_count_60 (by decide) (s_D_count_64 S Q)
set_option maxRecDepth 8000 in
theorem s_D_count_48 {l : Launch} {ad : Nat → Nat} {D : va_G} {cA : Nat → ClassId} {WW : Nat → qP} {QR : Option qA → qS → Prop} (S : qSnd l rm_D_count ad D cA R_D b_D_count 5 WW) (Q : qRet (some .int) b_D_count WW QR) : qle (k_D_count_48 QR WW) WW 48 :=
  S.iload_n d_D_count_48 rfl <| S.bipush d_D_count_49 (by decide) <| S.bipush d_D_count_51 (by decide) <| sc_D_136 S (by decide) d_D_count_53 <| S.if_eq d_D_count_56 (by decide) (s_D_count_63 S Q) (s_D_count_59 S Q)
set_option maxRecDepth 8000 in
theorem s_D_count_37 {l : Launch} {ad : Nat → Nat} {D : va_G} {cA : Nat → ClassId} {WW : Nat → qP} {QR : Option qA → qS → Prop} (S : qSnd l rm_D_count ad D cA R_D b_D_count 5 WW) (Q : qRet (some .int) b_D_count WW QR) : qle (k_D_count_37 QR WW) WW 37 :=
  S.iload_n d_D_count_37 rfl <| S.bipush d_D_count_38 (by decide) <| S.bipush d_D_count_40 (by decide) <| sc_D_136 S (by decide) d_D_count_42 <| S.if_ne d_D_count_45 (by decide) (s_D_count_59 S Q) (s_D_count_48 S Q)
set_option maxRecDepth 8000 in
theorem s_D_count_26 {l : Launch} {ad : Nat → Nat} {D : va_G} {cA : Nat → ClassId} {WW : Nat → qP} {QR : Option qA → qS → Prop} (S : qSnd l rm_D_count ad D cA R_D b_D_count 5 WW) (Q : qRet (some .int) b_D_count WW QR) : qle (k_D_count_26 QR WW) WW 26 :=
  S.iload_n d_D_count_26 rfl <| S.bipush d_D_count_27 (by decide) <| S.bipush d_D_count_29 (by decide) <| sc_D_136 S (by decide) d_D_count_31 <| S.if_ne d_D_count_34 (by decide) (s_D_count_59 S Q) (s_D_count_37 S Q)
set_option maxRecDepth 8000 in
theorem s_D_count_15 {l : Launch} {ad : Nat → Nat} {D : va_G} {cA : Nat → ClassId} {WW : Nat → qP} {QR : Option qA → qS → Prop} (S : qSnd l rm_D_count ad D cA R_D b_D_count 5 WW) (Q : qRet (some .int) b_D_count WW QR) : qle (k_D_count_15 QR WW) WW 15 :=
  S.iload_n d_D_count_15 rfl <| S.bipush d_D_count_16 (by decide) <| S.bipush d_D_count_18 (by decide) <| sc_D_136 S (by decide) d_D_count_20 <| S.if_ne d_D_count_23 (by decide) (s_D_count_59 S Q) (s_D_count_26 S Q)
set_option maxRecDepth 8000 in
theorem s_D_count_0 {l : Launch} {ad : Nat → Nat} {D : va_G} {cA : Nat → ClassId} {WW : Nat → qP} {QR : Option qA → qS → Prop} (S : qSnd l rm_D_count ad D cA R_D b_D_count 5 WW) (Q : qRet (some .int) b_D_count WW QR) : qle (k_D_count_0 QR WW) WW 0 :=
  S.iload_n d_D_count_0 rfl <| S.bipush d_D_count_1 (by decide) <| S.irem d_D_count_3 <| S.istore_n d_D_count_4 rfl (by decide) <| S.aload_n d_D_count_5 rfl <| S.iload_n d_D_count_6 rfl <| S.iconst d_D_count_7 (by decide) <| S.iconst d_D_count_8 (by decide) <| sc_D_136 S (by decide) d_D_count_9 <| S.if_ne d_D_count_12 (by decide) (s_D_count_59 S Q) (s_D_count_15 S Q)
theorem v_D_count_124 {l : Launch} {ad : Nat → Nat} {D : va_G} {cA : Nat → ClassId} {WW : Nat → qP} {QR : Option qA → qS → Prop} (S : qSnd l rm_D_count ad D cA R_D b_D_count 5 WW) (Q : qRet (some .int) b_D_count WW QR) (σ0 σ : qS) (w j : Int) (em : σ 113 = σ0 113) (K : WW 150 [] [some (.inr (.inr 901)), some (.inl w), some (.inl j), some (.inl (dmd σ0 8)), none] σ) : ∀ (m k : Nat), k + m = 8 → WW 124 [] [some (.inr (.inr 901)), some (.inl w), some (.inl j), some (.inl (dmd σ0 k)), some (.inl (k : Int))] σ := by
  intro m
  induction m with
  | zero =>
    intro k hk
    refine s_D_count_124 S Q _ _ _ ?_
    simp only [k_D_count_0, k_D_count_15, k_D_count_26, k_D_count_37, k_D_count_48, k_D_count_59, k_D_count_63, k_D_count_64, k_D_count_74, k_D_count_76, k_D_count_82, k_D_count_98, k_D_count_104, k_D_count_113, k_D_count_117, k_D_count_118, k_D_count_119, k_D_count_124, k_D_count_131, k_D_count_141, k_D_count_144, k_D_count_150, k_D_count_154, k_D_count_161, k_D_count_165, k_D_count_169, k_D_count_174, k_D_count_178, k_D_count_183, k_D_count_190, k_D_count_194, oc_D_in, o_c, o_il, o_ll, o_al, o_is, o_as, o_ls, o_inc, o_bi, o_bid, o_bl, o_bld, o_sl, o_i2l, o_l2i, o_dup, o_dup2, o_pop, o_pop2, o_if, o_i2, o_l2, swg, o_sw, o_gI, o_gZ, o_gJ, o_gA, o_gR, o_pI, o_pZ, o_pJ, o_pR, o_ia, o_iak, o_zak, o_ja, o_jak, o_is_, o_isk, o_zsk, o_js_, o_jsk, o_len, o_ri, o_rz, o_rl, o_rv, ls1, ls2, lks, lkj, List.getD_cons_zero, List.getD_cons_succ, List.set_cons_zero, List.set_cons_succ, qcat, true_and, and_true, List.map_nil, List.map_cons, List.sum_nil, List.sum_cons, Nat.reduceAdd, Nat.reduceLeDiff, Nat.zero_le, Int.reduceAdd, Int.reduceNeg, Int.reduceEq, or_true, true_or, Decidable.not_not, false_implies, not_false_eq_true, true_implies, not_true_eq_false, Int.reduceLT, Int.reduceLE]
    rw [show k = 8 by omega]
    exact ⟨fun _ => S.fg (ls' := [some (.inr (.inr 901)), some (.inl w), some (.inl j), some (.inl (dmd σ0 8)), none]) ⟨rfl, rfl, rfl, rfl, trivial⟩ K, fun h => by omega⟩
  | succ m ih =>
    intro k hk
    refine s_D_count_124 S Q _ _ _ ?_
    simp only [k_D_count_0, k_D_count_15, k_D_count_26, k_D_count_37, k_D_count_48, k_D_count_59, k_D_count_63, k_D_count_64, k_D_count_74, k_D_count_76, k_D_count_82, k_D_count_98, k_D_count_104, k_D_count_113, k_D_count_117, k_D_count_118, k_D_count_119, k_D_count_124, k_D_count_131, k_D_count_141, k_D_count_144, k_D_count_150, k_D_count_154, k_D_count_161, k_D_count_165, k_D_count_169, k_D_count_174, k_D_count_178, k_D_count_183, k_D_count_190, k_D_count_194, oc_D_in, o_c, o_il, o_ll, o_al, o_is, o_as, o_ls, o_inc, o_bi, o_bid, o_bl, o_bld, o_sl, o_i2l, o_l2i, o_dup, o_dup2, o_pop, o_pop2, o_if, o_i2, o_l2, swg, o_sw, o_gI, o_gZ, o_gJ, o_gA, o_gR, o_pI, o_pZ, o_pJ, o_pR, o_ia, o_iak, o_zak, o_ja, o_jak, o_is_, o_isk, o_zsk, o_js_, o_jsk, o_len, o_ri, o_rz, o_rl, o_rv, ls1, ls2, lks, lkj, List.getD_cons_zero, List.getD_cons_succ, List.set_cons_zero, List.set_cons_succ, qcat, true_and, and_true, List.map_nil, List.map_cons, List.sum_nil, List.sum_cons, Nat.reduceAdd, Nat.reduceLeDiff, Nat.zero_le, Int.reduceAdd, Int.reduceNeg, Int.reduceEq, or_true, true_or, Decidable.not_not, false_implies, not_false_eq_true, true_implies, not_true_eq_false, Int.reduceLT, Int.reduceLE]
    have hb := dmd_b σ0 k
    have := ih (k + 1) (by omega)
    rw [dmd] at this
    rw [em, w32_i ((k : Int) + 1) (by omega) (by omega), w32_i (dmd σ0 k + 1) (by omega) (by omega)]
    refine ⟨fun h => by omega, fun _ => ⟨by omega, fun _ => ⟨fun h0 => ?_, fun h0 => ?_⟩⟩⟩
    · rw [if_pos h0, show dmd σ0 k + 0 = dmd σ0 k by omega] at this; exact this
    · rw [if_neg h0] at this; exact this
theorem w_D_count {l : Launch} {ad : Nat → Nat} {D : va_G} {cA : Nat → ClassId} {WW : Nat → qP} {QR : Option qA → qS → Prop} (S : qSnd l rm_D_count ad D cA R_D b_D_count 5 WW) (Q : qRet (some .int) b_D_count WW QR) (a1 : Int) (σ : qS) (ha1 : r32 a1) (hσ : qoS σ) (h : P_D_count a1 σ) (hq : ∀ (r : Int) σ', Q_D_count a1 σ r σ' → QR (some (.inl r)) σ') : WW 0 [] [some (.inr (.inr 901)), some (.inl a1), none, none, none] σ := by
  have yes : cok a1 → WW 76 [] [some (.inr (.inr 901)), some (.inl a1), some (.inl (z_rem a1 10)), none, none] (su σ 118 0 0) := fun hc => by
    have hq' : ∀ r, r = dcnt σ a1 → QR (some (.inl r)) (su σ 118 0 0) := fun r hr => hq _ _ (Or.inr ⟨hc, hr, rfl⟩)
    unfold dcnt at hq'
    unfold cok at hc
    refine s_D_count_76 S Q _ _ _ ?_
    simp only [k_D_count_0, k_D_count_15, k_D_count_26, k_D_count_37, k_D_count_48, k_D_count_59, k_D_count_63, k_D_count_64, k_D_count_74, k_D_count_76, k_D_count_82, k_D_count_98, k_D_count_104, k_D_count_113, k_D_count_117, k_D_count_118, k_D_count_119, k_D_count_124, k_D_count_131, k_D_count_141, k_D_count_144, k_D_count_150, k_D_count_154, k_D_count_161, k_D_count_165, k_D_count_169, k_D_count_174, k_D_count_178, k_D_count_183, k_D_count_190, k_D_count_194, oc_D_in, o_c, o_il, o_ll, o_al, o_is, o_as, o_ls, o_inc, o_bi, o_bid, o_bl, o_bld, o_sl, o_i2l, o_l2i, o_dup, o_dup2, o_pop, o_pop2, o_if, o_i2, o_l2, swg, o_sw, o_gI, o_gZ, o_gJ, o_gA, o_gR, o_pI, o_pZ, o_pJ, o_pR, o_ia, o_iak, o_zak, o_ja, o_jak, o_is_, o_isk, o_zsk, o_js_, o_jsk, o_len, o_ri, o_rz, o_rl, o_rv, ls1, ls2, lks, lkj, List.getD_cons_zero, List.getD_cons_succ, List.set_cons_zero, List.set_cons_succ, qcat, true_and, and_true, List.map_nil, List.map_cons, List.sum_nil, List.sum_cons, Nat.reduceAdd, Nat.reduceLeDiff, Nat.zero_le, Int.reduceAdd, Int.reduceNeg, Int.reduceEq, or_true, true_or, Decidable.not_not, false_implies, not_false_eq_true, true_implies, not_true_eq_false, Int.reduceLT, Int.reduceLE]
    have e1 : z_rem a1 10 = a1 % 10 := by unfold z_rem; exact Int.tmod_eq_emod_of_nonneg (by omega)
    rw [su_k (by decide), su_k (by decide), e1]
    refine ⟨fun h20 => ⟨fun h10 => ?_, fun h10 => ?_⟩, fun h20 => ?_⟩
    · refine v_D_count_124 S Q σ (su σ 118 0 0) a1 (a1 % 10) (su_k (by decide)) ?_ 8 0 (by omega)
      refine s_D_count_150 S Q _ _ _ ?_
      simp only [k_D_count_0, k_D_count_15, k_D_count_26, k_D_count_37, k_D_count_48, k_D_count_59, k_D_count_63, k_D_count_64, k_D_count_74, k_D_count_76, k_D_count_82, k_D_count_98, k_D_count_104, k_D_count_113, k_D_count_117, k_D_count_118, k_D_count_119, k_D_count_124, k_D_count_131, k_D_count_141, k_D_count_144, k_D_count_150, k_D_count_154, k_D_count_161, k_D_count_165, k_D_count_169, k_D_count_174, k_D_count_178, k_D_count_183, k_D_count_190, k_D_count_194, oc_D_in, o_c, o_il, o_ll, o_al, o_is, o_as, o_ls, o_inc, o_bi, o_bid, o_bl, o_bld, o_sl, o_i2l, o_l2i, o_dup, o_dup2, o_pop, o_pop2, o_if, o_i2, o_l2, swg, o_sw, o_gI, o_gZ, o_gJ, o_gA, o_gR, o_pI, o_pZ, o_pJ, o_pR, o_ia, o_iak, o_zak, o_ja, o_jak, o_is_, o_isk, o_zsk, o_js_, o_jsk, o_len, o_ri, o_rz, o_rl, o_rv, ls1, ls2, lks, lkj, List.getD_cons_zero, List.getD_cons_succ, List.set_cons_zero, List.set_cons_succ, qcat, true_and, and_true, List.map_nil, List.map_cons, List.sum_nil, List.sum_cons, Nat.reduceAdd, Nat.reduceLeDiff, Nat.zero_le, Int.reduceAdd, Int.reduceNeg, Int.reduceEq, or_true, true_or, Decidable.not_not, false_implies, not_false_eq_true, true_implies, not_true_eq_false, Int.reduceLT, Int.reduceLE]
      simp (disch := omega) only [su_k]
      rw [if_neg (by omega), if_neg (by omega)] at hq'
      exact ⟨fun n0 => ⟨fun n1 => ⟨fun n2 => hq' _ (by rw [if_neg n0, if_neg n1, if_neg n2]), fun e2 => hq' _ (by rw [if_neg n0, if_neg n1, if_pos e2])⟩, fun e1 => hq' _ (by rw [if_neg n0, if_pos e1])⟩, fun e0 _ => ⟨fun hb => hq' _ (by rw [if_pos e0, if_pos hb]), fun hb => hq' _ (by rw [if_pos e0, if_neg hb])⟩⟩
    · have e2 : a1 % 10 = a1 - 10 := by omega
      rw [e2]
      rw [if_neg (by omega), if_pos (by omega)] at hq'
      exact ⟨by omega, fun _ => ⟨fun hm => hq' _ (by rw [if_pos hm]), fun hm => hq' _ (by rw [if_neg hm])⟩⟩
    · have e2 : z_div a1 10 = a1 / 10 := by unfold z_div; rw [Int.tdiv_eq_ediv_of_nonneg (by omega)]; exact w32_i _ (by omega) (by omega)
      have e3 : z_sub (z_add (z_mul 3 (a1 % 10)) (a1 / 10)) 2 = 3 * (a1 % 10) + a1 / 10 - 2 := by unfold z_sub z_add z_mul; rw [w32_i (3 * (a1 % 10)) (by omega) (by omega), w32_i (3 * (a1 % 10) + a1 / 10) (by omega) (by omega), w32_i _ (by omega) (by omega)]
      rw [e2, e3]
      clear e1 e2 e3
      rw [if_pos (by omega)] at hq'
      have hA : (a1 % 10 ≤ 7 ∧ 0 ≤ a1 % 10) ∧ 2 ≤ a1 / 10 ∧ a1 / 10 ≤ 4 := by
        rcases hc with x | x | x | x | x
        · omega
        · omega
        · omega
        · omega
        · omega
      exact ⟨by omega, by omega, hq' _ rfl⟩
  refine s_D_count_0 S Q _ _ _ ?_
  simp only [k_D_count_0, k_D_count_15, k_D_count_26, k_D_count_37, k_D_count_48, k_D_count_59, k_D_count_63, k_D_count_64, k_D_count_74, k_D_count_76, k_D_count_82, k_D_count_98, k_D_count_104, k_D_count_113, k_D_count_117, k_D_count_118, k_D_count_119, k_D_count_124, k_D_count_131, k_D_count_141, k_D_count_144, k_D_count_150, k_D_count_154, k_D_count_161, k_D_count_165, k_D_count_169, k_D_count_174, k_D_count_178, k_D_count_183, k_D_count_190, k_D_count_194, oc_D_in, o_c, o_il, o_ll, o_al, o_is, o_as, o_ls, o_inc, o_bi, o_bid, o_bl, o_bld, o_sl, o_i2l, o_l2i, o_dup, o_dup2, o_pop, o_pop2, o_if, o_i2, o_l2, swg, o_sw, o_gI, o_gZ, o_gJ, o_gA, o_gR, o_pI, o_pZ, o_pJ, o_pR, o_ia, o_iak, o_zak, o_ja, o_jak, o_is_, o_isk, o_zsk, o_js_, o_jsk, o_len, o_ri, o_rz, o_rl, o_rv, ls1, ls2, lks, lkj, List.getD_cons_zero, List.getD_cons_succ, List.set_cons_zero, List.set_cons_succ, qcat, true_and, and_true, List.map_nil, List.map_cons, List.sum_nil, List.sum_cons, Nat.reduceAdd, Nat.reduceLeDiff, Nat.zero_le, Int.reduceAdd, Int.reduceNeg, Int.reduceEq, or_true, true_or, Decidable.not_not, false_implies, not_false_eq_true, true_implies, not_true_eq_false, Int.reduceLT, Int.reduceLE, su_s]
  exact ⟨by omega, dinF (fun h => yes (Or.inl h)) (fun n1 => dinF (fun h => yes (Or.inr (Or.inl h))) (fun n2 => dinF (fun h => yes (Or.inr (Or.inr (Or.inl h)))) (fun n3 => dinF (fun h => yes (Or.inr (Or.inr (Or.inr (Or.inl h))))) (fun n4 => dinC (fun h => yes (Or.inr (Or.inr (Or.inr (Or.inr h))))) (fun n5 => hq _ _ (Or.inl ⟨fun hc => by unfold cok at hc; omega, rfl, rfl⟩))))))⟩
theorem c_D_count (l : Launch) (ad : Nat → Nat) (D : va_G) (cA : Nat → ClassId) : qC l ad D cA y_D_count (Cond.code y_D_count b_D_count 5 (some .int) :: lw_g) rm_D_count pre_D_count post_D_count := by
  refine qC_of (own := R_D) (by decide) rfl ⟨rfl, rfl⟩ ?_ ?_
  · intro av σ h; unfold pre_D_count at h; split at h
    · simp [qen]
    · exact h.elim
  · intro WW QR S Q av σ hav hσ h hq; unfold pre_D_count at h; split at h
    next o a1 =>
      obtain ⟨rfl, h⟩ := h
      exact w_D_count S Q a1 σ (hav _ (List.mem_of_getElem? (i := 1) rfl)) hσ h (fun r σ' h' => hq _ σ' h')
    next => exact h.elim

