def FA (σ : qS) (w : Int) (i : Nat) : Int := σ 76 (w * 39 + i)
def FP (σ : qS) (w : Int) : Prop := FA σ w 0 = 0 ∧ FA σ w (spl σ).toNat ≤ 1000 ∧ (∀ i : Nat, (i : Int) < spl σ → FA σ w i ≤ FA σ w (i + 1)) ∧ ∀ i : Nat, (i : Int) < spl σ → srtd (row σ 77 78 (w * 1000 + FA σ w i) (FA σ w (i + 1) - FA σ w i).toNat)
def FR (σ : qS) (w : Int) : List Pr := row σ 77 78 (w * 1000) (FA σ w (spl σ).toNat).toNat
def rdc (σ : qS) (F : List Pr) : Option (List Pr) := gmap (fun k vs => lcall (prg σ (jb σ * 3 + 2)) 2 k vs) F.length (srt F)
def P_M_write (w p : Int) (σ : qS) : Prop := (0 ≤ w ∧ w < 6) ∧ (0 ≤ p ∧ p < 6) ∧ lok σ ∧ jobok σ ∧ progok σ (jb σ * 3 + 2) ∧ FP σ w
def F_pt (p : Int) (σ σ' : qS) : Prop := (∀ k, k ∉ SC → k ∉ [42, 43] → σ' k = σ k) ∧ ∀ j, (j < p * 300 ∨ p * 300 + 300 ≤ j) → σ' 42 j = σ 42 j ∧ σ' 43 j = σ 43 j
def W1 (p : Int) (out : List Pr) (σ σ1 : qS) : Prop := (∀ k, k ∉ SC → k ∉ [42, 43, 41, 40] → σ1 k = σ k) ∧ (∀ j, (j < p * 300 ∨ p * 300 + 300 ≤ j) → σ1 42 j = σ 42 j ∧ σ1 43 j = σ 43 j) ∧ row σ1 42 43 (p * 300) out.length = out ∧ (∀ j, σ1 41 j = if j = p then (out.length : Int) else σ 41 j) ∧ ∀ j, σ1 40 j = if j = p then σ 31 0 else σ 40 j
def Q_M_write (w p : Int) (σ σ' : qS) : Prop := (∃ out σ1, rdc σ (FR σ w) = some out ∧ out.length ≤ 300 ∧ W1 p out σ σ1 ∧ Q_M_done w (σ 62 w) 0 σ1 σ') ∨ ((rdc σ (FR σ w) = none ∨ ∃ out, rdc σ (FR σ w) = some out ∧ 300 < out.length) ∧ ∃ σ1, F_pt p σ σ1 ∧ Q_M_traps w σ1 σ')
def pre_M_write (av : List qA) (σ : qS) : Prop := match av with
  | [.inr (.inr o), .inl a1, .inl a2] => o = 900 ∧ P_M_write a1 a2 σ
  | _ => False
def post_M_write (av : List qA) (σ : qS) (r : Option qA) (σ' : qS) : Prop := match av, r with
  | [_, .inl a1, .inl a2], none => Q_M_write a1 a2 σ σ'
  | _, _ => False
def oc_M_write (K : qP) : qP := fun st ls σ => match st with
  | .inl a2 :: .inl a1 :: .inr (.inr o) :: st => o = 900 ∧ (st.map qcat).sum ≤ 8 ∧ P_M_write a1 a2 σ ∧ ∀ (σ' : qS), Q_M_write a1 a2 σ σ' → K st ls σ'
  | _ => False
def rm_M_write : Room := { frames := 5, cells := 0, slots := 0, locals := 122 }
theorem fl_M_81 : qF R_M 900 0 82 0 R_M F_M 81 40 := ⟨Or.inl ⟨rfl, rfl, rfl, rfl, rfl, rfl⟩, by decide, lw_at 118 (by decide +kernel) rfl⟩
theorem fl_M_84 : qF R_M 900 0 82 0 R_M F_M 84 41 := ⟨Or.inl ⟨rfl, rfl, rfl, rfl, rfl, rfl⟩, by decide, lw_at 119 (by decide +kernel) rfl⟩
theorem fl_M_87 : qF R_M 900 0 82 0 R_M F_M 87 42 := ⟨Or.inl ⟨rfl, rfl, rfl, rfl, rfl, rfl⟩, by decide, lw_at 120 (by decide +kernel) rfl⟩
theorem fl_M_90 : qF R_M 900 0 82 0 R_M F_M 90 43 := ⟨Or.inl ⟨rfl, rfl, rfl, rfl, rfl, rfl⟩, by decide, lw_at 121 (by decide +kernel) rfl⟩
theorem fl_M_180 : qF R_M 900 0 82 0 R_M F_M 180 76 := ⟨Or.inl ⟨rfl, rfl, rfl, rfl, rfl, rfl⟩, by decide, lw_at 154 (by decide +kernel) rfl⟩
theorem fl_M_183 : qF R_M 900 0 82 0 R_M F_M 183 77 := ⟨Or.inl ⟨rfl, rfl, rfl, rfl, rfl, rfl⟩, by decide, lw_at 155 (by decide +kernel) rfl⟩
theorem fl_M_186 : qF R_M 900 0 82 0 R_M F_M 186 78 := ⟨Or.inl ⟨rfl, rfl, rfl, rfl, rfl, rfl⟩, by decide, lw_at 156 (by decide +kernel) rfl⟩
def k_M_write_157 (QR : Option qA → qS → Prop) (H : Nat → qP) : qP :=
  o_al 0 <| o_gA 900 41 <| o_il 2 <| o_il 4 <| o_isk 41 6 <| o_al 0 <| o_gA 900 40 <| o_il 2 <| o_al 0 <| o_gI 900 31 <| o_isk 40 6 <| o_al 0 <| o_il 1 <| o_al 0 <| o_gA 900 62 <| o_il 1 <| o_iak 62 6 <| o_c (.inl 0) <| oc_M_done <| o_rv QR
def k_M_write_150 (QR : Option qA → qS → Prop) (H : Nat → qP) : qP :=
  o_il 6 <| o_is 5 <| H 36
def k_M_write_101 (QR : Option qA → qS → Prop) (H : Nat → qP) : qP :=
  o_al 0 <| o_gA 900 42 <| o_il 2 <| o_c (.inl 300) <| o_bi z_mul <| o_il 4 <| o_bi z_add <| o_al 0 <| o_gA 900 18 <| o_il 7 <| o_jak 18 4 <| o_jsk 42 1800 <| o_al 0 <| o_gA 900 43 <| o_il 2 <| o_c (.inl 300) <| o_bi z_mul <| o_il 4 <| o_bi z_add <| o_al 0 <| o_gA 900 19 <| o_il 7 <| o_jak 19 4 <| o_jsk 43 1800 <| o_inc 4 1 <| o_inc 7 1 <| H 92
def k_M_write_92 (QR : Option qA → qS → Prop) (H : Nat → qP) : qP :=
  o_il 7 <| o_al 0 <| o_gI 900 20 <| o_i2 (fun a b => b ≤ a) (k_M_write_150 QR H) (k_M_write_101 QR H)
def k_M_write_89 (QR : Option qA → qS → Prop) (H : Nat → qP) : qP :=
  o_c (.inl 0) <| o_is 7 <| H 92
def k_M_write_83 (QR : Option qA → qS → Prop) (H : Nat → qP) : qP :=
  o_al 0 <| o_il 1 <| oc_M_traps <| o_rv QR
def k_M_write_70 (QR : Option qA → qS → Prop) (H : Nat → qP) : qP :=
  o_il 4 <| o_al 0 <| o_gI 900 20 <| o_bi z_add <| o_c (.inl 300) <| o_i2 (fun a b => a ≤ b) (k_M_write_89 QR H) (k_M_write_83 QR H)
def k_M_write_42 (QR : Option qA → qS → Prop) (H : Nat → qP) : qP :=
  o_al 0 <| o_il 5 <| o_il 3 <| oc_M_endOfKey <| o_is 6 <| o_al 0 <| o_al 0 <| oc_M_job <| o_c (.inl 3) <| o_bi z_mul <| o_c (.inl 2) <| o_bi z_add <| o_il 5 <| o_il 6 <| oc_M_callOn <| o_if (fun a => a = 0) (k_M_write_83 QR H) (k_M_write_70 QR H)
def k_M_write_36 (QR : Option qA → qS → Prop) (H : Nat → qP) : qP :=
  o_il 5 <| o_il 3 <| o_i2 (fun a b => b ≤ a) (k_M_write_157 QR H) (k_M_write_42 QR H)
def k_M_write_0 (QR : Option qA → qS → Prop) (H : Nat → qP) : qP :=
  o_al 0 <| o_al 0 <| o_gA 900 77 <| o_al 0 <| o_gA 900 78 <| o_il 1 <| o_c (.inl 1000) <| o_bi z_mul <| o_al 0 <| o_gA 900 76 <| o_il 1 <| o_c (.inl 39) <| o_bi z_mul <| o_al 0 <| oc_M_splits <| oc_M_merge <| o_is 3 <| o_c (.inl 0) <| o_is 4 <| o_c (.inl 0) <| o_is 5 <| H 36
set_option maxRecDepth 8000 in
theorem s_M_write_157 {l : Launch} {ad : Nat → Nat} {D : va_G} {cA : Nat → ClassId} {WW : Nat → qP} {QR : Option qA → qS → Prop} (S : qSnd l rm_M_write ad D cA R_M b_M_write 8 WW) (Q : qRet (none) b_M_write WW QR) : qle (k_M_write_157 QR WW) WW 157 :=
  S.aload_n d_M_write_157 rfl <| S.gA fl_M_84 (by decide) d_M_write_158 <| S.iload_n d_M_write_161 rfl <| S.iload d_M_write_162 <| S.isk (by decide) d_M_write_164 <| S.aload_n d_M_write_165 rfl <| S.gA fl_M_81 (by decide) d_M_write_166 <| S.iload_n d_M_write_169 rfl <| S.aload_n d_M_write_170 rfl <| S.gI fl_M_270 (by decide) d_M_write_171 <| S.isk (by decide) d_M_write_174 <| S.aload_n d_M_write_175 rfl <| S.iload_n d_M_write_176 rfl <| S.aload_n d_M_write_177 rfl <| S.gA fl_M_138 (by decide) d_M_write_178 <| S.iload_n d_M_write_181 rfl <| S.iak (by decide) d_M_write_182 <| S.iconst d_M_write_183 (by decide) <| sc_M_372 S (by decide) d_M_write_184 <| Q.2.2.2 rfl _ d_M_write_187
set_option maxRecDepth 8000 in
theorem s_M_write_150 {l : Launch} {ad : Nat → Nat} {D : va_G} {cA : Nat → ClassId} {WW : Nat → qP} {QR : Option qA → qS → Prop} (S : qSnd l rm_M_write ad D cA R_M b_M_write 8 WW) (Q : qRet (none) b_M_write WW QR) : qle (k_M_write_150 QR WW) WW 150 :=
  S.iload d_M_write_150 <| S.istore d_M_write_152 (by decide) <| S.goto d_M_write_154 (by decide) (fun _ _ _ h => h)
set_option maxRecDepth 8000 in
theorem s_M_write_101 {l : Launch} {ad : Nat → Nat} {D : va_G} {cA : Nat → ClassId} {WW : Nat → qP} {QR : Option qA → qS → Prop} (S : qSnd l rm_M_write ad D cA R_M b_M_write 8 WW) (Q : qRet (none) b_M_write WW QR) : qle (k_M_write_101 QR WW) WW 101 :=
  S.aload_n d_M_write_101 rfl <| S.gA fl_M_87 (by decide) d_M_write_102 <| S.iload_n d_M_write_105 rfl <| S.sipush d_M_write_106 (by decide) <| S.imul d_M_write_109 <| S.iload d_M_write_110 <| S.iadd d_M_write_112 <| S.aload_n d_M_write_113 rfl <| S.gA fl_M_57 (by decide) d_M_write_114 <| S.iload d_M_write_117 <| S.jak (by decide) d_M_write_119 <| S.jsk (by decide) d_M_write_120 <| S.aload_n d_M_write_121 rfl <| S.gA fl_M_90 (by decide) d_M_write_122 <| S.iload_n d_M_write_125 rfl <| S.sipush d_M_write_126 (by decide) <| S.imul d_M_write_129 <| S.iload d_M_write_130 <| S.iadd d_M_write_132 <| S.aload_n d_M_write_133 rfl <| S.gA fl_M_60 (by decide) d_M_write_134 <| S.iload d_M_write_137 <| S.jak (by decide) d_M_write_139 <| S.jsk (by decide) d_M_write_140 <| S.iinc d_M_write_141 (by decide) <| S.iinc d_M_write_144 (by decide) <| S.goto d_M_write_147 (by decide) (fun _ _ _ h => h)
set_option maxRecDepth 8000 in
theorem s_M_write_92 {l : Launch} {ad : Nat → Nat} {D : va_G} {cA : Nat → ClassId} {WW : Nat → qP} {QR : Option qA → qS → Prop} (S : qSnd l rm_M_write ad D cA R_M b_M_write 8 WW) (Q : qRet (none) b_M_write WW QR) : qle (k_M_write_92 QR WW) WW 92 :=
  S.iload d_M_write_92 <| S.aload_n d_M_write_94 rfl <| S.gI fl_M_215 (by decide) d_M_write_95 <| S.icmp_ge d_M_write_98 (by decide) (s_M_write_150 S Q) (s_M_write_101 S Q)
set_option maxRecDepth 8000 in
theorem s_M_write_89 {l : Launch} {ad : Nat → Nat} {D : va_G} {cA : Nat → ClassId} {WW : Nat → qP} {QR : Option qA → qS → Prop} (S : qSnd l rm_M_write ad D cA R_M b_M_write 8 WW) (Q : qRet (none) b_M_write WW QR) : qle (k_M_write_89 QR WW) WW 89 :=
  S.iconst d_M_write_89 (by decide) <| S.istore d_M_write_90 (by decide) <| (fun _ _ _ h => h)
set_option maxRecDepth 8000 in
theorem s_M_write_83 {l : Launch} {ad : Nat → Nat} {D : va_G} {cA : Nat → ClassId} {WW : Nat → qP} {QR : Option qA → qS → Prop} (S : qSnd l rm_M_write ad D cA R_M b_M_write 8 WW) (Q : qRet (none) b_M_write WW QR) : qle (k_M_write_83 QR WW) WW 83 :=
  S.aload_n d_M_write_83 rfl <| S.iload_n d_M_write_84 rfl <| sc_M_388 S (by decide) d_M_write_85 <| Q.2.2.2 rfl _ d_M_write_88
set_option maxRecDepth 8000 in
theorem s_M_write_70 {l : Launch} {ad : Nat → Nat} {D : va_G} {cA : Nat → ClassId} {WW : Nat → qP} {QR : Option qA → qS → Prop} (S : qSnd l rm_M_write ad D cA R_M b_M_write 8 WW) (Q : qRet (none) b_M_write WW QR) : qle (k_M_write_70 QR WW) WW 70 :=
  S.iload d_M_write_70 <| S.aload_n d_M_write_72 rfl <| S.gI fl_M_215 (by decide) d_M_write_73 <| S.iadd d_M_write_76 <| S.sipush d_M_write_77 (by decide) <| S.icmp_le d_M_write_80 (by decide) (s_M_write_89 S Q) (s_M_write_83 S Q)
set_option maxRecDepth 8000 in
theorem s_M_write_42 {l : Launch} {ad : Nat → Nat} {D : va_G} {cA : Nat → ClassId} {WW : Nat → qP} {QR : Option qA → qS → Prop} (S : qSnd l rm_M_write ad D cA R_M b_M_write 8 WW) (Q : qRet (none) b_M_write WW QR) : qle (k_M_write_42 QR WW) WW 42 :=
  S.aload_n d_M_write_42 rfl <| S.iload d_M_write_43 <| S.iload_n d_M_write_45 rfl <| sc_M_399 S (by decide) d_M_write_46 <| S.istore d_M_write_49 (by decide) <| S.aload_n d_M_write_51 rfl <| S.aload_n d_M_write_52 rfl <| sc_M_256 S (by decide) d_M_write_53 <| S.iconst d_M_write_56 (by decide) <| S.imul d_M_write_57 <| S.iconst d_M_write_58 (by decide) <| S.iadd d_M_write_59 <| S.iload d_M_write_60 <| S.iload d_M_write_62 <| sc_M_403 S (by decide) d_M_write_64 <| S.if_eq d_M_write_67 (by decide) (s_M_write_83 S Q) (s_M_write_70 S Q)
set_option maxRecDepth 8000 in
theorem s_M_write_36 {l : Launch} {ad : Nat → Nat} {D : va_G} {cA : Nat → ClassId} {WW : Nat → qP} {QR : Option qA → qS → Prop} (S : qSnd l rm_M_write ad D cA R_M b_M_write 8 WW) (Q : qRet (none) b_M_write WW QR) : qle (k_M_write_36 QR WW) WW 36 :=
  S.iload d_M_write_36 <| S.iload_n d_M_write_38 rfl <| S.icmp_ge d_M_write_39 (by decide) (s_M_write_157 S Q) (s_M_write_42 S Q)
set_option maxRecDepth 8000 in
theorem s_M_write_0 {l : Launch} {ad : Nat → Nat} {D : va_G} {cA : Nat → ClassId} {WW : Nat → qP} {QR : Option qA → qS → Prop} (S : qSnd l rm_M_write ad D cA R_M b_M_write 8 WW) (Q : qRet (none) b_M_write WW QR) : qle (k_M_write_0 QR WW) WW 0 :=
  S.aload_n d_M_write_0 rfl <| S.aload_n d_M_write_1 rfl <| S.gA fl_M_183 (by decide) d_M_write_2 <| S.aload_n d_M_write_5 rfl <| S.gA fl_M_186 (by decide) d_M_write_6 <| S.iload_n d_M_write_9 rfl <| S.sipush d_M_write_10 (by decide) <| S.imul d_M_write_13 <| S.aload_n d_M_write_14 rfl <| S.gA fl_M_180 (by decide) d_M_write_15 <| S.iload_n d_M_write_18 rfl <| S.bipush d_M_write_19 (by decide) <| S.imul d_M_write_21 <| S.aload_n d_M_write_22 rfl <| sc_M_329 S (by decide) d_M_write_23 <| sc_M_391 S (by decide) d_M_write_26 <| S.istore_n d_M_write_29 rfl (by decide) <| S.iconst d_M_write_30 (by decide) <| S.istore d_M_write_31 (by decide) <| S.iconst d_M_write_33 (by decide) <| S.istore d_M_write_34 (by decide) <| (fun _ _ _ h => h)
theorem F_pt.tr {p : Int} {σ σ1 σ2 : qS} (h : F_pt p σ σ1) (h' : F_pt p σ1 σ2) : F_pt p σ σ2 := ⟨fun k h1 h2 => (h'.1 k h1 h2).trans (h.1 k h1 h2), fun j hj => ⟨((h'.2 j hj).1).trans (h.2 j hj).1, ((h'.2 j hj).2).trans (h.2 j hj).2⟩⟩
theorem F_mc.pt {p : Int} {σ σ' : qS} (h : F_mc σ σ') : F_pt p σ σ' := ⟨fun k h1 _ => h k (fun e => h1 (by unfold SC; simp only [List.mem_cons, List.not_mem_nil, or_false] at e ⊢; omega)), fun j _ => by rw [h _ (by decide), h _ (by decide)]; exact ⟨rfl, rfl⟩⟩
theorem F_mrg.pt {p : Int} {σ σ' : qS} (h : F_mrg σ σ') : F_pt p σ σ' := ⟨fun k h1 _ => h k (fun e => h1 (by unfold SC; simp only [List.mem_cons, List.not_mem_nil, or_false] at e ⊢; omega)), fun j _ => by rw [h _ (by decide), h _ (by decide)]; exact ⟨rfl, rfl⟩⟩
def LYp (σA σ : qS) (p to k : Int) : Prop := (∀ q, q ∉ [42, 43] → σ q = σA q) ∧ (∀ j, (j < p * 300 + to ∨ p * 300 + to + k ≤ j) → σ 42 j = σA 42 j ∧ σ 43 j = σA 43 j) ∧ ∀ j, 0 ≤ j → j < k → σ 42 (p * 300 + to + j) = σA 18 j ∧ σ 43 (p * 300 + to + j) = σA 19 j
theorem LYp_0 {σA : qS} {p to : Int} : LYp σA σA p to 0 := ⟨fun _ _ => rfl, fun _ _ => ⟨rfl, rfl⟩, fun j h1 h2 => by omega⟩
theorem LYp_s {σA σ : qS} {p to k : Int} (h : LYp σA σ p to k) (hk : 0 ≤ k) : LYp σA (su (su σ 42 (p * 300 + (to + k)) (σA 18 k)) 43 (p * 300 + (to + k)) (σA 19 k)) p to (k + 1) := by
  obtain ⟨h1, h2, h3⟩ := h
  refine ⟨fun q hq => by rw [su_k (by intro e; subst e; exact hq (by decide)), su_k (by intro e; subst e; exact hq (by decide))]; exact h1 q hq, fun j hj => ?_, fun j j0 j1 => ?_⟩
  · rw [su_k (by decide), su_e, su_e, if_neg (by omega), if_neg (by omega), su_k (by decide)]; exact h2 j (by omega)
  · rw [su_k (by decide), su_e, su_e, su_k (by decide)]
    by_cases e : j = k
    · subst e; rw [if_pos (by omega), if_pos (by omega)]; exact ⟨rfl, rfl⟩
    · rw [if_neg (by omega), if_neg (by omega)]; exact h3 j j0 (by omega)
theorem v_M_write_92 {l : Launch} {ad : Nat → Nat} {D : va_G} {cA : Nat → ClassId} {WW : Nat → qP} {QR : Option qA → qS → Prop} (S : qSnd l rm_M_write ad D cA R_M b_M_write 8 WW) (Q : qRet (none) b_M_write WW QR) (σA : qS) (w p n to k nx : Int) (em : List Pr) (hem : Em σA em) (hw : 0 ≤ p ∧ p < 6) (hto : 0 ≤ to ∧ to + em.length ≤ 300) (K : ∀ σ, LYp σA σ p to em.length → WW 36 [] [some (.inr (.inr 900)), some (.inl w), some (.inl p), some (.inl n), some (.inl (to + em.length)), some (.inl nx), none, none] σ) :
    ∀ (m j : Nat) (σ : qS), j + m = em.length → LYp σA σ p to j → WW 92 [] [some (.inr (.inr 900)), some (.inl w), some (.inl p), some (.inl n), some (.inl (to + j)), some (.inl k), some (.inl nx), some (.inl (j : Int))] σ := by
  have he := hem.1
  have he4 := hem.2.1
  intro m
  induction m with
  | zero =>
    intro j σ hj hL
    refine s_M_write_92 S Q _ _ _ ?_
    simp only [k_M_write_0, k_M_write_36, k_M_write_42, k_M_write_70, k_M_write_83, k_M_write_89, k_M_write_92, k_M_write_101, k_M_write_150, k_M_write_157, oc_M_callOn, oc_M_done, oc_M_endOfKey, oc_M_job, oc_M_merge, oc_M_splits, oc_M_traps, o_c, o_il, o_ll, o_al, o_is, o_as, o_ls, o_inc, o_bi, o_bid, o_bl, o_bld, o_sl, o_i2l, o_l2i, o_dup, o_dup2, o_pop, o_pop2, o_if, o_i2, o_l2, swg, o_sw, o_gI, o_gZ, o_gJ, o_gA, o_gR, o_pI, o_pZ, o_pJ, o_pR, o_ia, o_iak, o_zak, o_ja, o_jak, o_is_, o_isk, o_zsk, o_js_, o_jsk, o_len, o_ri, o_rz, o_rl, o_rv, ls1, ls2, lks, lkj, List.getD_cons_zero, List.getD_cons_succ, List.set_cons_zero, List.set_cons_succ, qcat, true_and, and_true, List.map_nil, List.map_cons, List.sum_nil, List.sum_cons, Nat.reduceAdd, Nat.reduceLeDiff, Nat.zero_le, Int.reduceAdd, Int.reduceNeg, Int.reduceEq, or_true, true_or, Decidable.not_not, false_implies, not_false_eq_true, true_implies, not_true_eq_false, Int.reduceLT, Int.reduceLE]
    rw [hL.1 _ (by decide), he]
    refine ⟨fun _ => S.fg (ls' := [some (.inr (.inr 900)), some (.inl w), some (.inl p), some (.inl n), some (.inl (to + em.length)), some (.inl nx), none, none]) ⟨rfl, rfl, rfl, rfl, by rw [show em.length = j by omega], rfl, trivial⟩ (K σ ?_), fun h => by omega⟩
    rw [show em.length = j by omega]; exact hL
  | succ m ih =>
    intro j σ hj hL
    refine s_M_write_92 S Q _ _ _ ?_
    simp only [k_M_write_0, k_M_write_36, k_M_write_42, k_M_write_70, k_M_write_83, k_M_write_89, k_M_write_92, k_M_write_101, k_M_write_150, k_M_write_157, oc_M_callOn, oc_M_done, oc_M_endOfKey, oc_M_job, oc_M_merge, oc_M_splits, oc_M_traps, o_c, o_il, o_ll, o_al, o_is, o_as, o_ls, o_inc, o_bi, o_bid, o_bl, o_bld, o_sl, o_i2l, o_l2i, o_dup, o_dup2, o_pop, o_pop2, o_if, o_i2, o_l2, swg, o_sw, o_gI, o_gZ, o_gJ, o_gA, o_gR, o_pI, o_pZ, o_pJ, o_pR, o_ia, o_iak, o_zak, o_ja, o_jak, o_is_, o_isk, o_zsk, o_js_, o_jsk, o_len, o_ri, o_rz, o_rl, o_rv, ls1, ls2, lks, lkj, List.getD_cons_zero, List.getD_cons_succ, List.set_cons_zero, List.set_cons_succ, qcat, true_and, and_true, List.map_nil, List.map_cons, List.sum_nil, List.sum_cons, Nat.reduceAdd, Nat.reduceLeDiff, Nat.zero_le, Int.reduceAdd, Int.reduceNeg, Int.reduceEq, or_true, true_or, Decidable.not_not, false_implies, not_false_eq_true, true_implies, not_true_eq_false, Int.reduceLT, Int.reduceLE]
    have e1 : z_add (z_mul p 300) (to + j) = p * 300 + (to + j) := by unfold z_add z_mul; rw [w32_i (p * 300) (by omega) (by omega), w32_i _ (by omega) (by omega)]
    simp (disch := omega) only [su_k]
    rw [hL.1 20 (by decide), he, hL.1 18 (by decide), hL.1 19 (by decide), e1, w32_i (to + j + 1) (by omega) (by omega), w32_i ((j : Int) + 1) (by omega) (by omega)]
    refine ⟨fun h => by omega, fun _ => ⟨by omega, by omega, by omega, by omega, ?_⟩⟩
    have := ih (j + 1) _ (by omega) (LYp_s hL (by omega))
    rw [show to + ((j + 1 : Nat) : Int) = to + j + 1 by omega] at this
    exact this
def WI (σ0 σ : qS) (w p n k to : Int) (E : List Pr) : Prop := F_pt p σ0 σ ∧ row σ 79 80 0 E.length = srt E ∧ (0 ≤ k ∧ k ≤ n) ∧ (0 ≤ to ∧ to ≤ 300) ∧ gmap (fun k vs => lcall (prg σ0 (jb σ0 * 3 + 2)) 2 k vs) E.length (srt E) = (gmap (fun k vs => lcall (prg σ0 (jb σ0 * 3 + 2)) 2 k vs) (n - k).toNat (row σ 79 80 k (n - k).toNat)).map (fun b => row σ 42 43 (p * 300) to.toNat ++ b)
theorem v_M_write_36 {l : Launch} {ad : Nat → Nat} {D : va_G} {cA : Nat → ClassId} {WW : Nat → qP} {QR : Option qA → qS → Prop} (S : qSnd l rm_M_write ad D cA R_M b_M_write 8 WW) (Q : qRet (none) b_M_write WW QR) (σ0 : qS) (w p n : Int) (E : List Pr) (hE : E = FR σ0 w) (hn : n = E.length) (hn2 : n ≤ 1000) (hp : P_M_write w p σ0) (hq : ∀ σ', Q_M_write w p σ0 σ' → QR none σ') :
    ∀ (m : Nat) (k to : Int) (σ : qS), (n - k).toNat ≤ m → WI σ0 σ w p n k to E → WW 36 [] [some (.inr (.inr 900)), some (.inl w), some (.inl p), some (.inl n), some (.inl to), some (.inl k), none, none] σ := by
  have hp' := hp
  obtain ⟨hw, hpp, hl, hj, hpr, -⟩ := hp
  have hcm : rdc σ0 E = gmap (fun k vs => lcall (prg σ0 (jb σ0 * 3 + 2)) 2 k vs) E.length (srt E) := rfl
  unfold Q_M_write at hq
  rw [← hE] at hq
  intro m
  induction m with
  | zero =>
    intro k to σ hm hG
    obtain ⟨hF, hrow, hk, hto, hgm⟩ := hG
    refine s_M_write_36 S Q _ _ _ ?_
    simp only [k_M_write_0, k_M_write_36, k_M_write_42, k_M_write_70, k_M_write_83, k_M_write_89, k_M_write_92, k_M_write_101, k_M_write_150, k_M_write_157, oc_M_callOn, oc_M_done, oc_M_endOfKey, oc_M_job, oc_M_merge, oc_M_splits, oc_M_traps, o_c, o_il, o_ll, o_al, o_is, o_as, o_ls, o_inc, o_bi, o_bid, o_bl, o_bld, o_sl, o_i2l, o_l2i, o_dup, o_dup2, o_pop, o_pop2, o_if, o_i2, o_l2, swg, o_sw, o_gI, o_gZ, o_gJ, o_gA, o_gR, o_pI, o_pZ, o_pJ, o_pR, o_ia, o_iak, o_zak, o_ja, o_jak, o_is_, o_isk, o_zsk, o_js_, o_jsk, o_len, o_ri, o_rz, o_rl, o_rv, ls1, ls2, lks, lkj, List.getD_cons_zero, List.getD_cons_succ, List.set_cons_zero, List.set_cons_succ, qcat, true_and, and_true, List.map_nil, List.map_cons, List.sum_nil, List.sum_cons, Nat.reduceAdd, Nat.reduceLeDiff, Nat.zero_le, Int.reduceAdd, Int.reduceNeg, Int.reduceEq, or_true, true_or, Decidable.not_not, false_implies, not_false_eq_true, true_implies, not_true_eq_false, Int.reduceLT, Int.reduceLE]
    refine ⟨fun _ => ?_, fun h => by omega⟩
    rw [show (n - k).toNat = 0 by omega] at hgm
    have hc : rdc σ0 E = some (row σ 42 43 (p * 300) to.toNat) := by rw [hcm, hgm]; simp [gmap]
    simp (disch := omega) only [su_k]
    generalize hT : su (su σ 41 p to) 40 p (σ 31 0) = σ1
    have k0 : ∀ q, q ∉ [41, 40] → σ1 q = σ q := fun q hq => by
      rw [← hT, su_k (by intro e; subst e; exact hq (by decide)), su_k (by intro e; subst e; exact hq (by decide))]
    have hlok : lok σ1 := by unfold lok; rw [k0 _ (by decide), hF.1 _ (by decide) (by decide)]; exact hl
    refine ⟨hpp, hpp, hw, ⟨hlok, hw⟩, fun σ2 q2 => hq _ (Or.inl ⟨_, σ1, hc, by rw [row_len]; omega, ⟨fun q h1 h2 => ?_, fun j hj' => ?_, ?_, fun j => ?_, fun j => ?_⟩, ?_⟩)⟩
    · rw [k0 q (fun e => h2 (by simp only [List.mem_cons, List.not_mem_nil, or_false] at e ⊢; omega)), hF.1 q h1 (fun e => h2 (by simp only [List.mem_cons, List.not_mem_nil, or_false] at e ⊢; omega))]
    · rw [k0 _ (by decide), k0 _ (by decide)]; exact hF.2 j hj'
    · rw [row_len, row_keep (σ := σ) (fun i _ _ => by rw [k0 _ (by decide), k0 _ (by decide)]; exact ⟨rfl, rfl⟩)]
    · rw [← hT, row_len]; simp (disch := omega) only [su_k]; rw [su_e, hF.1 _ (by decide) (by decide), show (to.toNat : Int) = to by omega]
    · rw [← hT, su_e, hF.1 31 (by decide) (by decide), su_k (by decide), hF.1 _ (by decide) (by decide)]
    · rw [hF.1 62 (by decide) (by decide)] at q2; exact q2
  | succ m ih =>
    intro k to σ hm hG
    by_cases hkn : n ≤ k
    · exact ih k to σ (by omega) hG
    obtain ⟨hF, hrow, hk, hto, hgm⟩ := hG
    refine s_M_write_36 S Q _ _ _ ?_
    simp only [k_M_write_0, k_M_write_36, k_M_write_42, k_M_write_70, k_M_write_83, k_M_write_89, k_M_write_92, k_M_write_101, k_M_write_150, k_M_write_157, oc_M_callOn, oc_M_done, oc_M_endOfKey, oc_M_job, oc_M_merge, oc_M_splits, oc_M_traps, o_c, o_il, o_ll, o_al, o_is, o_as, o_ls, o_inc, o_bi, o_bid, o_bl, o_bld, o_sl, o_i2l, o_l2i, o_dup, o_dup2, o_pop, o_pop2, o_if, o_i2, o_l2, swg, o_sw, o_gI, o_gZ, o_gJ, o_gA, o_gR, o_pI, o_pZ, o_pJ, o_pR, o_ia, o_iak, o_zak, o_ja, o_jak, o_is_, o_isk, o_zsk, o_js_, o_jsk, o_len, o_ri, o_rz, o_rl, o_rv, ls1, ls2, lks, lkj, List.getD_cons_zero, List.getD_cons_succ, List.set_cons_zero, List.set_cons_succ, qcat, true_and, and_true, List.map_nil, List.map_cons, List.sum_nil, List.sum_cons, Nat.reduceAdd, Nat.reduceLeDiff, Nat.zero_le, Int.reduceAdd, Int.reduceNeg, Int.reduceEq, or_true, true_or, Decidable.not_not, false_implies, not_false_eq_true, true_implies, not_true_eq_false, Int.reduceLT, Int.reduceLE]
    refine ⟨fun h => by omega, fun _ => ⟨⟨hk.1, by omega, by omega⟩, fun r σ1 q1 => ?_⟩⟩
    obtain ⟨e9, rfl⟩ := q1
    replace e9 := e9.symm
    subst e9
    rw [eok_tw (kv := 80)]
    generalize hQ : ((row σ 79 80 (k + 1) (n - (k + 1)).toNat).takeWhile (fun p => p.1 == σ 79 k)).length = q
    obtain ⟨hq1, hq2⟩ := grp_step (σ := σ) (kk := 79) (kv := 80) (k := k) (n := (n - (k + 1)).toNat) (fun k vs => lcall (prg σ0 (jb σ0 * 3 + 2)) 2 k vs) q hQ.symm
    rw [show (n - (k + 1)).toNat + 1 = (n - k).toNat by omega] at hq2
    rw [hq2] at hgm
    have jk := jobok_keep hj (σ' := σ) (fun k hk' => hF.1 k (by intro e; unfold SC at e; simp only [List.mem_cons, List.not_mem_nil, or_false] at hk' e; omega) (by intro e; simp only [List.mem_cons, List.not_mem_nil, or_false] at hk' e; omega))
    have hprog : progok σ (jb σ0 * 3 + 2) := progok_keep hpr (hF.1 8 (by decide) (by decide)) (hF.1 6 (by decide) (by decide)) (hF.1 7 (by decide) (by decide))
    refine ⟨jk.1.1, fun r σ1 q1 => ?_⟩
    obtain ⟨e9, rfl⟩ := q1; replace e9 := e9.symm; subst e9
    have e6 : z_add (z_mul (jb σ) 3) 2 = jb σ0 * 3 + 2 := by rw [jk.2.1]; unfold z_add z_mul; have := hj.2.1; rw [w32_i (jb σ0 * 3) (by omega) (by omega), w32_i _ (by omega) (by omega)]
    rw [e6]
    refine ⟨⟨hprog, hk.1, by omega, by omega⟩, fun r σ1 q1 => ?_⟩
    obtain ⟨c1, c2⟩ := q1
    have hpg : prg σ (jb σ0 * 3 + 2) = prg σ0 (jb σ0 * 3 + 2) := prg_keep _ (hF.1 8 (by decide) (by decide)) (hF.1 6 (by decide) (by decide)) (hF.1 7 (by decide) (by decide))
    rw [scall_con (by omega), hpg, show (jb σ0 * 3 + 2) % 3 = 2 by omega, show (k + 1 + (q : Int) - k).toNat = q + 1 by omega] at c2
    have hF1 : F_pt p σ0 σ1 := hF.tr (F_mc_con c1).pt
    have hlok : lok σ1 := by unfold lok; rw [hF1.1 _ (by decide) (by decide)]; exact hl
    have trap : (rdc σ0 E = none ∨ ∃ out, rdc σ0 E = some out ∧ 300 < out.length) → P_M_traps w σ1 ∧ ∀ σ', Q_M_traps w σ1 σ' → QR none σ' := by
      intro hc
      exact ⟨⟨hlok, hw⟩, fun σ' q => hq _ (Or.inr ⟨hc, σ1, hF1, q⟩)⟩
    cases hcl : lcall (prg σ0 (jb σ0 * 3 + 2)) 2 (σ 79 k) (vls (σ 80) k (q + 1)) with
    | none =>
      rw [hcl] at c2 hgm
      have hr0 : r = 0 := c2
      have := trap (Or.inl (by rw [hcm, hgm]; rfl))
      subst hr0
      simp only [not_true_eq_false, false_implies, and_true]
      exact fun _ => this
    | some em =>
      rw [hcl] at c2 hgm
      obtain ⟨hr1, hem⟩ : r = 1 ∧ Em σ1 em := c2
      subst hr1
      rw [hem.1]
      have he4 := hem.2.1
      have e1 : z_add to (em.length : Int) = to + em.length := by unfold z_add; exact w32_i _ (by omega) (by omega)
      rw [e1]
      have mK : σ1 79 = σ 79 := F_mc_con c1 _ (by decide)
      have mV : σ1 80 = σ 80 := F_mc_con c1 _ (by decide)
      have dK : σ1 42 = σ 42 := F_mc_con c1 _ (by decide)
      have dV : σ1 43 = σ 43 := F_mc_con c1 _ (by decide)
      refine ⟨fun h => by omega, fun _ => ⟨fun hle => ?_, fun hgt => ?_⟩⟩
      · have go := v_M_write_92 S Q σ1 w p n to k (k + 1 + q) em hem hpp (by omega) (fun σ2 hL => ?_) em.length 0 σ1 (by omega) LYp_0
        · rw [show to + ((0 : Nat) : Int) = to by omega] at go; exact go
        have eK : σ2 79 = σ 79 := by rw [hL.1 _ (by decide), mK]
        have eV : σ2 80 = σ 80 := by rw [hL.1 _ (by decide), mV]
        refine ih (k + 1 + q) (to + em.length) σ2 (by omega) ⟨⟨fun x h1 h2 => (hL.1 x h2).trans (hF1.1 x h1 h2), fun j hj' => ?_⟩, ?_, by omega, by omega, ?_⟩
        · obtain ⟨a1, a2⟩ := hL.2.1 j (by omega)
          obtain ⟨b1, b2⟩ := hF1.2 j hj'
          exact ⟨a1.trans b1, a2.trans b2⟩
        · rw [row_keep (σ := σ) (fun i _ _ => by rw [eK, eV]; exact ⟨rfl, rfl⟩)]; exact hrow
        · rw [hgm, row_keep (σ := σ) (σ' := σ2) (kk := 79) (fun i _ _ => by rw [eK, eV]; exact ⟨rfl, rfl⟩)]
          rw [show (n - (k + 1)).toNat - q = (n - (k + 1 + q)).toNat by omega]
          have hr : row σ2 42 43 (p * 300) (to + em.length).toNat = row σ 42 43 (p * 300) to.toNat ++ em := by
            rw [show (to + (em.length : Int)).toNat = to.toNat + em.length by omega, row_app]
            congr 1
            · apply row_keep
              intro i i0 i1
              obtain ⟨a1, a2⟩ := hL.2.1 i (by omega)
              rw [a1, a2, dK, dV]; exact ⟨rfl, rfl⟩
            · conv => rhs; rw [← Em_row hem]
              unfold row
              apply List.map_congr_left
              intro i hi
              have := List.mem_range.mp hi
              obtain ⟨a1, a2⟩ := hL.2.2 i (by omega) (by omega)
              rw [show p * 300 + ((to.toNat : Nat) : Int) + (i : Int) = p * 300 + to + (i : Int) by omega, a1, a2]; simp
          rw [hr]
          cases gmap (fun k vs => lcall (prg σ0 (jb σ0 * 3 + 2)) 2 k vs) (n - (k + 1 + (q : Int))).toNat (row σ 79 80 (k + 1 + (q : Int)) (n - (k + 1 + (q : Int))).toNat) with
          | none => rfl
          | some b => simp
      · apply trap
        rw [hcm, hgm]
        cases gmap (fun k vs => lcall (prg σ0 (jb σ0 * 3 + 2)) 2 k vs) ((n - (k + 1)).toNat - q) (row σ 79 80 (k + 1 + (q : Int)) ((n - (k + 1)).toNat - q)) with
        | none => exact Or.inl rfl
        | some b => exact Or.inr ⟨_, rfl, by simp [row_len]; omega⟩
theorem w_M_write {l : Launch} {ad : Nat → Nat} {D : va_G} {cA : Nat → ClassId} {WW : Nat → qP} {QR : Option qA → qS → Prop} (S : qSnd l rm_M_write ad D cA R_M b_M_write 8 WW) (Q : qRet (none) b_M_write WW QR) (a1 : Int) (a2 : Int) (σ : qS) (ha1 : r32 a1) (ha2 : r32 a2) (hσ : qoS σ) (h : P_M_write a1 a2 σ) (hq : ∀ σ', Q_M_write a1 a2 σ σ' → QR none σ') : WW 0 [] [some (.inr (.inr 900)), some (.inl a1), some (.inl a2), none, none, none, none, none] σ := by
  refine s_M_write_0 S Q _ _ _ ?_
  simp only [k_M_write_0, k_M_write_36, k_M_write_42, k_M_write_70, k_M_write_83, k_M_write_89, k_M_write_92, k_M_write_101, k_M_write_150, k_M_write_157, oc_M_callOn, oc_M_done, oc_M_endOfKey, oc_M_job, oc_M_merge, oc_M_splits, oc_M_traps, o_c, o_il, o_ll, o_al, o_is, o_as, o_ls, o_inc, o_bi, o_bid, o_bl, o_bld, o_sl, o_i2l, o_l2i, o_dup, o_dup2, o_pop, o_pop2, o_if, o_i2, o_l2, swg, o_sw, o_gI, o_gZ, o_gJ, o_gA, o_gR, o_pI, o_pZ, o_pJ, o_pR, o_ia, o_iak, o_zak, o_ja, o_jak, o_is_, o_isk, o_zsk, o_js_, o_jsk, o_len, o_ri, o_rz, o_rl, o_rv, ls1, ls2, lks, lkj, List.getD_cons_zero, List.getD_cons_succ, List.set_cons_zero, List.set_cons_succ, qcat, true_and, and_true, List.map_nil, List.map_cons, List.sum_nil, List.sum_cons, Nat.reduceAdd, Nat.reduceLeDiff, Nat.zero_le, Int.reduceAdd, Int.reduceNeg, Int.reduceEq, or_true, true_or, Decidable.not_not, false_implies, not_false_eq_true, true_implies, not_true_eq_false, Int.reduceLT, Int.reduceLE]
  have hp := h
  obtain ⟨hw, hpp, hl, hj, hpr, f1, f2, f3, f4⟩ := h
  have e1 : z_mul a1 1000 = a1 * 1000 := by unfold z_mul; exact w32_i _ (by omega) (by omega)
  have e2 : z_mul a1 39 = a1 * 39 := by unfold z_mul; exact w32_i _ (by omega) (by omega)
  rw [e1, e2]
  refine ⟨hj, fun r σ1 q1 => ?_⟩
  obtain ⟨e9, rfl⟩ := q1; replace e9 := e9.symm; subst e9
  have hsp := all_b hj
  have hsb : 0 ≤ spl σ ∧ spl σ ≤ 38 := by unfold spl; omega
  have hmon : ∀ (m : Nat), (m : Int) ≤ spl σ → 0 ≤ FA σ a1 m := by
    intro m
    induction m with
    | zero => intro _; omega
    | succ m ih => intro hm; have := f3 m (by omega); have := ih (by omega); omega
  have hF0 := hmon (spl σ).toNat (by omega)
  refine ⟨⟨⟨by decide, by decide, by decide, by decide, by decide, by decide⟩, ⟨by decide, by decide, by decide⟩, by omega, ⟨by omega, by show a1 * 39 + spl σ < (234 : Int); omega⟩, by omega, by show 0 ≤ FA σ a1 0; omega, ⟨by show a1 * 1000 + FA σ a1 (spl σ).toNat ≤ (6000 : Int); omega, by show a1 * 1000 + FA σ a1 (spl σ).toNat ≤ (6000 : Int); omega⟩, by show FA σ a1 (spl σ).toNat - FA σ a1 0 ≤ 1000; omega, fun i hi => f3 i hi, fun i hi => f4 i hi⟩, fun n σ1 q1 => ?_⟩
  obtain ⟨c1, c2, c3⟩ := q1
  have c2 : n = FA σ a1 (spl σ).toNat - FA σ a1 0 := c2
  have c3 : row σ1 79 80 0 n.toNat = srt (row σ 77 78 (a1 * 1000 + FA σ a1 0) n.toNat) := c3
  have hl2 : (FR σ a1).length = n.toNat := by unfold FR; rw [row_len, c2, f1]; congr 1; omega
  have hm : row σ1 79 80 0 (FR σ a1).length = srt (FR σ a1) := by
    rw [hl2, c3]; unfold FR; rw [c2, f1]
    rw [show a1 * 1000 + 0 = a1 * 1000 by omega, show FA σ a1 (spl σ).toNat - 0 = FA σ a1 (spl σ).toNat by omega]
  refine v_M_write_36 S Q σ a1 a2 n (FR σ a1) rfl (by omega) (by omega) hp hq n.toNat 0 0 σ1 (by omega) ⟨c1.pt, hm, by omega, by omega, ?_⟩
  rw [show (n - 0).toNat = (FR σ a1).length by omega, hm]
  cases gmap (fun k vs => lcall (prg σ (jb σ * 3 + 2)) 2 k vs) (FR σ a1).length (srt (FR σ a1)) <;> simp [row]
theorem c_M_write (l : Launch) (ad : Nat → Nat) (D : va_G) (cA : Nat → ClassId) : qC l ad D cA y_M_write (Cond.code y_M_write b_M_write 8 (none) :: lw_g) rm_M_write pre_M_write post_M_write := by
  refine qC_of (own := R_M) (by decide) rfl ⟨rfl, rfl⟩ ?_ ?_
  · intro av σ h; unfold pre_M_write at h; split at h
    · simp [qen]
    · exact h.elim
  · intro WW QR S Q av σ hav hσ h hq; unfold pre_M_write at h; split at h
    next o a1 a2 =>
      obtain ⟨rfl, h⟩ := h
      exact w_M_write S Q a1 a2 σ (hav _ (List.mem_of_getElem? (i := 1) rfl)) (hav _ (List.mem_of_getElem? (i := 2) rfl)) hσ h (fun σ' h' => hq _ σ' h')
    next => exact h.elim

