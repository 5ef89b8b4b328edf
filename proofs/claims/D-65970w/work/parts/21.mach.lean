def mdoes (what key to : Int) (val : Int → Int) (o a : Int) (l : List Int) (c : Int → Int) (nx : Int) (em : List (Int × Int)) : Option (List Int × (Int → Int) × Int × List (Int × Int)) :=
  if o = 0 then (if l.length < 12 then some (a :: l, c, nx, em) else none)
  else if o = 1 then (if l.length < 12 then some (key :: l, c, nx, em) else none)
  else if o = 2 then (if nx = to then none else if l.length < 12 then some (val nx :: l, c, (if what = 0 then nx else nx + 1), em) else none)
  else if o = 3 then (if l.length < 12 then some ((if what ≠ 0 ∧ nx < to then 1 else 0) :: l, c, nx, em) else none)
  else if o = 4 then (if l.length < 12 then some (c a :: l, c, nx, em) else none)
  else if o = 5 then (match l with
    | v :: t => some (t, fun i => if i = a then v else c i, nx, em)
    | _ => none)
  else if o = 12 then (match l with
    | v :: t => if t.length < 11 then some (v :: v :: t, c, nx, em) else none
    | _ => none)
  else if o = 13 then (match l with
    | _ :: t => some (t, c, nx, em)
    | _ => none)
  else if o = 14 then (match l with
    | u :: v :: t => some (v :: u :: t, c, nx, em)
    | _ => none)
  else (match memit what key l with
    | none => none
    | some x => if em.length = 4 then none else some (x.1, c, nx, em ++ [x.2]))
def Em (σ : qS) (em : List (Int × Int)) : Prop := σ 20 0 = em.length ∧ em.length ≤ 4 ∧ ∀ (i : Nat) e, em[i]? = some e → σ 18 i = e.1 ∧ σ 19 i = e.2
def MR (σ : qS) (l : List Int) (c : Int → Int) (nx : Int) (em : List (Int × Int)) : Prop := Stk σ l ∧ (∀ i, 0 ≤ i → i < 4 → σ 17 i = c i) ∧ σ 24 0 = nx ∧ Em σ em
theorem Em_keep {σ σ' : qS} {em : List (Int × Int)} (h : Em σ em) (h1 : σ' 20 0 = σ 20 0) (h2 : σ' 18 = σ 18) (h3 : σ' 19 = σ 19) : Em σ' em := by
  unfold Em; rw [h1, h2, h3]; exact h
theorem MR_stk {σ σ' : qS} {l l' : List Int} {c : Int → Int} {nx : Int} {em : List (Int × Int)} (h : MR σ l c nx em) (hF : F_stk σ σ') (hs : Stk σ' l') : MR σ' l' c nx em :=
  ⟨hs, fun i h0 h1 => by rw [hF _ (by decide)]; exact h.2.1 i h0 h1, by rw [hF _ (by decide)]; exact h.2.2.1, Em_keep h.2.2.2 (by rw [hF _ (by decide)]) (hF _ (by decide)) (hF _ (by decide))⟩
theorem F_stk.mac {σ σ' : qS} (h : F_stk σ σ') : F_mac σ σ' := fun k hk => h k (fun e => hk (by simp only [List.mem_cons, List.not_mem_nil, or_false] at e ⊢; omega))
theorem F_emt.mac {σ σ' : qS} (h : F_emt σ σ') : F_mac σ σ' := fun k hk => h k (fun e => hk (by simp only [List.mem_cons, List.not_mem_nil, or_false] at e ⊢; omega))
theorem F_mac.rf (σ : qS) : F_mac σ σ := fun _ _ => rfl
theorem F_mac.tr {σ σ1 σ2 : qS} (h : F_mac σ σ1) (h' : F_mac σ1 σ2) : F_mac σ σ2 := fun k hk => (h' k hk).trans (h k hk)
def P_M_does (what o a : Int) (σ : qS) : Prop := (0 ≤ o ∧ o ≤ 17 ∧ ¬ (6 ≤ o ∧ o ≤ 11 ∨ o = 15 ∨ o = 16) ∧ ((o = 4 ∨ o = 5) → 0 ≤ a ∧ a ≤ 3)) ∧ rowok σ ∧ (0 ≤ σ 24 0 ∧ σ 24 0 ≤ σ 25 0) ∧ σ 21 0 = 0 ∧ ∃ l c nx em, MR σ l c nx em
def Q_M_does (what o a : Int) (σ σ' : qS) : Prop := F_mac σ σ' ∧ ∀ l c nx em, MR σ l c nx em → (match mdoes what (σ 22 0) (σ 25 0) (crow σ) o a l c nx em with
  | none => σ' 21 0 = 1
  | some x => σ' 21 0 = 0 ∧ MR σ' x.1 x.2.1 x.2.2.1 x.2.2.2)
def pre_M_does (av : List qA) (σ : qS) : Prop := match av with
  | [.inr (.inr o), .inl a1, .inl a2, .inr (.inl a3)] => o = 900 ∧ P_M_does a1 a2 a3 σ
  | _ => False
def post_M_does (av : List qA) (σ : qS) (r : Option qA) (σ' : qS) : Prop := match av, r with
  | [_, .inl a1, .inl a2, .inr (.inl a3)], none => Q_M_does a1 a2 a3 σ σ'
  | _, _ => False
def oc_M_does (K : qP) : qP := fun st ls σ => match st with
  | .inr (.inl a3) :: .inl a2 :: .inl a1 :: .inr (.inr o) :: st => o = 900 ∧ (st.map qcat).sum ≤ 8 ∧ P_M_does a1 a2 a3 σ ∧ ∀ (σ' : qS), Q_M_does a1 a2 a3 σ σ' → K st ls σ'
  | _ => False
def rm_M_does : Room := { frames := 2, cells := 0, slots := 0, locals := 45 }
theorem fl_M_54 : qF R_M 900 0 82 0 R_M F_M 54 17 := ⟨Or.inl ⟨rfl, rfl, rfl, rfl, rfl, rfl⟩, by decide, lw_at 95 (by decide +kernel) rfl⟩
theorem sc_M_247 {l : Launch} {R : Room} {ad : Nat → Nat} {D : va_G} {cA : Nat → ClassId} {cc : ByteArray} {nL : Nat} {WW : Nat → qP} (S : qSnd l R ad D cA R_M cc nL WW) (hR : rm_M_emit.frames + 1 ≤ R.frames ∧ 8 + (6 + 11) + rm_M_emit.locals ≤ R.locals) {K : qP} {pc : Nat} (d : decode cc pc = .ok (.invokevirtual 247, 3)) (h : qle K WW (pc + 3)) : qle (oc_M_emit K) WW pc := by
  intro st ls σ k
  refine S.callV (o := 900) (ci := 0) (N := 82) (base := 0) (C := R_M) (T := F_M) (n := 1) (pre := pre_M_emit) (post := post_M_emit) (Or.inl ⟨rfl, rfl, rfl, rfl, rfl, rfl⟩) ⟨lw_at 720 (by decide +kernel) rfl, lw_at 717 (by decide +kernel) rfl, lw_at 59 (by decide +kernel) rfl, by decide, by decide, by decide +kernel⟩ ⟨lw_at 719 (by decide +kernel) rfl, lw_at 48 (by decide +kernel) rfl⟩ ⟨rfl, rfl⟩ hR (c_M_emit l ad D cA) ?_ d h st ls σ ?_
  · intro av σ h; unfold pre_M_emit at h; split at h
    · obtain ⟨rfl, h⟩ := h; exact ⟨_, rfl⟩
    · exact h.elim
  · unfold oc_M_emit at k
    split at k
    next a1 o st =>
      obtain ⟨rfl, hs, hp, k⟩ := k
      refine ⟨[.inr (.inr 900), .inl a1], st, rfl, rfl, hs, ⟨rfl, hp⟩, fun r σ' hq => ?_⟩
      unfold post_M_emit at hq
      split at hq
      next h1 =>
        cases h1
        exact k _ hq
      next => exact hq.elim
    next => exact k.elim
theorem sc_M_238 {l : Launch} {R : Room} {ad : Nat → Nat} {D : va_G} {cA : Nat → ClassId} {cc : ByteArray} {nL : Nat} {WW : Nat → qP} (S : qSnd l R ad D cA R_M cc nL WW) (hR : rm_M_value.frames + 1 ≤ R.frames ∧ 8 + (2 + 11) + rm_M_value.locals ≤ R.locals) {K : qP} {pc : Nat} (d : decode cc pc = .ok (.invokevirtual 238, 3)) (h : qle K WW (pc + 3)) : qle (oc_M_value K) WW pc := by
  intro st ls σ k
  refine S.callV (o := 900) (ci := 0) (N := 82) (base := 0) (C := R_M) (T := F_M) (n := 1) (pre := pre_M_value) (post := post_M_value) (Or.inl ⟨rfl, rfl, rfl, rfl, rfl, rfl⟩) ⟨lw_at 716 (by decide +kernel) rfl, lw_at 713 (by decide +kernel) rfl, lw_at 59 (by decide +kernel) rfl, by decide, by decide, by decide +kernel⟩ ⟨lw_at 715 (by decide +kernel) rfl, lw_at 47 (by decide +kernel) rfl⟩ ⟨rfl, rfl⟩ hR (c_M_value l ad D cA) ?_ d h st ls σ ?_
  · intro av σ h; unfold pre_M_value at h; split at h
    · obtain ⟨rfl, h⟩ := h; exact ⟨_, rfl⟩
    · exact h.elim
  · unfold oc_M_value at k
    split at k
    next a1 o st =>
      obtain ⟨rfl, hs, hp, k⟩ := k
      refine ⟨[.inr (.inr 900), .inl a1], st, rfl, rfl, hs, ⟨rfl, hp⟩, fun r σ' hq => ?_⟩
      unfold post_M_value at hq
      split at hq
      next h1 =>
        cases h1
        exact k _ hq
      next => exact hq.elim
    next => exact k.elim
def k_M_does_219 (QR : Option qA → qS → Prop) (H : Nat → qP) : qP :=
  o_rv QR
def k_M_does_214 (QR : Option qA → qS → Prop) (H : Nat → qP) : qP :=
  o_al 0 <| o_il 1 <| oc_M_emit <| k_M_does_219 QR H
def k_M_does_187 (QR : Option qA → qS → Prop) (H : Nat → qP) : qP :=
  o_al 0 <| oc_M_pop <| o_ls 5 <| o_al 0 <| oc_M_pop <| o_ls 7 <| o_al 0 <| o_ll 5 <| oc_M_push <| o_al 0 <| o_ll 7 <| oc_M_push <| k_M_does_219 QR H
def k_M_does_179 (QR : Option qA → qS → Prop) (H : Nat → qP) : qP :=
  o_al 0 <| oc_M_pop <| o_pop2 <| k_M_does_219 QR H
def k_M_does_158 (QR : Option qA → qS → Prop) (H : Nat → qP) : qP :=
  o_al 0 <| oc_M_pop <| o_ls 5 <| o_al 0 <| o_ll 5 <| oc_M_push <| o_al 0 <| o_ll 5 <| oc_M_push <| k_M_does_219 QR H
def k_M_does_144 (QR : Option qA → qS → Prop) (H : Nat → qP) : qP :=
  o_al 0 <| o_gA 900 17 <| o_ll 3 <| o_l2i <| o_al 0 <| oc_M_pop <| o_jsk 17 4 <| k_M_does_219 QR H
def k_M_does_130 (QR : Option qA → qS → Prop) (H : Nat → qP) : qP :=
  o_al 0 <| o_al 0 <| o_gA 900 17 <| o_ll 3 <| o_l2i <| o_jak 17 4 <| oc_M_push <| k_M_does_219 QR H
def k_M_does_124 (QR : Option qA → qS → Prop) (H : Nat → qP) : qP :=
  oc_M_push <| k_M_does_219 QR H
def k_M_does_123 (QR : Option qA → qS → Prop) (H : Nat → qP) : qP :=
  o_c (.inr (.inl 0)) <| k_M_does_124 QR H
def k_M_does_119 (QR : Option qA → qS → Prop) (H : Nat → qP) : qP :=
  o_c (.inr (.inl 1)) <| k_M_does_124 QR H
def k_M_does_108 (QR : Option qA → qS → Prop) (H : Nat → qP) : qP :=
  o_al 0 <| o_gI 900 24 <| o_al 0 <| o_gI 900 25 <| o_i2 (fun a b => b ≤ a) (k_M_does_123 QR H) (k_M_does_119 QR H)
def k_M_does_103 (QR : Option qA → qS → Prop) (H : Nat → qP) : qP :=
  o_al 0 <| o_il 1 <| o_if (fun a => a = 0) (k_M_does_123 QR H) (k_M_does_108 QR H)
def k_M_does_95 (QR : Option qA → qS → Prop) (H : Nat → qP) : qP :=
  o_al 0 <| o_il 1 <| oc_M_value <| k_M_does_219 QR H
def k_M_does_84 (QR : Option qA → qS → Prop) (H : Nat → qP) : qP :=
  o_al 0 <| o_al 0 <| o_gJ 900 22 <| oc_M_push <| k_M_does_219 QR H
def k_M_does_76 (QR : Option qA → qS → Prop) (H : Nat → qP) : qP :=
  o_al 0 <| o_ll 3 <| oc_M_push <| k_M_does_219 QR H
def k_M_does_0 (QR : Option qA → qS → Prop) (H : Nat → qP) : qP :=
  o_il 2 <| o_sw 0 [k_M_does_76 QR H, k_M_does_84 QR H, k_M_does_95 QR H, k_M_does_103 QR H, k_M_does_130 QR H, k_M_does_144 QR H, k_M_does_214 QR H, k_M_does_214 QR H, k_M_does_214 QR H, k_M_does_214 QR H, k_M_does_214 QR H, k_M_does_214 QR H, k_M_does_158 QR H, k_M_does_179 QR H, k_M_does_187 QR H] (k_M_does_214 QR H)
set_option maxRecDepth 8000 in
theorem s_M_does_219 {l : Launch} {ad : Nat → Nat} {D : va_G} {cA : Nat → ClassId} {WW : Nat → qP} {QR : Option qA → qS → Prop} (S : qSnd l rm_M_does ad D cA R_M b_M_does 9 WW) (Q : qRet (none) b_M_does WW QR) : qle (k_M_does_219 QR WW) WW 219 :=
  Q.2.2.2 rfl _ d_M_does_219
set_option maxRecDepth 8000 in
theorem s_M_does_214 {l : Launch} {ad : Nat → Nat} {D : va_G} {cA : Nat → ClassId} {WW : Nat → qP} {QR : Option qA → qS → Prop} (S : qSnd l rm_M_does ad D cA R_M b_M_does 9 WW) (Q : qRet (none) b_M_does WW QR) : qle (k_M_does_214 QR WW) WW 214 :=
  S.aload_n d_M_does_214 rfl <| S.iload_n d_M_does_215 rfl <| sc_M_247 S (by decide) d_M_does_216 <| (s_M_does_219 S Q)
set_option maxRecDepth 8000 in
theorem s_M_does_187 {l : Launch} {ad : Nat → Nat} {D : va_G} {cA : Nat → ClassId} {WW : Nat → qP} {QR : Option qA → qS → Prop} (S : qSnd l rm_M_does ad D cA R_M b_M_does 9 WW) (Q : qRet (none) b_M_does WW QR) : qle (k_M_does_187 QR WW) WW 187 :=
  S.aload_n d_M_does_187 rfl <| sc_M_218 S (by decide) d_M_does_188 <| S.lstore d_M_does_191 (by decide) <| S.aload_n d_M_does_193 rfl <| sc_M_218 S (by decide) d_M_does_194 <| S.lstore d_M_does_197 (by decide) <| S.aload_n d_M_does_199 rfl <| S.lload d_M_does_200 <| sc_M_230 S (by decide) d_M_does_202 <| S.aload_n d_M_does_205 rfl <| S.lload d_M_does_206 <| sc_M_230 S (by decide) d_M_does_208 <| S.goto d_M_does_211 (by decide) (s_M_does_219 S Q)
set_option maxRecDepth 8000 in
theorem s_M_does_179 {l : Launch} {ad : Nat → Nat} {D : va_G} {cA : Nat → ClassId} {WW : Nat → qP} {QR : Option qA → qS → Prop} (S : qSnd l rm_M_does ad D cA R_M b_M_does 9 WW) (Q : qRet (none) b_M_does WW QR) : qle (k_M_does_179 QR WW) WW 179 :=
  S.aload_n d_M_does_179 rfl <| sc_M_218 S (by decide) d_M_does_180 <| S.pop2 d_M_does_183 <| S.goto d_M_does_184 (by decide) (s_M_does_219 S Q)
set_option maxRecDepth 8000 in
theorem s_M_does_158 {l : Launch} {ad : Nat → Nat} {D : va_G} {cA : Nat → ClassId} {WW : Nat → qP} {QR : Option qA → qS → Prop} (S : qSnd l rm_M_does ad D cA R_M b_M_does 9 WW) (Q : qRet (none) b_M_does WW QR) : qle (k_M_does_158 QR WW) WW 158 :=
  S.aload_n d_M_does_158 rfl <| sc_M_218 S (by decide) d_M_does_159 <| S.lstore d_M_does_162 (by decide) <| S.aload_n d_M_does_164 rfl <| S.lload d_M_does_165 <| sc_M_230 S (by decide) d_M_does_167 <| S.aload_n d_M_does_170 rfl <| S.lload d_M_does_171 <| sc_M_230 S (by decide) d_M_does_173 <| S.goto d_M_does_176 (by decide) (s_M_does_219 S Q)
set_option maxRecDepth 8000 in
theorem s_M_does_144 {l : Launch} {ad : Nat → Nat} {D : va_G} {cA : Nat → ClassId} {WW : Nat → qP} {QR : Option qA → qS → Prop} (S : qSnd l rm_M_does ad D cA R_M b_M_does 9 WW) (Q : qRet (none) b_M_does WW QR) : qle (k_M_does_144 QR WW) WW 144 :=
  S.aload_n d_M_does_144 rfl <| S.gA fl_M_54 (by decide) d_M_does_145 <| S.lload_n d_M_does_148 rfl <| S.l2i d_M_does_149 <| S.aload_n d_M_does_150 rfl <| sc_M_218 S (by decide) d_M_does_151 <| S.jsk (by decide) d_M_does_154 <| S.goto d_M_does_155 (by decide) (s_M_does_219 S Q)
set_option maxRecDepth 8000 in
theorem s_M_does_130 {l : Launch} {ad : Nat → Nat} {D : va_G} {cA : Nat → ClassId} {WW : Nat → qP} {QR : Option qA → qS → Prop} (S : qSnd l rm_M_does ad D cA R_M b_M_does 9 WW) (Q : qRet (none) b_M_does WW QR) : qle (k_M_does_130 QR WW) WW 130 :=
  S.aload_n d_M_does_130 rfl <| S.aload_n d_M_does_131 rfl <| S.gA fl_M_54 (by decide) d_M_does_132 <| S.lload_n d_M_does_135 rfl <| S.l2i d_M_does_136 <| S.jak (by decide) d_M_does_137 <| sc_M_230 S (by decide) d_M_does_138 <| S.goto d_M_does_141 (by decide) (s_M_does_219 S Q)
set_option maxRecDepth 8000 in
theorem s_M_does_124 {l : Launch} {ad : Nat → Nat} {D : va_G} {cA : Nat → ClassId} {WW : Nat → qP} {QR : Option qA → qS → Prop} (S : qSnd l rm_M_does ad D cA R_M b_M_does 9 WW) (Q : qRet (none) b_M_does WW QR) : qle (k_M_does_124 QR WW) WW 124 :=
  sc_M_230 S (by decide) d_M_does_124 <| S.goto d_M_does_127 (by decide) (s_M_does_219 S Q)
set_option maxRecDepth 8000 in
theorem s_M_does_123 {l : Launch} {ad : Nat → Nat} {D : va_G} {cA : Nat → ClassId} {WW : Nat → qP} {QR : Option qA → qS → Prop} (S : qSnd l rm_M_does ad D cA R_M b_M_does 9 WW) (Q : qRet (none) b_M_does WW QR) : qle (k_M_does_123 QR WW) WW 123 :=
  S.lconst d_M_does_123 (by decide) <| (s_M_does_124 S Q)
set_option maxRecDepth 8000 in
theorem s_M_does_119 {l : Launch} {ad : Nat → Nat} {D : va_G} {cA : Nat → ClassId} {WW : Nat → qP} {QR : Option qA → qS → Prop} (S : qSnd l rm_M_does ad D cA R_M b_M_does 9 WW) (Q : qRet (none) b_M_does WW QR) : qle (k_M_does_119 QR WW) WW 119 :=
  S.lconst d_M_does_119 (by decide) <| S.goto d_M_does_120 (by decide) (s_M_does_124 S Q)
set_option maxRecDepth 8000 in
theorem s_M_does_108 {l : Launch} {ad : Nat → Nat} {D : va_G} {cA : Nat → ClassId} {WW : Nat → qP} {QR : Option qA → qS → Prop} (S : qSnd l rm_M_does ad D cA R_M b_M_does 9 WW) (Q : qRet (none) b_M_does WW QR) : qle (k_M_does_108 QR WW) WW 108 :=
  S.aload_n d_M_does_108 rfl <| S.gI fl_M_241 (by decide) d_M_does_109 <| S.aload_n d_M_does_112 rfl <| S.gI fl_M_244 (by decide) d_M_does_113 <| S.icmp_ge d_M_does_116 (by decide) (s_M_does_123 S Q) (s_M_does_119 S Q)
set_option maxRecDepth 8000 in
theorem s_M_does_103 {l : Launch} {ad : Nat → Nat} {D : va_G} {cA : Nat → ClassId} {WW : Nat → qP} {QR : Option qA → qS → Prop} (S : qSnd l rm_M_does ad D cA R_M b_M_does 9 WW) (Q : qRet (none) b_M_does WW QR) : qle (k_M_does_103 QR WW) WW 103 :=
  S.aload_n d_M_does_103 rfl <| S.iload_n d_M_does_104 rfl <| S.if_eq d_M_does_105 (by decide) (s_M_does_123 S Q) (s_M_does_108 S Q)
set_option maxRecDepth 8000 in
theorem s_M_does_95 {l : Launch} {ad : Nat → Nat} {D : va_G} {cA : Nat → ClassId} {WW : Nat → qP} {QR : Option qA → qS → Prop} (S : qSnd l rm_M_does ad D cA R_M b_M_does 9 WW) (Q : qRet (none) b_M_does WW QR) : qle (k_M_does_95 QR WW) WW 95 :=
  S.aload_n d_M_does_95 rfl <| S.iload_n d_M_does_96 rfl <| sc_M_238 S (by decide) d_M_does_97 <| S.goto d_M_does_100 (by decide) (s_M_does_219 S Q)
set_option maxRecDepth 8000 in
theorem s_M_does_84 {l : Launch} {ad : Nat → Nat} {D : va_G} {cA : Nat → ClassId} {WW : Nat → qP} {QR : Option qA → qS → Prop} (S : qSnd l rm_M_does ad D cA R_M b_M_does 9 WW) (Q : qRet (none) b_M_does WW QR) : qle (k_M_does_84 QR WW) WW 84 :=
  S.aload_n d_M_does_84 rfl <| S.aload_n d_M_does_85 rfl <| S.gJ fl_M_234 (by decide) d_M_does_86 <| sc_M_230 S (by decide) d_M_does_89 <| S.goto d_M_does_92 (by decide) (s_M_does_219 S Q)
set_option maxRecDepth 8000 in
theorem s_M_does_76 {l : Launch} {ad : Nat → Nat} {D : va_G} {cA : Nat → ClassId} {WW : Nat → qP} {QR : Option qA → qS → Prop} (S : qSnd l rm_M_does ad D cA R_M b_M_does 9 WW) (Q : qRet (none) b_M_does WW QR) : qle (k_M_does_76 QR WW) WW 76 :=
  S.aload_n d_M_does_76 rfl <| S.lload_n d_M_does_77 rfl <| sc_M_230 S (by decide) d_M_does_78 <| S.goto d_M_does_81 (by decide) (s_M_does_219 S Q)
set_option maxRecDepth 8000 in
theorem s_M_does_0 {l : Launch} {ad : Nat → Nat} {D : va_G} {cA : Nat → ClassId} {WW : Nat → qP} {QR : Option qA → qS → Prop} (S : qSnd l rm_M_does ad D cA R_M b_M_does 9 WW) (Q : qRet (none) b_M_does WW QR) : qle (k_M_does_0 QR WW) WW 0 :=
  S.iload_n d_M_does_0 rfl <| S.sw d_M_does_1 (by decide) (⟨⟨76, by decide, (s_M_does_76 S Q)⟩, ⟨⟨84, by decide, (s_M_does_84 S Q)⟩, ⟨⟨95, by decide, (s_M_does_95 S Q)⟩, ⟨⟨103, by decide, (s_M_does_103 S Q)⟩, ⟨⟨130, by decide, (s_M_does_130 S Q)⟩, ⟨⟨144, by decide, (s_M_does_144 S Q)⟩, ⟨⟨214, by decide, (s_M_does_214 S Q)⟩, ⟨⟨214, by decide, (s_M_does_214 S Q)⟩, ⟨⟨214, by decide, (s_M_does_214 S Q)⟩, ⟨⟨214, by decide, (s_M_does_214 S Q)⟩, ⟨⟨214, by decide, (s_M_does_214 S Q)⟩, ⟨⟨214, by decide, (s_M_does_214 S Q)⟩, ⟨⟨158, by decide, (s_M_does_158 S Q)⟩, ⟨⟨179, by decide, (s_M_does_179 S Q)⟩, ⟨⟨187, by decide, (s_M_does_187 S Q)⟩, trivial⟩⟩⟩⟩⟩⟩⟩⟩⟩⟩⟩⟩⟩⟩⟩) (by decide) (s_M_does_214 S Q)
theorem w_M_does {l : Launch} {ad : Nat → Nat} {D : va_G} {cA : Nat → ClassId} {WW : Nat → qP} {QR : Option qA → qS → Prop} (S : qSnd l rm_M_does ad D cA R_M b_M_does 9 WW) (Q : qRet (none) b_M_does WW QR) (a1 : Int) (a2 : Int) (a3 : Int) (σ : qS) (ha1 : r32 a1) (ha2 : r32 a2) (ha3 : r64 a3) (hσ : qoS σ) (h : P_M_does a1 a2 a3 σ) (hq : ∀ σ', Q_M_does a1 a2 a3 σ σ' → QR none σ') : WW 0 [] [some (.inr (.inr 900)), some (.inl a1), some (.inl a2), some (.inr (.inl a3)), none, none, none, none, none] σ := by
  refine s_M_does_0 S Q _ _ _ ?_
  simp only [k_M_does_0, k_M_does_76, k_M_does_84, k_M_does_95, k_M_does_103, k_M_does_108, k_M_does_119, k_M_does_123, k_M_does_124, k_M_does_130, k_M_does_144, k_M_does_158, k_M_does_179, k_M_does_187, k_M_does_214, k_M_does_219, oc_M_emit, oc_M_pop, oc_M_push, oc_M_value, o_c, o_il, o_ll, o_al, o_is, o_as, o_ls, o_inc, o_bi, o_bid, o_bl, o_bld, o_sl, o_i2l, o_l2i, o_dup, o_dup2, o_pop, o_pop2, o_if, o_i2, o_l2, swg, o_sw, o_gI, o_gZ, o_gJ, o_gA, o_gR, o_pI, o_pZ, o_pJ, o_pR, o_ia, o_iak, o_zak, o_ja, o_jak, o_is_, o_isk, o_zsk, o_js_, o_jsk, o_len, o_ri, o_rz, o_rl, o_rv, ls1, ls2, lks, lkj, List.getD_cons_zero, List.getD_cons_succ, List.set_cons_zero, List.set_cons_succ, qcat, true_and, and_true, List.map_nil, List.map_cons, List.sum_nil, List.sum_cons, Nat.reduceAdd, Nat.reduceLeDiff, Nat.zero_le, Int.reduceAdd, Int.reduceNeg, Int.reduceEq, or_true, true_or, Decidable.not_not]
  obtain ⟨⟨ho0, ho1, ho2, ho3⟩, hrow, hft, htr, l, c0, nx0, em0, hm0⟩ := h
  have hp := Stk_p hm0.1
  have fin : ∀ σ', F_mac σ σ' → (∀ c nx em, MR σ l c nx em → (match mdoes a1 (σ 22 0) (σ 25 0) (crow σ) a2 a3 l c nx em with
      | none => σ' 21 0 = 1
      | some x => σ' 21 0 = 0 ∧ MR σ' x.1 x.2.1 x.2.2.1 x.2.2.2)) → QR none σ' := by
    intro σ' hF hx
    refine hq _ ⟨hF, fun l' c nx em hm => ?_⟩
    have := Stk_un hm0.1 hm.1
    subst this
    exact hx c nx em hm
  have pushfin : ∀ v σ', Q_M_push v σ σ' → (∀ c nx em, MR σ l c nx em → mdoes a1 (σ 22 0) (σ 25 0) (crow σ) a2 a3 l c nx em = if l.length < 12 then some (v :: l, c, nx, em) else none) → QR none σ' := by
    intro v σ' p hx
    by_cases hl : l.length < 12
    · obtain ⟨k1, k2, k3⟩ := psh_ok p hm0.1 hl
      refine fin σ' k3.mac (fun c nx em hm => ?_)
      rw [hx c nx em hm, if_pos hl]
      exact ⟨by rw [k2, htr], MR_stk hm k3 k1⟩
    · obtain ⟨k1, k2, k3⟩ := psh_no p hm0.1 hl
      refine fin σ' k3.mac (fun c nx em hm => ?_)
      rw [hx c nx em hm, if_neg hl]
      exact k2
  have emitfin : (a2 = 17) → P_M_emit a1 σ ∧ ∀ σ', Q_M_emit a1 σ σ' → QR none σ' := by
    intro e
    have he := hm0.2.2.2
    refine ⟨⟨⟨by rw [he.1]; omega, by rw [he.1]; have := he.2.1; omega⟩, hp⟩, fun σ' p => ?_⟩
    obtain ⟨k1, k2, k3⟩ := p
    obtain ⟨-, k4⟩ := k3 l hm0.1
    have k4 := k4 htr
    refine fin σ' k1.mac (fun c nx em hm => ?_)
    have em1 := hm.2.2.2
    have hd : mdoes a1 (σ 22 0) (σ 25 0) (crow σ) a2 a3 l c nx em = (match memit a1 (σ 22 0) l with
      | none => none
      | some x => if em.length = 4 then none else some (x.1, c, nx, em ++ [x.2])) := by
      rw [e]; rfl
    rw [hd]
    cases hme : memit a1 (σ 22 0) l with
    | none => rw [hme] at k4; exact k4
    | some x =>
      rw [hme] at k4
      by_cases h4 : em.length = 4
      · simp only [if_pos h4]; exact k4.1 (by rw [em1.1]; omega)
      · simp only [if_neg h4]
        obtain ⟨g1, g2, g3, g4, g5⟩ := k4.2 (by rw [em1.1]; omega)
        refine ⟨g2, g1, fun i h0 h1 => by rw [k1 _ (by decide)]; exact hm.2.1 i h0 h1, by rw [k1 _ (by decide)]; exact hm.2.2.1, by rw [g3, em1.1]; simp, by simp; have := em1.2.1; omega, fun i e2 hi => ?_⟩
        rw [g4, g5, em1.1]
        by_cases hlt : i < em.length
        · rw [List.getElem?_append_left hlt] at hi
          rw [if_neg (by omega), if_neg (by omega)]
          exact em1.2.2 i e2 hi
        · rw [List.getElem?_append_right (by omega)] at hi
          have hi0 : i - em.length = 0 := by
            cases hx : i - em.length with
            | zero => rfl
            | succ n => rw [hx] at hi; cases hi
          rw [hi0] at hi
          cases hi
          rw [if_pos (by omega), if_pos (by omega)]
          exact ⟨rfl, rfl⟩
  refine ⟨fun e => ⟨hp, fun σ1 p1 => pushfin _ _ p1 (fun c nx em hm => by rw [e]; rfl)⟩, fun n0 => ⟨fun e => ⟨hp, fun σ1 p1 => pushfin _ _ p1 (fun c nx em hm => by rw [e]; rfl)⟩, fun n1 => ⟨fun e => ?_, fun n2 => ⟨fun e => ⟨fun z => ⟨hp, fun σ1 p1 => pushfin _ _ p1 (fun c nx em hm => ?_)⟩, fun z => ⟨fun y => ⟨hp, fun σ1 p1 => pushfin _ _ p1 (fun c nx em hm => ?_)⟩, fun y => ⟨hp, fun σ1 p1 => pushfin _ _ p1 (fun c nx em hm => ?_)⟩⟩⟩, fun n3 => ⟨fun e => ?_, fun n4 => ⟨fun e => ?_, fun n5 => ?_⟩⟩⟩⟩⟩⟩
  · refine ⟨⟨hrow, hft, hp⟩, fun σ1 p1 => ?_⟩
    rcases p1 with ⟨e1, rfl⟩ | ⟨e1, e2⟩
    · refine fin _ (F_stk.td _ _).mac (fun c nx em hm => ?_)
      have : mdoes a1 (σ 22 0) (σ 25 0) (crow σ) a2 a3 l c nx em = none := by
        rw [e]; simp [mdoes, ← hm.2.2.1, e1]
      rw [this]; exact su_s
    · have hd : ∀ c nx em, MR σ l c nx em → mdoes a1 (σ 22 0) (σ 25 0) (crow σ) a2 a3 l c nx em = if l.length < 12 then some (crow σ (σ 24 0) :: l, c, (if a1 = 0 then σ 24 0 else σ 24 0 + 1), em) else none := by
        intro c nx em hm
        rw [e]; simp [mdoes, ← hm.2.2.1, e1]
      have hps : Q_M_push (crow σ (σ 24 0)) σ (psh (crow σ (σ 24 0)) σ) := rfl
      by_cases hl : l.length < 12
      · obtain ⟨k1, k2, k3⟩ := psh_ok hps hm0.1 hl
        by_cases z : a1 = 0
        · rw [if_pos z] at e2; subst e2
          refine fin _ k3.mac (fun c nx em hm => ?_)
          rw [hd c nx em hm, if_pos hl, if_pos z]
          refine ⟨by rw [k2, htr], ?_⟩
          have := MR_stk hm k3 k1
          rw [← hm.2.2.1] at this; exact this
        · rw [if_neg z] at e2; subst e2
          refine fin _ (fun q hk => ?_) (fun c nx em hm => ?_)
          · rw [su_k (by intro e; subst e; exact hk (by decide)), k3.mac q hk]
          · rw [hd c nx em hm, if_pos hl, if_neg z]
            have := MR_stk hm k3 k1
            refine ⟨by rw [su_k (by decide), k2, htr], Stk_keep this.1 (by rw [su_k (by decide)]) (su_k (by decide)), fun i h0 h1 => by rw [su_k (by decide)]; exact this.2.1 i h0 h1, su_s, Em_keep this.2.2.2 (by rw [su_k (by decide)]) (su_k (by decide)) (su_k (by decide))⟩
      · obtain ⟨k1, k2, k3⟩ := psh_no hps hm0.1 hl
        by_cases z : a1 = 0
        · rw [if_pos z] at e2; subst e2
          refine fin _ k3.mac (fun c nx em hm => ?_)
          rw [hd c nx em hm, if_neg hl]; exact k2
        · rw [if_neg z] at e2; subst e2
          refine fin _ (fun q hk => ?_) (fun c nx em hm => ?_)
          · rw [su_k (by intro e; subst e; exact hk (by decide)), k3.mac q hk]
          · rw [hd c nx em hm, if_neg hl]; show su _ _ _ _ _ _ = _; rw [su_k (by decide)]; exact k2
  · rw [e]; simp [mdoes, z]
  · have := hm.2.2.1
    rw [e]; simp [mdoes, z, show ¬ nx < σ 25 0 by omega]
  · have := hm.2.2.1
    rw [e]; simp [mdoes, z, show nx < σ 25 0 by omega]
  · have ha := ho3 (Or.inl e)
    rw [w32_i _ (by omega) (by omega)]
    refine ⟨by omega, hp, fun σ1 p1 => pushfin _ _ p1 (fun c nx em hm => ?_)⟩
    rw [e, hm.2.1 a3 ha.1 (by omega)]; rfl
  · have ha := ho3 (Or.inr e)
    rw [w32_i _ (by omega) (by omega)]
    refine ⟨hp, fun r σ1 p1 => ⟨by omega, ?_⟩⟩
    cases l with
    | nil =>
      obtain ⟨k1, k2, k3⟩ := pop_no p1 hm0.1
      refine fin _ (fun q hk => ?_) (fun c nx em hm => ?_)
      · rw [su_k (by intro e; subst e; exact hk (by decide)), k3.mac q hk]
      · rw [e]; show su _ _ _ _ _ _ = _; rw [su_k (by decide)]; exact k2
    | cons v t =>
      obtain ⟨k0, k1, k2, k3⟩ := pop_ok p1 hm0.1
      refine fin _ (fun q hk => ?_) (fun c nx em hm => ?_)
      · rw [su_k (by intro e; subst e; exact hk (by decide)), k3.mac q hk]
      · have := MR_stk hm k3 k1
        rw [e]
        refine ⟨by rw [su_k (by decide), k2, htr], Stk_keep this.1 (by rw [su_k (by decide)]) (su_k (by decide)), fun i h0 h1 => ?_, by rw [su_k (by decide)]; exact this.2.2.1, Em_keep this.2.2.2 (by rw [su_k (by decide)]) (su_k (by decide)) (su_k (by decide))⟩
        rw [su_e, this.2.1 i h0 h1, k0]
  · refine ⟨fun e => absurd (by omega) ho2, fun n6 => ⟨fun e => absurd (by omega) ho2, fun n7 => ⟨fun e => absurd (by omega) ho2, fun n8 => ⟨fun e => absurd (by omega) ho2, fun n9 => ⟨fun e => absurd (by omega) ho2, fun n10 => ⟨fun e => absurd (by omega) ho2, fun n11 => ⟨fun e => ?_, fun n12 => ⟨fun e => ?_, fun n13 => ⟨fun e => ?_, fun n14 => ?_⟩⟩⟩⟩⟩⟩⟩⟩⟩
    · refine ⟨hp, fun r σ1 p1 => ?_⟩
      cases l with
      | nil =>
        obtain ⟨k1, k2, k3⟩ := pop_no p1 hm0.1
        refine ⟨Stk_p k1, fun σ2 p2 => ?_⟩
        obtain ⟨⟨l2, j1⟩, j2, j3⟩ := psh_tr p2 k1 k2
        refine ⟨Stk_p j1, fun σ3 p3 => ?_⟩
        obtain ⟨-, i2, i3⟩ := psh_tr p3 j1 j2
        refine fin _ ((k3.tr j3).tr i3).mac (fun c nx em hm => ?_)
        rw [e]; exact i2
      | cons v t =>
        have ht := hm0.1.2.1
        simp only [List.length_cons] at ht
        obtain ⟨k0, k1, k2, k3⟩ := pop_ok p1 hm0.1
        refine ⟨Stk_p k1, fun σ2 p2 => ?_⟩
        obtain ⟨j1, j2, j3⟩ := psh_ok p2 k1 (by omega)
        refine ⟨Stk_p j1, fun σ3 p3 => ?_⟩
        by_cases hl : t.length < 11
        · obtain ⟨i1, i2, i3⟩ := psh_ok p3 j1 (by simp; omega)
          refine fin _ ((k3.tr j3).tr i3).mac (fun c nx em hm => ?_)
          have hd : mdoes a1 (σ 22 0) (σ 25 0) (crow σ) a2 a3 (v :: t) c nx em = some (v :: v :: t, c, nx, em) := by rw [e]; simp [mdoes, hl]
          rw [hd]
          subst k0
          exact ⟨by rw [i2, j2, k2, htr], MR_stk hm ((k3.tr j3).tr i3) i1⟩
        · obtain ⟨i1, i2, i3⟩ := psh_no p3 j1 (by simp; omega)
          refine fin _ ((k3.tr j3).tr i3).mac (fun c nx em hm => ?_)
          have hd : mdoes a1 (σ 22 0) (σ 25 0) (crow σ) a2 a3 (v :: t) c nx em = none := by rw [e]; simp [mdoes]; omega
          rw [hd]; exact i2
    · refine ⟨hp, fun r σ1 p1 => ?_⟩
      cases l with
      | nil =>
        obtain ⟨k1, k2, k3⟩ := pop_no p1 hm0.1
        refine fin _ k3.mac (fun c nx em hm => ?_)
        rw [e]; exact k2
      | cons v t =>
        obtain ⟨k0, k1, k2, k3⟩ := pop_ok p1 hm0.1
        refine fin _ k3.mac (fun c nx em hm => ?_)
        rw [e]; exact ⟨by rw [k2, htr], MR_stk hm k3 k1⟩
    · refine ⟨hp, fun r σ1 p1 => ?_⟩
      match l, hm0, fin with
      | [], hm0, fin =>
        obtain ⟨k1, k2, k3⟩ := pop_no p1 hm0.1
        refine ⟨Stk_p k1, fun r2 σ2 p2 => ?_⟩
        obtain ⟨⟨l2, j1⟩, j2, j3⟩ := pop_tr p2 k1 k2
        refine ⟨Stk_p j1, fun σ3 p3 => ?_⟩
        obtain ⟨⟨l3, i1⟩, i2, i3⟩ := psh_tr p3 j1 j2
        refine ⟨Stk_p i1, fun σ4 p4 => ?_⟩
        obtain ⟨-, h2, h3⟩ := psh_tr p4 i1 i2
        refine fin _ (((k3.tr j3).tr i3).tr h3).mac (fun c nx em hm => ?_)
        rw [e]; exact h2
      | [x], hm0, fin =>
        obtain ⟨-, k1, k2, k3⟩ := pop_ok p1 hm0.1
        refine ⟨Stk_p k1, fun r2 σ2 p2 => ?_⟩
        obtain ⟨j1, j2, j3⟩ := pop_no p2 k1
        refine ⟨Stk_p j1, fun σ3 p3 => ?_⟩
        obtain ⟨⟨l3, i1⟩, i2, i3⟩ := psh_tr p3 j1 j2
        refine ⟨Stk_p i1, fun σ4 p4 => ?_⟩
        obtain ⟨-, h2, h3⟩ := psh_tr p4 i1 i2
        refine fin _ (((k3.tr j3).tr i3).tr h3).mac (fun c nx em hm => ?_)
        rw [e]; exact h2
      | x :: y :: t, hm0, fin =>
        have ht := hm0.1.2.1
        simp only [List.length_cons] at ht
        obtain ⟨e1, k1, k2, k3⟩ := pop_ok p1 hm0.1
        refine ⟨Stk_p k1, fun r2 σ2 p2 => ?_⟩
        obtain ⟨e2, j1, j2, j3⟩ := pop_ok p2 k1
        refine ⟨Stk_p j1, fun σ3 p3 => ?_⟩
        obtain ⟨i1, i2, i3⟩ := psh_ok p3 j1 (by omega)
        refine ⟨Stk_p i1, fun σ4 p4 => ?_⟩
        obtain ⟨h1, h2, h3⟩ := psh_ok p4 i1 (by simp; omega)
        refine fin _ (((k3.tr j3).tr i3).tr h3).mac (fun c nx em hm => ?_)
        rw [e]
        subst e1; subst e2
        exact ⟨by rw [h2, i2, j2, k2, htr], MR_stk hm (((k3.tr j3).tr i3).tr h3) h1⟩
    · exact emitfin (by omega)
theorem c_M_does (l : Launch) (ad : Nat → Nat) (D : va_G) (cA : Nat → ClassId) : qC l ad D cA y_M_does (Cond.code y_M_does b_M_does 9 (none) :: lw_g) rm_M_does pre_M_does post_M_does := by
  refine qC_of (own := R_M) (by decide) rfl ⟨rfl, rfl⟩ ?_ ?_
  · intro av σ h; unfold pre_M_does at h; split at h
    · simp [qen]
    · exact h.elim
  · intro WW QR S Q av σ hav hσ h hq; unfold pre_M_does at h; split at h
    next o a1 a2 a3 =>
      obtain ⟨rfl, h⟩ := h
      exact w_M_does S Q a1 a2 a3 σ (hav _ (List.mem_of_getElem? (i := 1) rfl)) (hav _ (List.mem_of_getElem? (i := 2) rfl)) (hav _ (List.mem_of_getElem? (i := 3) rfl)) hσ h (fun σ' h' => hq _ σ' h')
    next => exact h.elim
def progok (σ : qS) (p : Int) : Prop := (0 ≤ p ∧ p < 24) ∧ (0 ≤ σ 8 p ∧ σ 8 p ≤ 40) ∧ ∀ i, 0 ≤ i → i < σ 8 p → (0 ≤ σ 6 (p * 40 + i) ∧ σ 6 (p * 40 + i) ≤ 18) ∧ ((σ 6 (p * 40 + i) = 4 ∨ σ 6 (p * 40 + i) = 5) → 0 ≤ σ 7 (p * 40 + i) ∧ σ 7 (p * 40 + i) ≤ 3) ∧ ((σ 6 (p * 40 + i) = 15 ∨ σ 6 (p * 40 + i) = 16) → 0 ≤ σ 7 (p * 40 + i) ∧ σ 7 (p * 40 + i) ≤ σ 8 p)
def mrun (op arg : Int → Int) (len what key to : Int) (val : Int → Int) : Nat → Int → List Int → (Int → Int) → Int → List (Int × Int) → Option (List (Int × Int))
  | 0, at_, _, _, _, em => if len ≤ at_ then some em else none
  | n + 1, at_, l, c, nx, em => if len ≤ at_ then some em else if op at_ = 18 then some em else if op at_ = 15 then mrun op arg len what key to val n (arg at_) l c nx em
    else if op at_ = 16 then (match l with
      | [] => none
      | v :: t => mrun op arg len what key to val n (if v = 0 then arg at_ else at_ + 1) t c nx em)
    else if 6 ≤ op at_ ∧ op at_ ≤ 11 then (match mcomp (op at_) l with
      | none => none
      | some l2 => mrun op arg len what key to val n (at_ + 1) l2 c nx em)
    else (match mdoes what key to val (op at_) (arg at_) l c nx em with
      | none => none
      | some x => mrun op arg len what key to val n (at_ + 1) x.1 x.2.1 x.2.2.1 x.2.2.2)
theorem mrun_s (op arg : Int → Int) (len what key to : Int) (val : Int → Int) (n : Nat) (at_ : Int) (l : List Int) (c : Int → Int) (nx : Int) (em : List (Int × Int)) : mrun op arg len what key to val (n + 1) at_ l c nx em = (if len ≤ at_ then some em else if op at_ = 18 then some em else if op at_ = 15 then mrun op arg len what key to val n (arg at_) l c nx em
    else if op at_ = 16 then (match l with
      | [] => none
      | v :: t => mrun op arg len what key to val n (if v = 0 then arg at_ else at_ + 1) t c nx em)
    else if 6 ≤ op at_ ∧ op at_ ≤ 11 then (match mcomp (op at_) l with
      | none => none
      | some l2 => mrun op arg len what key to val n (at_ + 1) l2 c nx em)
    else (match mdoes what key to val (op at_) (arg at_) l c nx em with
      | none => none
      | some x => mrun op arg len what key to val n (at_ + 1) x.1 x.2.1 x.2.2.1 x.2.2.2)) := by rw [mrun.eq_def]
def mcall (op arg : Int → Int) (len what key : Int) (val : Int → Int) (from_ to : Int) : Option (List (Int × Int)) := mrun op arg len what key to val 400 0 [] (fun _ => 0) from_ []
def scall (σ : qS) (p : Int) : Option (List (Int × Int)) := mcall (fun i => σ 6 (p * 40 + i)) (fun i => σ 7 (p * 40 + i)) (σ 8 p) (p % 3) (σ 22 0) (crow σ) (σ 24 0) (σ 25 0)
def P_M_call (p : Int) (σ : qS) : Prop := progok σ p ∧ rowok σ ∧ (0 ≤ σ 24 0 ∧ σ 24 0 ≤ σ 25 0)
def Q_M_call (p : Int) (σ : qS) (r : Int) (σ' : qS) : Prop := F_mac σ σ' ∧ (match scall σ p with
  | none => r = 0
  | some em => r = 1 ∧ Em σ' em)
def pre_M_call (av : List qA) (σ : qS) : Prop := match av with
  | [.inr (.inr o), .inl a1] => o = 900 ∧ P_M_call a1 σ
  | _ => False
def post_M_call (av : List qA) (σ : qS) (r : Option qA) (σ' : qS) : Prop := match av, r with
  | [_, .inl a1], some (.inl r) => Q_M_call a1 σ r σ'
  | _, _ => False
def oc_M_call (K : qP) : qP := fun st ls σ => match st with
  | .inl a1 :: .inr (.inr o) :: st => o = 900 ∧ (st.map qcat).sum ≤ 8 ∧ P_M_call a1 σ ∧ ∀ (r : Int) (σ' : qS), Q_M_call a1 σ r σ' → K (.inl r :: st) ls σ'
  | _ => False
def rm_M_call : Room := { frames := 3, cells := 0, slots := 0, locals := 73 }
theorem fl_M_26 : qF R_M 900 0 82 0 R_M F_M 26 6 := ⟨Or.inl ⟨rfl, rfl, rfl, rfl, rfl, rfl⟩, by decide, lw_at 84 (by decide +kernel) rfl⟩
theorem fl_M_29 : qF R_M 900 0 82 0 R_M F_M 29 7 := ⟨Or.inl ⟨rfl, rfl, rfl, rfl, rfl, rfl⟩, by decide, lw_at 85 (by decide +kernel) rfl⟩
theorem fl_M_32 : qF R_M 900 0 82 0 R_M F_M 32 8 := ⟨Or.inl ⟨rfl, rfl, rfl, rfl, rfl, rfl⟩, by decide, lw_at 86 (by decide +kernel) rfl⟩
theorem sc_M_222 {l : Launch} {R : Room} {ad : Nat → Nat} {D : va_G} {cA : Nat → ClassId} {cc : ByteArray} {nL : Nat} {WW : Nat → qP} (S : qSnd l R ad D cA R_M cc nL WW) (hR : rm_M_compute.frames + 1 ≤ R.frames ∧ 8 + (6 + 11) + rm_M_compute.locals ≤ R.locals) {K : qP} {pc : Nat} (d : decode cc pc = .ok (.invokevirtual 222, 3)) (h : qle K WW (pc + 3)) : qle (oc_M_compute K) WW pc := by
  intro st ls σ k
  refine S.callV (o := 900) (ci := 0) (N := 82) (base := 0) (C := R_M) (T := F_M) (n := 1) (pre := pre_M_compute) (post := post_M_compute) (Or.inl ⟨rfl, rfl, rfl, rfl, rfl, rfl⟩) ⟨lw_at 704 (by decide +kernel) rfl, lw_at 701 (by decide +kernel) rfl, lw_at 59 (by decide +kernel) rfl, by decide, by decide, by decide +kernel⟩ ⟨lw_at 703 (by decide +kernel) rfl, lw_at 44 (by decide +kernel) rfl⟩ ⟨rfl, rfl⟩ hR (c_M_compute l ad D cA) ?_ d h st ls σ ?_
  · intro av σ h; unfold pre_M_compute at h; split at h
    · obtain ⟨rfl, h⟩ := h; exact ⟨_, rfl⟩
    · exact h.elim
  · unfold oc_M_compute at k
    split at k
    next a1 o st =>
      obtain ⟨rfl, hs, hp, k⟩ := k
      refine ⟨[.inr (.inr 900), .inl a1], st, rfl, rfl, hs, ⟨rfl, hp⟩, fun r σ' hq => ?_⟩
      unfold post_M_compute at hq
      split at hq
      next h1 =>
        cases h1
        exact k _ hq
      next => exact hq.elim
    next => exact k.elim
theorem sc_M_226 {l : Launch} {R : Room} {ad : Nat → Nat} {D : va_G} {cA : Nat → ClassId} {cc : ByteArray} {nL : Nat} {WW : Nat → qP} (S : qSnd l R ad D cA R_M cc nL WW) (hR : rm_M_does.frames + 1 ≤ R.frames ∧ 8 + (9 + 11) + rm_M_does.locals ≤ R.locals) {K : qP} {pc : Nat} (d : decode cc pc = .ok (.invokevirtual 226, 3)) (h : qle K WW (pc + 3)) : qle (oc_M_does K) WW pc := by
  intro st ls σ k
  refine S.callV (o := 900) (ci := 0) (N := 82) (base := 0) (C := R_M) (T := F_M) (n := 3) (pre := pre_M_does) (post := post_M_does) (Or.inl ⟨rfl, rfl, rfl, rfl, rfl, rfl⟩) ⟨lw_at 712 (by decide +kernel) rfl, lw_at 709 (by decide +kernel) rfl, lw_at 59 (by decide +kernel) rfl, by decide, by decide, by decide +kernel⟩ ⟨lw_at 711 (by decide +kernel) rfl, lw_at 46 (by decide +kernel) rfl⟩ ⟨rfl, rfl⟩ hR (c_M_does l ad D cA) ?_ d h st ls σ ?_
  · intro av σ h; unfold pre_M_does at h; split at h
    · obtain ⟨rfl, h⟩ := h; exact ⟨_, rfl⟩
    · exact h.elim
  · unfold oc_M_does at k
    split at k
    next a3 a2 a1 o st =>
      obtain ⟨rfl, hs, hp, k⟩ := k
      refine ⟨[.inr (.inr 900), .inl a1, .inl a2, .inr (.inl a3)], st, rfl, rfl, hs, ⟨rfl, hp⟩, fun r σ' hq => ?_⟩
      unfold post_M_does at hq
      split at hq
      next h1 =>
        cases h1
        exact k _ hq
      next => exact hq.elim
    next => exact k.elim
def k_M_call_195 (QR : Option qA → qS → Prop) (H : Nat → qP) : qP :=
  o_rz QR
def k_M_call_194 (QR : Option qA → qS → Prop) (H : Nat → qP) : qP :=
  o_c (.inl 0) <| k_M_call_195 QR H
def k_M_call_190 (QR : Option qA → qS → Prop) (H : Nat → qP) : qP :=
  o_c (.inl 1) <| k_M_call_195 QR H
def k_M_call_183 (QR : Option qA → qS → Prop) (H : Nat → qP) : qP :=
  o_al 0 <| o_gZ 900 21 <| o_if (fun a => ¬ a = 0) (k_M_call_194 QR H) (k_M_call_190 QR H)
def k_M_call_180 (QR : Option qA → qS → Prop) (H : Nat → qP) : qP :=
  H 41
def k_M_call_169 (QR : Option qA → qS → Prop) (H : Nat → qP) : qP :=
  o_al 0 <| o_il 1 <| o_c (.inl 3) <| o_bid z_rem <| o_il 4 <| o_ll 5 <| oc_M_does <| k_M_call_180 QR H
def k_M_call_160 (QR : Option qA → qS → Prop) (H : Nat → qP) : qP :=
  o_al 0 <| o_il 4 <| oc_M_compute <| k_M_call_180 QR H
def k_M_call_153 (QR : Option qA → qS → Prop) (H : Nat → qP) : qP :=
  o_il 4 <| o_c (.inl 11) <| o_i2 (fun a b => b < a) (k_M_call_169 QR H) (k_M_call_160 QR H)
def k_M_call_146 (QR : Option qA → qS → Prop) (H : Nat → qP) : qP :=
  o_il 4 <| o_c (.inl 6) <| o_i2 (fun a b => a < b) (k_M_call_169 QR H) (k_M_call_153 QR H)
def k_M_call_142 (QR : Option qA → qS → Prop) (H : Nat → qP) : qP :=
  o_is 2 <| k_M_call_180 QR H
def k_M_call_141 (QR : Option qA → qS → Prop) (H : Nat → qP) : qP :=
  o_il 2 <| k_M_call_142 QR H
def k_M_call_135 (QR : Option qA → qS → Prop) (H : Nat → qP) : qP :=
  o_ll 5 <| o_l2i <| k_M_call_142 QR H
def k_M_call_126 (QR : Option qA → qS → Prop) (H : Nat → qP) : qP :=
  o_al 0 <| oc_M_pop <| o_c (.inr (.inl 0)) <| o_l2 (fun a b => ¬ a = b) (k_M_call_141 QR H) (k_M_call_135 QR H)
def k_M_call_119 (QR : Option qA → qS → Prop) (H : Nat → qP) : qP :=
  o_il 4 <| o_c (.inl 16) <| o_i2 (fun a b => ¬ a = b) (k_M_call_146 QR H) (k_M_call_126 QR H)
def k_M_call_112 (QR : Option qA → qS → Prop) (H : Nat → qP) : qP :=
  o_ll 5 <| o_l2i <| o_is 2 <| k_M_call_180 QR H
def k_M_call_105 (QR : Option qA → qS → Prop) (H : Nat → qP) : qP :=
  o_il 4 <| o_c (.inl 15) <| o_i2 (fun a b => ¬ a = b) (k_M_call_119 QR H) (k_M_call_112 QR H)
def k_M_call_103 (QR : Option qA → qS → Prop) (H : Nat → qP) : qP :=
  o_c (.inl 1) <| o_rz QR
def k_M_call_64 (QR : Option qA → qS → Prop) (H : Nat → qP) : qP :=
  o_inc 3 (-1) <| o_al 0 <| o_gA 900 6 <| o_il 1 <| o_c (.inl 40) <| o_bi z_mul <| o_il 2 <| o_bi z_add <| o_iak 6 960 <| o_is 4 <| o_al 0 <| o_gA 900 7 <| o_il 1 <| o_c (.inl 40) <| o_bi z_mul <| o_il 2 <| o_bi z_add <| o_jak 7 960 <| o_ls 5 <| o_inc 2 1 <| o_il 4 <| o_c (.inl 18) <| o_i2 (fun a b => ¬ a = b) (k_M_call_105 QR H) (k_M_call_103 QR H)
def k_M_call_62 (QR : Option qA → qS → Prop) (H : Nat → qP) : qP :=
  o_c (.inl 0) <| o_rz QR
def k_M_call_58 (QR : Option qA → qS → Prop) (H : Nat → qP) : qP :=
  o_il 3 <| o_if (fun a => ¬ a = 0) (k_M_call_64 QR H) (k_M_call_62 QR H)
def k_M_call_48 (QR : Option qA → qS → Prop) (H : Nat → qP) : qP :=
  o_il 2 <| o_al 0 <| o_gA 900 8 <| o_il 1 <| o_iak 8 24 <| o_i2 (fun a b => b ≤ a) (k_M_call_183 QR H) (k_M_call_58 QR H)
def k_M_call_41 (QR : Option qA → qS → Prop) (H : Nat → qP) : qP :=
  o_al 0 <| o_gZ 900 21 <| o_if (fun a => ¬ a = 0) (k_M_call_183 QR H) (k_M_call_48 QR H)
def k_M_call_35 (QR : Option qA → qS → Prop) (H : Nat → qP) : qP :=
  o_c (.inl 0) <| o_is 2 <| o_c (.inl 400) <| o_is 3 <| H 41
def k_M_call_22 (QR : Option qA → qS → Prop) (H : Nat → qP) : qP :=
  o_al 0 <| o_gA 900 17 <| o_il 2 <| o_c (.inr (.inl 0)) <| o_jsk 17 4 <| o_inc 2 1 <| H 17
def k_M_call_17 (QR : Option qA → qS → Prop) (H : Nat → qP) : qP :=
  o_il 2 <| o_c (.inl 4) <| o_i2 (fun a b => b ≤ a) (k_M_call_35 QR H) (k_M_call_22 QR H)
def k_M_call_0 (QR : Option qA → qS → Prop) (H : Nat → qP) : qP :=
  o_al 0 <| o_c (.inl 0) <| o_pI 900 16 <| o_al 0 <| o_c (.inl 0) <| o_pI 900 20 <| o_al 0 <| o_c (.inl 0) <| o_pZ 900 21 <| o_c (.inl 0) <| o_is 2 <| H 17
set_option maxRecDepth 8000 in
theorem s_M_call_195 {l : Launch} {ad : Nat → Nat} {D : va_G} {cA : Nat → ClassId} {WW : Nat → qP} {QR : Option qA → qS → Prop} (S : qSnd l rm_M_call ad D cA R_M b_M_call 7 WW) (Q : qRet (some .boolean) b_M_call WW QR) : qle (k_M_call_195 QR WW) WW 195 :=
  Q.2.1 rfl _ d_M_call_195
set_option maxRecDepth 8000 in
theorem s_M_call_194 {l : Launch} {ad : Nat → Nat} {D : va_G} {cA : Nat → ClassId} {WW : Nat → qP} {QR : Option qA → qS → Prop} (S : qSnd l rm_M_call ad D cA R_M b_M_call 7 WW) (Q : qRet (some .boolean) b_M_call WW QR) : qle (k_M_call_194 QR WW) WW 194 :=
  S.iconst d_M_call_194 (by decide) <| (s_M_call_195 S Q)
set_option maxRecDepth 8000 in
theorem s_M_call_190 {l : Launch} {ad : Nat → Nat} {D : va_G} {cA : Nat → ClassId} {WW : Nat → qP} {QR : Option qA → qS → Prop} (S : qSnd l rm_M_call ad D cA R_M b_M_call 7 WW) (Q : qRet (some .boolean) b_M_call WW QR) : qle (k_M_call_190 QR WW) WW 190 :=
  S.iconst d_M_call_190 (by decide) <| S.goto d_M_call_191 (by decide) (s_M_call_195 S Q)
set_option maxRecDepth 8000 in
theorem s_M_call_183 {l : Launch} {ad : Nat → Nat} {D : va_G} {cA : Nat → ClassId} {WW : Nat → qP} {QR : Option qA → qS → Prop} (S : qSnd l rm_M_call ad D cA R_M b_M_call 7 WW) (Q : qRet (some .boolean) b_M_call WW QR) : qle (k_M_call_183 QR WW) WW 183 :=
  S.aload_n d_M_call_183 rfl <| S.gZ fl_M_211 (by decide) d_M_call_184 <| S.if_ne d_M_call_187 (by decide) (s_M_call_194 S Q) (s_M_call_190 S Q)
set_option maxRecDepth 8000 in
theorem s_M_call_180 {l : Launch} {ad : Nat → Nat} {D : va_G} {cA : Nat → ClassId} {WW : Nat → qP} {QR : Option qA → qS → Prop} (S : qSnd l rm_M_call ad D cA R_M b_M_call 7 WW) (Q : qRet (some .boolean) b_M_call WW QR) : qle (k_M_call_180 QR WW) WW 180 :=
  S.goto d_M_call_180 (by decide) (fun _ _ _ h => h)
set_option maxRecDepth 8000 in
theorem s_M_call_169 {l : Launch} {ad : Nat → Nat} {D : va_G} {cA : Nat → ClassId} {WW : Nat → qP} {QR : Option qA → qS → Prop} (S : qSnd l rm_M_call ad D cA R_M b_M_call 7 WW) (Q : qRet (some .boolean) b_M_call WW QR) : qle (k_M_call_169 QR WW) WW 169 :=
  S.aload_n d_M_call_169 rfl <| S.iload_n d_M_call_170 rfl <| S.iconst d_M_call_171 (by decide) <| S.irem d_M_call_172 <| S.iload d_M_call_173 <| S.lload d_M_call_175 <| sc_M_226 S (by decide) d_M_call_177 <| (s_M_call_180 S Q)
set_option maxRecDepth 8000 in
theorem s_M_call_160 {l : Launch} {ad : Nat → Nat} {D : va_G} {cA : Nat → ClassId} {WW : Nat → qP} {QR : Option qA → qS → Prop} (S : qSnd l rm_M_call ad D cA R_M b_M_call 7 WW) (Q : qRet (some .boolean) b_M_call WW QR) : qle (k_M_call_160 QR WW) WW 160 :=
  S.aload_n d_M_call_160 rfl <| S.iload d_M_call_161 <| sc_M_222 S (by decide) d_M_call_163 <| S.goto d_M_call_166 (by decide) (s_M_call_180 S Q)
set_option maxRecDepth 8000 in
theorem s_M_call_153 {l : Launch} {ad : Nat → Nat} {D : va_G} {cA : Nat → ClassId} {WW : Nat → qP} {QR : Option qA → qS → Prop} (S : qSnd l rm_M_call ad D cA R_M b_M_call 7 WW) (Q : qRet (some .boolean) b_M_call WW QR) : qle (k_M_call_153 QR WW) WW 153 :=
  S.iload d_M_call_153 <| S.bipush d_M_call_155 (by decide) <| S.icmp_gt d_M_call_157 (by decide) (s_M_call_169 S Q) (s_M_call_160 S Q)
set_option maxRecDepth 8000 in
theorem s_M_call_146 {l : Launch} {ad : Nat → Nat} {D : va_G} {cA : Nat → ClassId} {WW : Nat → qP} {QR : Option qA → qS → Prop} (S : qSnd l rm_M_call ad D cA R_M b_M_call 7 WW) (Q : qRet (some .boolean) b_M_call WW QR) : qle (k_M_call_146 QR WW) WW 146 :=
  S.iload d_M_call_146 <| S.bipush d_M_call_148 (by decide) <| S.icmp_lt d_M_call_150 (by decide) (s_M_call_169 S Q) (s_M_call_153 S Q)
set_option maxRecDepth 8000 in
theorem s_M_call_142 {l : Launch} {ad : Nat → Nat} {D : va_G} {cA : Nat → ClassId} {WW : Nat → qP} {QR : Option qA → qS → Prop} (S : qSnd l rm_M_call ad D cA R_M b_M_call 7 WW) (Q : qRet (some .boolean) b_M_call WW QR) : qle (k_M_call_142 QR WW) WW 142 :=
  S.istore_n d_M_call_142 rfl (by decide) <| S.goto d_M_call_143 (by decide) (s_M_call_180 S Q)
set_option maxRecDepth 8000 in
theorem s_M_call_141 {l : Launch} {ad : Nat → Nat} {D : va_G} {cA : Nat → ClassId} {WW : Nat → qP} {QR : Option qA → qS → Prop} (S : qSnd l rm_M_call ad D cA R_M b_M_call 7 WW) (Q : qRet (some .boolean) b_M_call WW QR) : qle (k_M_call_141 QR WW) WW 141 :=
  S.iload_n d_M_call_141 rfl <| (s_M_call_142 S Q)
set_option maxRecDepth 8000 in
theorem s_M_call_135 {l : Launch} {ad : Nat → Nat} {D : va_G} {cA : Nat → ClassId} {WW : Nat → qP} {QR : Option qA → qS → Prop} (S : qSnd l rm_M_call ad D cA R_M b_M_call 7 WW) (Q : qRet (some .boolean) b_M_call WW QR) : qle (k_M_call_135 QR WW) WW 135 :=
  S.lload d_M_call_135 <| S.l2i d_M_call_137 <| S.goto d_M_call_138 (by decide) (s_M_call_142 S Q)
set_option maxRecDepth 8000 in
theorem s_M_call_126 {l : Launch} {ad : Nat → Nat} {D : va_G} {cA : Nat → ClassId} {WW : Nat → qP} {QR : Option qA → qS → Prop} (S : qSnd l rm_M_call ad D cA R_M b_M_call 7 WW) (Q : qRet (some .boolean) b_M_call WW QR) : qle (k_M_call_126 QR WW) WW 126 :=
  S.aload_n d_M_call_126 rfl <| sc_M_218 S (by decide) d_M_call_127 <| S.lconst d_M_call_130 (by decide) <| S.lcmp_ne d_M_call_131 d_M_call_132 (by decide) (s_M_call_141 S Q) (s_M_call_135 S Q)
set_option maxRecDepth 8000 in
theorem s_M_call_119 {l : Launch} {ad : Nat → Nat} {D : va_G} {cA : Nat → ClassId} {WW : Nat → qP} {QR : Option qA → qS → Prop} (S : qSnd l rm_M_call ad D cA R_M b_M_call 7 WW) (Q : qRet (some .boolean) b_M_call WW QR) : qle (k_M_call_119 QR WW) WW 119 :=
  S.iload d_M_call_119 <| S.bipush d_M_call_121 (by decide) <| S.icmp_ne d_M_call_123 (by decide) (s_M_call_146 S Q) (s_M_call_126 S Q)
set_option maxRecDepth 8000 in
theorem s_M_call_112 {l : Launch} {ad : Nat → Nat} {D : va_G} {cA : Nat → ClassId} {WW : Nat → qP} {QR : Option qA → qS → Prop} (S : qSnd l rm_M_call ad D cA R_M b_M_call 7 WW) (Q : qRet (some .boolean) b_M_call WW QR) : qle (k_M_call_112 QR WW) WW 112 :=
  S.lload d_M_call_112 <| S.l2i d_M_call_114 <| S.istore_n d_M_call_115 rfl (by decide) <| S.goto d_M_call_116 (by decide) (s_M_call_180 S Q)
set_option maxRecDepth 8000 in
theorem s_M_call_105 {l : Launch} {ad : Nat → Nat} {D : va_G} {cA : Nat → ClassId} {WW : Nat → qP} {QR : Option qA → qS → Prop} (S : qSnd l rm_M_call ad D cA R_M b_M_call 7 WW) (Q : qRet (some .boolean) b_M_call WW QR) : qle (k_M_call_105 QR WW) WW 105 :=
  S.iload d_M_call_105 <| S.bipush d_M_call_107 (by decide) <| S.icmp_ne d_M_call_109 (by decide) (s_M_call_119 S Q) (s_M_call_112 S Q)
set_option maxRecDepth 8000 in
theorem s_M_call_103 {l : Launch} {ad : Nat → Nat} {D : va_G} {cA : Nat → ClassId} {WW : Nat → qP} {QR : Option qA → qS → Prop} (S : qSnd l rm_M_call ad D cA R_M b_M_call 7 WW) (Q : qRet (some .boolean) b_M_call WW QR) : qle (k_M_call_103 QR WW) WW 103 :=
  S.iconst d_M_call_103 (by decide) <| Q.2.1 rfl _ d_M_call_104
set_option maxRecDepth 8000 in
theorem s_M_call_64 {l : Launch} {ad : Nat → Nat} {D : va_G} {cA : Nat → ClassId} {WW : Nat → qP} {QR : Option qA → qS → Prop} (S : qSnd l rm_M_call ad D cA R_M b_M_call 7 WW) (Q : qRet (some .boolean) b_M_call WW QR) : qle (k_M_call_64 QR WW) WW 64 :=
  S.iinc d_M_call_64 (by decide) <| S.aload_n d_M_call_67 rfl <| S.gA fl_M_26 (by decide) d_M_call_68 <| S.iload_n d_M_call_71 rfl <| S.bipush d_M_call_72 (by decide) <| S.imul d_M_call_74 <| S.iload_n d_M_call_75 rfl <| S.iadd d_M_call_76 <| S.iak (by decide) d_M_call_77 <| S.istore d_M_call_78 (by decide) <| S.aload_n d_M_call_80 rfl <| S.gA fl_M_29 (by decide) d_M_call_81 <| S.iload_n d_M_call_84 rfl <| S.bipush d_M_call_85 (by decide) <| S.imul d_M_call_87 <| S.iload_n d_M_call_88 rfl <| S.iadd d_M_call_89 <| S.jak (by decide) d_M_call_90 <| S.lstore d_M_call_91 (by decide) <| S.iinc d_M_call_93 (by decide) <| S.iload d_M_call_96 <| S.bipush d_M_call_98 (by decide) <| S.icmp_ne d_M_call_100 (by decide) (s_M_call_105 S Q) (s_M_call_103 S Q)
set_option maxRecDepth 8000 in
theorem s_M_call_62 {l : Launch} {ad : Nat → Nat} {D : va_G} {cA : Nat → ClassId} {WW : Nat → qP} {QR : Option qA → qS → Prop} (S : qSnd l rm_M_call ad D cA R_M b_M_call 7 WW) (Q : qRet (some .boolean) b_M_call WW QR) : qle (k_M_call_62 QR WW) WW 62 :=
  S.iconst d_M_call_62 (by decide) <| Q.2.1 rfl _ d_M_call_63
set_option maxRecDepth 8000 in
theorem s_M_call_58 {l : Launch} {ad : Nat → Nat} {D : va_G} {cA : Nat → ClassId} {WW : Nat → qP} {QR : Option qA → qS → Prop} (S : qSnd l rm_M_call ad D cA R_M b_M_call 7 WW) (Q : qRet (some .boolean) b_M_call WW QR) : qle (k_M_call_58 QR WW) WW 58 :=
  S.iload_n d_M_call_58 rfl <| S.if_ne d_M_call_59 (by decide) (s_M_call_64 S Q) (s_M_call_62 S Q)
set_option maxRecDepth 8000 in
theorem s_M_call_48 {l : Launch} {ad : Nat → Nat} {D : va_G} {cA : Nat → ClassId} {WW : Nat → qP} {QR : Option qA → qS → Prop} (S : qSnd l rm_M_call ad D cA R_M b_M_call 7 WW) (Q : qRet (some .boolean) b_M_call WW QR) : qle (k_M_call_48 QR WW) WW 48 :=
  S.iload_n d_M_call_48 rfl <| S.aload_n d_M_call_49 rfl <| S.gA fl_M_32 (by decide) d_M_call_50 <| S.iload_n d_M_call_53 rfl <| S.iak (by decide) d_M_call_54 <| S.icmp_ge d_M_call_55 (by decide) (s_M_call_183 S Q) (s_M_call_58 S Q)
set_option maxRecDepth 8000 in
theorem s_M_call_41 {l : Launch} {ad : Nat → Nat} {D : va_G} {cA : Nat → ClassId} {WW : Nat → qP} {QR : Option qA → qS → Prop} (S : qSnd l rm_M_call ad D cA R_M b_M_call 7 WW) (Q : qRet (some .boolean) b_M_call WW QR) : qle (k_M_call_41 QR WW) WW 41 :=
  S.aload_n d_M_call_41 rfl <| S.gZ fl_M_211 (by decide) d_M_call_42 <| S.if_ne d_M_call_45 (by decide) (s_M_call_183 S Q) (s_M_call_48 S Q)
set_option maxRecDepth 8000 in
theorem s_M_call_35 {l : Launch} {ad : Nat → Nat} {D : va_G} {cA : Nat → ClassId} {WW : Nat → qP} {QR : Option qA → qS → Prop} (S : qSnd l rm_M_call ad D cA R_M b_M_call 7 WW) (Q : qRet (some .boolean) b_M_call WW QR) : qle (k_M_call_35 QR WW) WW 35 :=
  S.iconst d_M_call_35 (by decide) <| S.istore_n d_M_call_36 rfl (by decide) <| S.sipush d_M_call_37 (by decide) <| S.istore_n d_M_call_40 rfl (by decide) <| (fun _ _ _ h => h)
set_option maxRecDepth 8000 in
theorem s_M_call_22 {l : Launch} {ad : Nat → Nat} {D : va_G} {cA : Nat → ClassId} {WW : Nat → qP} {QR : Option qA → qS → Prop} (S : qSnd l rm_M_call ad D cA R_M b_M_call 7 WW) (Q : qRet (some .boolean) b_M_call WW QR) : qle (k_M_call_22 QR WW) WW 22 :=
  S.aload_n d_M_call_22 rfl <| S.gA fl_M_54 (by decide) d_M_call_23 <| S.iload_n d_M_call_26 rfl <| S.lconst d_M_call_27 (by decide) <| S.jsk (by decide) d_M_call_28 <| S.iinc d_M_call_29 (by decide) <| S.goto d_M_call_32 (by decide) (fun _ _ _ h => h)
set_option maxRecDepth 8000 in
theorem s_M_call_17 {l : Launch} {ad : Nat → Nat} {D : va_G} {cA : Nat → ClassId} {WW : Nat → qP} {QR : Option qA → qS → Prop} (S : qSnd l rm_M_call ad D cA R_M b_M_call 7 WW) (Q : qRet (some .boolean) b_M_call WW QR) : qle (k_M_call_17 QR WW) WW 17 :=
  S.iload_n d_M_call_17 rfl <| S.iconst d_M_call_18 (by decide) <| S.icmp_ge d_M_call_19 (by decide) (s_M_call_35 S Q) (s_M_call_22 S Q)
set_option maxRecDepth 8000 in
theorem s_M_call_0 {l : Launch} {ad : Nat → Nat} {D : va_G} {cA : Nat → ClassId} {WW : Nat → qP} {QR : Option qA → qS → Prop} (S : qSnd l rm_M_call ad D cA R_M b_M_call 7 WW) (Q : qRet (some .boolean) b_M_call WW QR) : qle (k_M_call_0 QR WW) WW 0 :=
  S.aload_n d_M_call_0 rfl <| S.iconst d_M_call_1 (by decide) <| S.pI fl_M_207 (by decide) (by decide +kernel) d_M_call_2 <| S.aload_n d_M_call_5 rfl <| S.iconst d_M_call_6 (by decide) <| S.pI fl_M_215 (by decide) (by decide +kernel) d_M_call_7 <| S.aload_n d_M_call_10 rfl <| S.iconst d_M_call_11 (by decide) <| S.pZ fl_M_211 (by decide) (by decide +kernel) d_M_call_12 <| S.iconst d_M_call_15 (by decide) <| S.istore_n d_M_call_16 rfl (by decide) <| (fun _ _ _ h => h)
theorem mdoes_nx {what key to : Int} {val : Int → Int} {o a : Int} {l : List Int} {c : Int → Int} {nx : Int} {em : List (Int × Int)} {x : List Int × (Int → Int) × Int × List (Int × Int)} (h : mdoes what key to val o a l c nx em = some x) : x.2.2.1 = nx ∨ (x.2.2.1 = nx + 1 ∧ nx ≠ to) := by
  unfold mdoes at h
  repeat' split at h
  all_goals first | (cases h; done) | (cases h; exact Or.inl rfl) | (cases h; exact Or.inr ⟨rfl, by assumption⟩)
theorem rowok_keep {σ σ' : qS} (h : rowok σ) (h1 : σ' 23 = σ 23) (h2 : σ' 25 = σ 25) : rowok σ' := by unfold rowok; rw [h1, h2]; exact h
theorem crow_keep {σ σ' : qS} (h : rowok σ) (hF : F_mac σ σ') : crow σ' = crow σ := by
  unfold crow
  rw [hF 23 (by decide)]
  rcases h with ⟨e, -⟩ | ⟨e, -⟩ <;> rw [e]
  · exact hF _ (by decide)
  · exact hF _ (by decide)
def callres (res : Option (List (Int × Int))) (r : Int) (σ' : qS) : Prop := match res with
  | none => r = 0
  | some em => r = 1 ∧ Em σ' em
theorem v_M_call_41 {l : Launch} {ad : Nat → Nat} {D : va_G} {cA : Nat → ClassId} {WW : Nat → qP} {QR : Option qA → qS → Prop} (S : qSnd l rm_M_call ad D cA R_M b_M_call 7 WW) (Q : qRet (some .boolean) b_M_call WW QR) (p : Int) (σ0 : qS) (h0 : P_M_call p σ0) (res : Option (List (Int × Int))) (hq : ∀ (r : Int) σ', F_mac σ0 σ' → callres res r σ' → QR (some (.inl r)) σ') :
    ∀ (n : Nat) (at_ : Int) (σ : qS), n ≤ 400 → F_mac σ0 σ → (0 ≤ at_ ∧ at_ ≤ σ0 8 p) → (σ 21 0 = 1 ∧ res = none ∨ ∃ l c nx em, σ 21 0 = 0 ∧ MR σ l c nx em ∧ (σ0 24 0 ≤ nx ∧ nx ≤ σ0 25 0) ∧ res = mrun (fun i => σ0 6 (p * 40 + i)) (fun i => σ0 7 (p * 40 + i)) (σ0 8 p) (p % 3) (σ0 22 0) (σ0 25 0) (crow σ0) n at_ l c nx em) →
      WW 41 [] [some (.inr (.inr 900)), some (.inl p), some (.inl at_), some (.inl n), none, none, none] σ := by
  obtain ⟨⟨hp, hlen, hprog⟩, hrow, hft⟩ := h0
  have common : ∀ (σ : qS), F_mac σ0 σ → σ 21 0 = 1 ∧ res = none → (σ 21 0 = 0 ∨ σ 21 0 = 1) → (¬ σ 21 0 = 0 → QR (some (.inl 0)) σ) ∧ (σ 21 0 = 0 → QR (some (.inl 1)) σ) := by
    intro σ hF hc _
    exact ⟨fun _ => hq 0 σ hF (by rw [hc.2]; rfl), fun h => by omega⟩
  intro n
  induction n with
  | zero =>
    intro at_ σ hn hF hat hc
    refine s_M_call_41 S Q _ _ _ ?_
    simp only [k_M_call_0, k_M_call_17, k_M_call_22, k_M_call_35, k_M_call_41, k_M_call_48, k_M_call_58, k_M_call_62, k_M_call_64, k_M_call_103, k_M_call_105, k_M_call_112, k_M_call_119, k_M_call_126, k_M_call_135, k_M_call_141, k_M_call_142, k_M_call_146, k_M_call_153, k_M_call_160, k_M_call_169, k_M_call_180, k_M_call_183, k_M_call_190, k_M_call_194, k_M_call_195, oc_M_compute, oc_M_does, oc_M_pop, o_c, o_il, o_ll, o_al, o_is, o_as, o_ls, o_inc, o_bi, o_bid, o_bl, o_bld, o_sl, o_i2l, o_l2i, o_dup, o_dup2, o_pop, o_pop2, o_if, o_i2, o_l2, swg, o_sw, o_gI, o_gZ, o_gJ, o_gA, o_gR, o_pI, o_pZ, o_pJ, o_pR, o_ia, o_iak, o_zak, o_ja, o_jak, o_is_, o_isk, o_zsk, o_js_, o_jsk, o_len, o_ri, o_rz, o_rl, o_rv, ls1, ls2, lks, lkj, List.getD_cons_zero, List.getD_cons_succ, List.set_cons_zero, List.set_cons_succ, qcat, true_and, and_true, List.map_nil, List.map_cons, List.sum_nil, List.sum_cons, Nat.reduceAdd, Nat.reduceLeDiff, Nat.zero_le, Int.reduceAdd, Int.reduceNeg, Int.reduceEq, or_true, true_or, Decidable.not_not]
    have eL : σ 8 = σ0 8 := hF _ (by decide)
    intro htr
    rcases hc with hc | ⟨l, c, nx, em, ht0, hm, hnx, hres⟩
    · exact ⟨fun _ => common σ hF hc, fun h => by omega⟩
    · refine ⟨fun h => absurd ht0 h, fun _ => ⟨hp, fun hle _ => ⟨fun h => absurd ht0 h, fun _ => hq 1 σ hF ?_⟩, fun hle => ⟨fun h => absurd rfl h, fun _ => hq 0 σ hF ?_⟩⟩⟩
      · rw [eL] at hle
        rw [hres, mrun, if_pos hle]; exact ⟨rfl, hm.2.2.2⟩
      · rw [eL] at hle
        rw [hres, mrun, if_neg hle]; rfl
  | succ n ih =>
    intro at_ σ hn hF hat hc
    refine s_M_call_41 S Q _ _ _ ?_
    simp only [k_M_call_0, k_M_call_17, k_M_call_22, k_M_call_35, k_M_call_41, k_M_call_48, k_M_call_58, k_M_call_62, k_M_call_64, k_M_call_103, k_M_call_105, k_M_call_112, k_M_call_119, k_M_call_126, k_M_call_135, k_M_call_141, k_M_call_142, k_M_call_146, k_M_call_153, k_M_call_160, k_M_call_169, k_M_call_180, k_M_call_183, k_M_call_190, k_M_call_194, k_M_call_195, oc_M_compute, oc_M_does, oc_M_pop, o_c, o_il, o_ll, o_al, o_is, o_as, o_ls, o_inc, o_bi, o_bid, o_bl, o_bld, o_sl, o_i2l, o_l2i, o_dup, o_dup2, o_pop, o_pop2, o_if, o_i2, o_l2, swg, o_sw, o_gI, o_gZ, o_gJ, o_gA, o_gR, o_pI, o_pZ, o_pJ, o_pR, o_ia, o_iak, o_zak, o_ja, o_jak, o_is_, o_isk, o_zsk, o_js_, o_jsk, o_len, o_ri, o_rz, o_rl, o_rv, ls1, ls2, lks, lkj, List.getD_cons_zero, List.getD_cons_succ, List.set_cons_zero, List.set_cons_succ, qcat, true_and, and_true, List.map_nil, List.map_cons, List.sum_nil, List.sum_cons, Nat.reduceAdd, Nat.reduceLeDiff, Nat.zero_le, Int.reduceAdd, Int.reduceNeg, Int.reduceEq, or_true, true_or, Decidable.not_not]
    have eL : σ 8 = σ0 8 := hF _ (by decide)
    have eO : σ 6 = σ0 6 := hF _ (by decide)
    have eA : σ 7 = σ0 7 := hF _ (by decide)
    intro htr
    rcases hc with hc | ⟨l, c, nx, em, ht0, hm, hnx, hres⟩
    · exact ⟨fun _ => common σ hF hc, fun h => by omega⟩
    · have ez : z_add (z_mul p 40) at_ = p * 40 + at_ := by unfold z_add z_mul; rw [w32_i (p * 40) (by omega) (by omega), w32_i _ (by omega) (by omega)]
      have en : w32 (((n + 1 : Nat) : Int) + -1) = (n : Int) := by rw [w32_i _ (by omega) (by omega)]; omega
      have ea : w32 (at_ + 1) = at_ + 1 := w32_i _ (by omega) (by omega)
      have e3 : z_rem p 3 = p % 3 := by unfold z_rem; rw [Int.tmod_eq_emod_of_nonneg hp.1]
      rw [ez, en, ea, e3, eO, eA, eL]
      have hP := Stk_p hm.1
      have hrow' : rowok σ := rowok_keep hrow (hF _ (by decide)) (hF _ (by decide))
      have hto : σ 25 = σ0 25 := hF _ (by decide)
      have hkey : σ 22 = σ0 22 := hF _ (by decide)
      have hcr : crow σ = crow σ0 := crow_keep hrow hF
      have hft' : 0 ≤ σ 24 0 ∧ σ 24 0 ≤ σ 25 0 := by rw [hm.2.2.1, hto]; omega
      refine ⟨fun h => absurd ht0 h, fun _ => ⟨hp, fun hle _ => ⟨fun h => absurd ht0 h, fun _ => hq 1 σ hF ?_⟩, fun hle => ⟨fun _ => ⟨by omega, by omega, fun n18 => ⟨fun n15 => ⟨fun n16 => ?_, fun e16 => ?_⟩, fun e15 => ?_⟩, fun e18 => hq 1 σ hF ?_⟩, fun h => by omega⟩⟩⟩
      · rw [hres, mrun_s, if_pos hle]; exact ⟨rfl, hm.2.2.2⟩
      · obtain ⟨g1, g2, g3⟩ := hprog at_ hat.1 (by omega)
        rw [mrun_s, if_neg hle, if_neg n18, if_neg n15, if_neg n16] at hres
        have does : ¬ (6 ≤ σ0 6 (p * 40 + at_) ∧ σ0 6 (p * 40 + at_) ≤ 11) → (3 : Int) ≠ 0 ∧ P_M_does (p % 3) (σ0 6 (p * 40 + at_)) (σ0 7 (p * 40 + at_)) σ ∧ ∀ (σ' : qS), Q_M_does (p % 3) (σ0 6 (p * 40 + at_)) (σ0 7 (p * 40 + at_)) σ σ' →
            WW 41 [] [some (.inr (.inr 900)), some (.inl p), some (.inl (at_ + 1)), some (.inl (n : Int)), some (.inl (σ0 6 (p * 40 + at_))), some (.inr (.inl (σ0 7 (p * 40 + at_)))), none] σ' := by
          intro hno
          rw [if_neg hno] at hres
          refine ⟨by omega, ⟨⟨g1.1, by omega, by omega, g2⟩, hrow', hft', ht0, l, c, nx, em, hm⟩, fun σ' hd => ?_⟩
          obtain ⟨d1, d2⟩ := hd
          have d2 := d2 l c nx em hm
          rw [hkey, hto, hcr] at d2
          refine S.fg (ls' := [some (.inr (.inr 900)), some (.inl p), some (.inl (at_ + 1)), some (.inl (n : Int)), none, none, none]) ⟨rfl, rfl, rfl, rfl, trivial⟩ (ih (at_ + 1) σ' (by omega) (hF.tr d1) (by omega) ?_)
          cases hmd : mdoes (p % 3) (σ0 22 0) (σ0 25 0) (crow σ0) (σ0 6 (p * 40 + at_)) (σ0 7 (p * 40 + at_)) l c nx em with
          | none => rw [hmd] at d2 hres; exact Or.inl ⟨d2, hres⟩
          | some x =>
            rw [hmd] at d2 hres
            refine Or.inr ⟨x.1, x.2.1, x.2.2.1, x.2.2.2, d2.1, d2.2, ?_, hres⟩
            have hnx2 := mdoes_nx hmd
            omega
        refine ⟨fun h6 => does (by omega), fun h6 => ⟨fun h11 => does (by omega), fun h11 => ⟨⟨by omega, hP⟩, fun σ' hd => ?_⟩⟩⟩
        obtain ⟨d1, d2⟩ := hd
        obtain ⟨-, d2⟩ := d2 l hm.1
        rw [if_pos ⟨by omega, by omega⟩] at hres
        refine S.fg (ls' := [some (.inr (.inr 900)), some (.inl p), some (.inl (at_ + 1)), some (.inl (n : Int)), none, none, none]) ⟨rfl, rfl, rfl, rfl, trivial⟩ (ih (at_ + 1) σ' (by omega) (hF.tr d1.mac) (by omega) ?_)
        cases hmc : mcomp (σ0 6 (p * 40 + at_)) l with
        | none => rw [hmc] at d2 hres; exact Or.inl ⟨d2, hres⟩
        | some l2 =>
          rw [hmc] at d2 hres
          exact Or.inr ⟨l2, c, nx, em, by rw [d2.2, ht0], MR_stk hm d1 d2.1, hnx, hres⟩
      · obtain ⟨g1, g2, g3⟩ := hprog at_ hat.1 (by omega)
        have ga := g3 (Or.inr e16)
        rw [mrun_s, if_neg hle, if_neg n18, if_neg n15, if_pos e16] at hres
        rw [w32_i (σ0 7 (p * 40 + at_)) (by omega) (by omega)]
        refine ⟨hP, fun r σ' pp => ?_⟩
        cases l with
        | nil =>
          obtain ⟨k1, k2, k3⟩ := pop_no pp hm.1
          refine ⟨fun _ => ?_, fun _ => ?_⟩
          · exact S.fg (ls' := [some (.inr (.inr 900)), some (.inl p), some (.inl (at_ + 1)), some (.inl (n : Int)), none, none, none]) ⟨rfl, rfl, rfl, rfl, trivial⟩ (ih (at_ + 1) σ' (by omega) (hF.tr k3.mac) (by omega) (Or.inl ⟨k2, hres⟩))
          · exact S.fg (ls' := [some (.inr (.inr 900)), some (.inl p), some (.inl (σ0 7 (p * 40 + at_))), some (.inl (n : Int)), none, none, none]) ⟨rfl, rfl, rfl, rfl, trivial⟩ (ih (σ0 7 (p * 40 + at_)) σ' (by omega) (hF.tr k3.mac) ga (Or.inl ⟨k2, hres⟩))
        | cons v t =>
          obtain ⟨k0, k1, k2, k3⟩ := pop_ok pp hm.1
          have hres : res = mrun (fun i => σ0 6 (p * 40 + i)) (fun i => σ0 7 (p * 40 + i)) (σ0 8 p) (p % 3) (σ0 22 0) (σ0 25 0) (crow σ0) n (if v = 0 then σ0 7 (p * 40 + at_) else at_ + 1) t c nx em := hres
          subst k0
          refine ⟨fun hr => ?_, fun hr => ?_⟩
          · rw [if_neg hr] at hres
            exact S.fg (ls' := [some (.inr (.inr 900)), some (.inl p), some (.inl (at_ + 1)), some (.inl (n : Int)), none, none, none]) ⟨rfl, rfl, rfl, rfl, trivial⟩ (ih (at_ + 1) σ' (by omega) (hF.tr k3.mac) (by omega) (Or.inr ⟨t, c, nx, em, by rw [k2, ht0], MR_stk hm k3 k1, hnx, hres⟩))
          · rw [if_pos hr] at hres
            exact S.fg (ls' := [some (.inr (.inr 900)), some (.inl p), some (.inl (σ0 7 (p * 40 + at_))), some (.inl (n : Int)), none, none, none]) ⟨rfl, rfl, rfl, rfl, trivial⟩ (ih (σ0 7 (p * 40 + at_)) σ' (by omega) (hF.tr k3.mac) ga (Or.inr ⟨t, c, nx, em, by rw [k2, ht0], MR_stk hm k3 k1, hnx, hres⟩))
      · obtain ⟨g1, g2, g3⟩ := hprog at_ hat.1 (by omega)
        have ga := g3 (Or.inl e15)
        rw [mrun_s, if_neg hle, if_neg n18, if_pos e15] at hres
        rw [w32_i (σ0 7 (p * 40 + at_)) (by omega) (by omega)]
        exact S.fg (ls' := [some (.inr (.inr 900)), some (.inl p), some (.inl (σ0 7 (p * 40 + at_))), some (.inl (n : Int)), none, none, none]) ⟨rfl, rfl, rfl, rfl, trivial⟩ (ih (σ0 7 (p * 40 + at_)) σ (by omega) hF ga (Or.inr ⟨l, c, nx, em, ht0, hm, hnx, hres⟩))
      · rw [hres, mrun_s, if_neg hle, if_pos e18]; exact ⟨rfl, hm.2.2.2⟩
theorem v_M_call_17 {l : Launch} {ad : Nat → Nat} {D : va_G} {cA : Nat → ClassId} {WW : Nat → qP} {QR : Option qA → qS → Prop} (S : qSnd l rm_M_call ad D cA R_M b_M_call 7 WW) (Q : qRet (some .boolean) b_M_call WW QR) (p : Int) (σ0 : qS) (h0 : P_M_call p σ0) (hq : ∀ (r : Int) σ', F_mac σ0 σ' → callres (scall σ0 p) r σ' → QR (some (.inl r)) σ') :
    ∀ (n k : Nat) (σ : qS), k + n = 4 → F_mac σ0 σ → σ 21 0 = 0 → σ 16 0 = 0 → σ 20 0 = 0 → σ 24 = σ0 24 → (∀ i : Int, 0 ≤ i → i < k → σ 17 i = 0) →
      WW 17 [] [some (.inr (.inr 900)), some (.inl p), some (.inl k), none, none, none, none] σ := by
  intro n
  induction n with
  | zero =>
    intro k σ hk hF h1 h2 h3 h4 hc
    refine s_M_call_17 S Q _ _ _ ?_
    simp only [k_M_call_0, k_M_call_17, k_M_call_22, k_M_call_35, k_M_call_41, k_M_call_48, k_M_call_58, k_M_call_62, k_M_call_64, k_M_call_103, k_M_call_105, k_M_call_112, k_M_call_119, k_M_call_126, k_M_call_135, k_M_call_141, k_M_call_142, k_M_call_146, k_M_call_153, k_M_call_160, k_M_call_169, k_M_call_180, k_M_call_183, k_M_call_190, k_M_call_194, k_M_call_195, oc_M_compute, oc_M_does, oc_M_pop, o_c, o_il, o_ll, o_al, o_is, o_as, o_ls, o_inc, o_bi, o_bid, o_bl, o_bld, o_sl, o_i2l, o_l2i, o_dup, o_dup2, o_pop, o_pop2, o_if, o_i2, o_l2, swg, o_sw, o_gI, o_gZ, o_gJ, o_gA, o_gR, o_pI, o_pZ, o_pJ, o_pR, o_ia, o_iak, o_zak, o_ja, o_jak, o_is_, o_isk, o_zsk, o_js_, o_jsk, o_len, o_ri, o_rz, o_rl, o_rv, ls1, ls2, lks, lkj, List.getD_cons_zero, List.getD_cons_succ, List.set_cons_zero, List.set_cons_succ, qcat, true_and, and_true, List.map_nil, List.map_cons, List.sum_nil, List.sum_cons, Nat.reduceAdd, Nat.reduceLeDiff, Nat.zero_le, Int.reduceAdd, Int.reduceNeg, Int.reduceEq, or_true, true_or, Decidable.not_not]
    refine ⟨fun _ => ?_, fun h => by omega⟩
    refine v_M_call_41 S Q p σ0 h0 (scall σ0 p) hq 400 0 σ (by omega) hF ⟨by omega, h0.1.2.1.1⟩ (Or.inr ⟨[], fun _ => 0, σ0 24 0, [], h1, ⟨⟨h2, by simp, trivial⟩, fun i i0 i1 => hc i i0 (by omega), by rw [h4], h3, by simp, fun i e he => by simp at he⟩, ⟨by omega, h0.2.2.2⟩, rfl⟩)
  | succ n ih =>
    intro k σ hk hF h1 h2 h3 h4 hc
    refine s_M_call_17 S Q _ _ _ ?_
    simp only [k_M_call_0, k_M_call_17, k_M_call_22, k_M_call_35, k_M_call_41, k_M_call_48, k_M_call_58, k_M_call_62, k_M_call_64, k_M_call_103, k_M_call_105, k_M_call_112, k_M_call_119, k_M_call_126, k_M_call_135, k_M_call_141, k_M_call_142, k_M_call_146, k_M_call_153, k_M_call_160, k_M_call_169, k_M_call_180, k_M_call_183, k_M_call_190, k_M_call_194, k_M_call_195, oc_M_compute, oc_M_does, oc_M_pop, o_c, o_il, o_ll, o_al, o_is, o_as, o_ls, o_inc, o_bi, o_bid, o_bl, o_bld, o_sl, o_i2l, o_l2i, o_dup, o_dup2, o_pop, o_pop2, o_if, o_i2, o_l2, swg, o_sw, o_gI, o_gZ, o_gJ, o_gA, o_gR, o_pI, o_pZ, o_pJ, o_pR, o_ia, o_iak, o_zak, o_ja, o_jak, o_is_, o_isk, o_zsk, o_js_, o_jsk, o_len, o_ri, o_rz, o_rl, o_rv, ls1, ls2, lks, lkj, List.getD_cons_zero, List.getD_cons_succ, List.set_cons_zero, List.set_cons_succ, qcat, true_and, and_true, List.map_nil, List.map_cons, List.sum_nil, List.sum_cons, Nat.reduceAdd, Nat.reduceLeDiff, Nat.zero_le, Int.reduceAdd, Int.reduceNeg, Int.reduceEq, or_true, true_or, Decidable.not_not]
    refine ⟨fun h => by omega, fun _ => ⟨by omega, ?_⟩⟩
    rw [w32_i _ (by omega) (by omega)]
    refine ih (k + 1) _ (by omega) (fun q hq' => ?_) ?_ ?_ ?_ ?_ (fun i i0 i1 => ?_)
    · rw [su_k (by intro e; subst e; exact hq' (by decide))]; exact hF q hq'
    · rw [su_k (by decide)]; exact h1
    · rw [su_k (by decide)]; exact h2
    · rw [su_k (by decide)]; exact h3
    · rw [su_k (by decide)]; exact h4
    · rw [su_e]; split
      · rfl
      · exact hc i i0 (by omega)
theorem w_M_call {l : Launch} {ad : Nat → Nat} {D : va_G} {cA : Nat → ClassId} {WW : Nat → qP} {QR : Option qA → qS → Prop} (S : qSnd l rm_M_call ad D cA R_M b_M_call 7 WW) (Q : qRet (some .boolean) b_M_call WW QR) (a1 : Int) (σ : qS) (ha1 : r32 a1) (hσ : qoS σ) (h : P_M_call a1 σ) (hq : ∀ (r : Int) σ', Q_M_call a1 σ r σ' → QR (some (.inl r)) σ') : WW 0 [] [some (.inr (.inr 900)), some (.inl a1), none, none, none, none, none] σ := by
  refine s_M_call_0 S Q _ _ _ ?_
  simp only [k_M_call_0, k_M_call_17, k_M_call_22, k_M_call_35, k_M_call_41, k_M_call_48, k_M_call_58, k_M_call_62, k_M_call_64, k_M_call_103, k_M_call_105, k_M_call_112, k_M_call_119, k_M_call_126, k_M_call_135, k_M_call_141, k_M_call_142, k_M_call_146, k_M_call_153, k_M_call_160, k_M_call_169, k_M_call_180, k_M_call_183, k_M_call_190, k_M_call_194, k_M_call_195, oc_M_compute, oc_M_does, oc_M_pop, o_c, o_il, o_ll, o_al, o_is, o_as, o_ls, o_inc, o_bi, o_bid, o_bl, o_bld, o_sl, o_i2l, o_l2i, o_dup, o_dup2, o_pop, o_pop2, o_if, o_i2, o_l2, swg, o_sw, o_gI, o_gZ, o_gJ, o_gA, o_gR, o_pI, o_pZ, o_pJ, o_pR, o_ia, o_iak, o_zak, o_ja, o_jak, o_is_, o_isk, o_zsk, o_js_, o_jsk, o_len, o_ri, o_rz, o_rl, o_rv, ls1, ls2, lks, lkj, List.getD_cons_zero, List.getD_cons_succ, List.set_cons_zero, List.set_cons_succ, qcat, true_and, and_true, List.map_nil, List.map_cons, List.sum_nil, List.sum_cons, Nat.reduceAdd, Nat.reduceLeDiff, Nat.zero_le, Int.reduceAdd, Int.reduceNeg, Int.reduceEq, or_true, true_or, Decidable.not_not]
  refine v_M_call_17 S Q a1 σ h (fun r σ' hF hr => hq r σ' ⟨hF, hr⟩) 4 0 _ rfl (fun q hk => ?_) su_s ?_ ?_ ?_ (fun i i0 i1 => by omega)
  · rw [su_k (by intro e; subst e; exact hk (by decide)), su_k (by intro e; subst e; exact hk (by decide)), su_k (by intro e; subst e; exact hk (by decide))]
  · simp (disch := omega) only [su_k, su_s, z_add, z_sub, z_mul, w32_i]
  · simp (disch := omega) only [su_k, su_s, z_add, z_sub, z_mul, w32_i]
  · simp (disch := omega) only [su_k, su_s, z_add, z_sub, z_mul, w32_i]
theorem c_M_call (l : Launch) (ad : Nat → Nat) (D : va_G) (cA : Nat → ClassId) : qC l ad D cA y_M_call (Cond.code y_M_call b_M_call 7 (some .boolean) :: lw_g) rm_M_call pre_M_call post_M_call := by
  refine qC_of (own := R_M) (by decide) rfl ⟨rfl, rfl⟩ ?_ ?_
  · intro av σ h; unfold pre_M_call at h; split at h
    · simp [qen]
    · exact h.elim
  · intro WW QR S Q av σ hav hσ h hq; unfold pre_M_call at h; split at h
    next o a1 =>
      obtain ⟨rfl, h⟩ := h
      exact w_M_call S Q a1 σ (hav _ (List.mem_of_getElem? (i := 1) rfl)) hσ h (fun r σ' h' => hq _ σ' h')
    next => exact h.elim

