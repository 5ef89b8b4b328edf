def wts1 (σ : qS) (j k : Int) : Prop := σ 9 k ≠ 0 ∧ (σ 12 k = σ 10 j ∨ σ 12 k = σ 11 j) ∧ ¬ chd σ k
def wts (σ : qS) (j : Int) : Prop := ∃ k, 0 ≤ k ∧ k < 8 ∧ wts1 σ j k
def P_M_waits (j : Int) (σ : qS) : Prop := (0 ≤ j ∧ j < 8) ∧ 0 ≤ σ 30 0 ∧ σ 30 0 ≤ 8
def Q_M_waits (j : Int) (σ : qS) (r : Int) (σ' : qS) : Prop := σ' = σ ∧ (r = 0 ∧ ¬ wts σ j ∨ r = 1 ∧ wts σ j)
def pre_M_waits (av : List qA) (σ : qS) : Prop := match av with
  | [.inr (.inr o), .inl a1] => o = 900 ∧ P_M_waits a1 σ
  | _ => False
def post_M_waits (av : List qA) (σ : qS) (r : Option qA) (σ' : qS) : Prop := match av, r with
  | [_, .inl a1], some (.inl r) => Q_M_waits a1 σ r σ'
  | _, _ => False
def oc_M_waits (K : qP) : qP := fun st ls σ => match st with
  | .inl a1 :: .inr (.inr o) :: st => o = 900 ∧ (st.map qcat).sum ≤ 8 ∧ P_M_waits a1 σ ∧ ∀ (r : Int) (σ' : qS), Q_M_waits a1 σ r σ' → K (.inl r :: st) ls σ'
  | _ => False
def rm_M_waits : Room := { frames := 0, cells := 0, slots := 0, locals := 0 }
theorem fl_M_35 : qF R_M 900 0 82 0 R_M F_M 35 9 := ⟨Or.inl ⟨rfl, rfl, rfl, rfl, rfl, rfl⟩, by decide, lw_at 87 (by decide +kernel) rfl⟩
def k_M_waits_103 (QR : Option qA → qS → Prop) (H : Nat → qP) : qP :=
  o_c (.inl 0) <| o_rz QR
def k_M_waits_97 (QR : Option qA → qS → Prop) (H : Nat → qP) : qP :=
  o_inc 2 1 <| H 2
def k_M_waits_95 (QR : Option qA → qS → Prop) (H : Nat → qP) : qP :=
  o_c (.inl 1) <| o_rz QR
def k_M_waits_91 (QR : Option qA → qS → Prop) (H : Nat → qP) : qP :=
  o_il 3 <| o_if (fun a => ¬ a = 0) (H 97) (k_M_waits_95 QR H)
def k_M_waits_84 (QR : Option qA → qS → Prop) (H : Nat → qP) : qP :=
  o_is 3 <| o_inc 4 1 <| H 55
def k_M_waits_83 (QR : Option qA → qS → Prop) (H : Nat → qP) : qP :=
  o_c (.inl 0) <| k_M_waits_84 QR H
def k_M_waits_79 (QR : Option qA → qS → Prop) (H : Nat → qP) : qP :=
  o_c (.inl 1) <| k_M_waits_84 QR H
def k_M_waits_68 (QR : Option qA → qS → Prop) (H : Nat → qP) : qP :=
  o_al 0 <| o_gA 900 29 <| o_il 4 <| o_iak 29 8 <| o_il 2 <| o_i2 (fun a b => ¬ a = b) (k_M_waits_83 QR H) (k_M_waits_79 QR H)
def k_M_waits_64 (QR : Option qA → qS → Prop) (H : Nat → qP) : qP :=
  o_il 3 <| o_if (fun a => ¬ a = 0) (k_M_waits_79 QR H) (k_M_waits_68 QR H)
def k_M_waits_55 (QR : Option qA → qS → Prop) (H : Nat → qP) : qP :=
  o_il 4 <| o_al 0 <| o_gI 900 30 <| o_i2 (fun a b => b ≤ a) (H 91) (k_M_waits_64 QR H)
def k_M_waits_50 (QR : Option qA → qS → Prop) (H : Nat → qP) : qP :=
  o_c (.inl 0) <| o_is 3 <| o_c (.inl 0) <| o_is 4 <| H 55
def k_M_waits_47 (QR : Option qA → qS → Prop) (H : Nat → qP) : qP :=
  H 97
def k_M_waits_32 (QR : Option qA → qS → Prop) (H : Nat → qP) : qP :=
  o_al 0 <| o_gA 900 12 <| o_il 2 <| o_iak 12 8 <| o_al 0 <| o_gA 900 11 <| o_il 1 <| o_iak 11 8 <| o_i2 (fun a b => a = b) (H 50) (k_M_waits_47 QR H)
def k_M_waits_17 (QR : Option qA → qS → Prop) (H : Nat → qP) : qP :=
  o_al 0 <| o_gA 900 12 <| o_il 2 <| o_iak 12 8 <| o_al 0 <| o_gA 900 10 <| o_il 1 <| o_iak 10 8 <| o_i2 (fun a b => a = b) (H 50) (k_M_waits_32 QR H)
def k_M_waits_8 (QR : Option qA → qS → Prop) (H : Nat → qP) : qP :=
  o_al 0 <| o_gA 900 9 <| o_il 2 <| o_zak 9 8 <| o_if (fun a => a = 0) (H 97) (k_M_waits_17 QR H)
def k_M_waits_2 (QR : Option qA → qS → Prop) (H : Nat → qP) : qP :=
  o_il 2 <| o_c (.inl 8) <| o_i2 (fun a b => b ≤ a) (k_M_waits_103 QR H) (k_M_waits_8 QR H)
def k_M_waits_0 (QR : Option qA → qS → Prop) (H : Nat → qP) : qP :=
  o_c (.inl 0) <| o_is 2 <| H 2
set_option maxRecDepth 8000 in
theorem s_M_waits_103 {l : Launch} {ad : Nat → Nat} {D : va_G} {cA : Nat → ClassId} {WW : Nat → qP} {QR : Option qA → qS → Prop} (S : qSnd l rm_M_waits ad D cA R_M b_M_waits 5 WW) (Q : qRet (some .boolean) b_M_waits WW QR) : qle (k_M_waits_103 QR WW) WW 103 :=
  S.iconst d_M_waits_103 (by decide) <| Q.2.1 rfl _ d_M_waits_104
set_option maxRecDepth 8000 in
theorem s_M_waits_97 {l : Launch} {ad : Nat → Nat} {D : va_G} {cA : Nat → ClassId} {WW : Nat → qP} {QR : Option qA → qS → Prop} (S : qSnd l rm_M_waits ad D cA R_M b_M_waits 5 WW) (Q : qRet (some .boolean) b_M_waits WW QR) : qle (k_M_waits_97 QR WW) WW 97 :=
  S.iinc d_M_waits_97 (by decide) <| S.goto d_M_waits_100 (by decide) (fun _ _ _ h => h)
set_option maxRecDepth 8000 in
theorem s_M_waits_95 {l : Launch} {ad : Nat → Nat} {D : va_G} {cA : Nat → ClassId} {WW : Nat → qP} {QR : Option qA → qS → Prop} (S : qSnd l rm_M_waits ad D cA R_M b_M_waits 5 WW) (Q : qRet (some .boolean) b_M_waits WW QR) : qle (k_M_waits_95 QR WW) WW 95 :=
  S.iconst d_M_waits_95 (by decide) <| Q.2.1 rfl _ d_M_waits_96
set_option maxRecDepth 8000 in
theorem s_M_waits_91 {l : Launch} {ad : Nat → Nat} {D : va_G} {cA : Nat → ClassId} {WW : Nat → qP} {QR : Option qA → qS → Prop} (S : qSnd l rm_M_waits ad D cA R_M b_M_waits 5 WW) (Q : qRet (some .boolean) b_M_waits WW QR) : qle (k_M_waits_91 QR WW) WW 91 :=
  S.iload_n d_M_waits_91 rfl <| S.if_ne d_M_waits_92 (by decide) (fun _ _ _ h => h) (s_M_waits_95 S Q)
set_option maxRecDepth 8000 in
theorem s_M_waits_84 {l : Launch} {ad : Nat → Nat} {D : va_G} {cA : Nat → ClassId} {WW : Nat → qP} {QR : Option qA → qS → Prop} (S : qSnd l rm_M_waits ad D cA R_M b_M_waits 5 WW) (Q : qRet (some .boolean) b_M_waits WW QR) : qle (k_M_waits_84 QR WW) WW 84 :=
  S.istore_n d_M_waits_84 rfl (by decide) <| S.iinc d_M_waits_85 (by decide) <| S.goto d_M_waits_88 (by decide) (fun _ _ _ h => h)
set_option maxRecDepth 8000 in
theorem s_M_waits_83 {l : Launch} {ad : Nat → Nat} {D : va_G} {cA : Nat → ClassId} {WW : Nat → qP} {QR : Option qA → qS → Prop} (S : qSnd l rm_M_waits ad D cA R_M b_M_waits 5 WW) (Q : qRet (some .boolean) b_M_waits WW QR) : qle (k_M_waits_83 QR WW) WW 83 :=
  S.iconst d_M_waits_83 (by decide) <| (s_M_waits_84 S Q)
set_option maxRecDepth 8000 in
theorem s_M_waits_79 {l : Launch} {ad : Nat → Nat} {D : va_G} {cA : Nat → ClassId} {WW : Nat → qP} {QR : Option qA → qS → Prop} (S : qSnd l rm_M_waits ad D cA R_M b_M_waits 5 WW) (Q : qRet (some .boolean) b_M_waits WW QR) : qle (k_M_waits_79 QR WW) WW 79 :=
  S.iconst d_M_waits_79 (by decide) <| S.goto d_M_waits_80 (by decide) (s_M_waits_84 S Q)
set_option maxRecDepth 8000 in
theorem s_M_waits_68 {l : Launch} {ad : Nat → Nat} {D : va_G} {cA : Nat → ClassId} {WW : Nat → qP} {QR : Option qA → qS → Prop} (S : qSnd l rm_M_waits ad D cA R_M b_M_waits 5 WW) (Q : qRet (some .boolean) b_M_waits WW QR) : qle (k_M_waits_68 QR WW) WW 68 :=
  S.aload_n d_M_waits_68 rfl <| S.gA fl_M_63 (by decide) d_M_waits_69 <| S.iload d_M_waits_72 <| S.iak (by decide) d_M_waits_74 <| S.iload_n d_M_waits_75 rfl <| S.icmp_ne d_M_waits_76 (by decide) (s_M_waits_83 S Q) (s_M_waits_79 S Q)
set_option maxRecDepth 8000 in
theorem s_M_waits_64 {l : Launch} {ad : Nat → Nat} {D : va_G} {cA : Nat → ClassId} {WW : Nat → qP} {QR : Option qA → qS → Prop} (S : qSnd l rm_M_waits ad D cA R_M b_M_waits 5 WW) (Q : qRet (some .boolean) b_M_waits WW QR) : qle (k_M_waits_64 QR WW) WW 64 :=
  S.iload_n d_M_waits_64 rfl <| S.if_ne d_M_waits_65 (by decide) (s_M_waits_79 S Q) (s_M_waits_68 S Q)
set_option maxRecDepth 8000 in
theorem s_M_waits_55 {l : Launch} {ad : Nat → Nat} {D : va_G} {cA : Nat → ClassId} {WW : Nat → qP} {QR : Option qA → qS → Prop} (S : qSnd l rm_M_waits ad D cA R_M b_M_waits 5 WW) (Q : qRet (some .boolean) b_M_waits WW QR) : qle (k_M_waits_55 QR WW) WW 55 :=
  S.iload d_M_waits_55 <| S.aload_n d_M_waits_57 rfl <| S.gI fl_M_264 (by decide) d_M_waits_58 <| S.icmp_ge d_M_waits_61 (by decide) (fun _ _ _ h => h) (s_M_waits_64 S Q)
set_option maxRecDepth 8000 in
theorem s_M_waits_50 {l : Launch} {ad : Nat → Nat} {D : va_G} {cA : Nat → ClassId} {WW : Nat → qP} {QR : Option qA → qS → Prop} (S : qSnd l rm_M_waits ad D cA R_M b_M_waits 5 WW) (Q : qRet (some .boolean) b_M_waits WW QR) : qle (k_M_waits_50 QR WW) WW 50 :=
  S.iconst d_M_waits_50 (by decide) <| S.istore_n d_M_waits_51 rfl (by decide) <| S.iconst d_M_waits_52 (by decide) <| S.istore d_M_waits_53 (by decide) <| (fun _ _ _ h => h)
set_option maxRecDepth 8000 in
theorem s_M_waits_47 {l : Launch} {ad : Nat → Nat} {D : va_G} {cA : Nat → ClassId} {WW : Nat → qP} {QR : Option qA → qS → Prop} (S : qSnd l rm_M_waits ad D cA R_M b_M_waits 5 WW) (Q : qRet (some .boolean) b_M_waits WW QR) : qle (k_M_waits_47 QR WW) WW 47 :=
  S.goto d_M_waits_47 (by decide) (fun _ _ _ h => h)
set_option maxRecDepth 8000 in
theorem s_M_waits_32 {l : Launch} {ad : Nat → Nat} {D : va_G} {cA : Nat → ClassId} {WW : Nat → qP} {QR : Option qA → qS → Prop} (S : qSnd l rm_M_waits ad D cA R_M b_M_waits 5 WW) (Q : qRet (some .boolean) b_M_waits WW QR) : qle (k_M_waits_32 QR WW) WW 32 :=
  S.aload_n d_M_waits_32 rfl <| S.gA fl_M_45 (by decide) d_M_waits_33 <| S.iload_n d_M_waits_36 rfl <| S.iak (by decide) d_M_waits_37 <| S.aload_n d_M_waits_38 rfl <| S.gA fl_M_42 (by decide) d_M_waits_39 <| S.iload_n d_M_waits_42 rfl <| S.iak (by decide) d_M_waits_43 <| S.icmp_eq d_M_waits_44 (by decide) (fun _ _ _ h => h) (s_M_waits_47 S Q)
set_option maxRecDepth 8000 in
theorem s_M_waits_17 {l : Launch} {ad : Nat → Nat} {D : va_G} {cA : Nat → ClassId} {WW : Nat → qP} {QR : Option qA → qS → Prop} (S : qSnd l rm_M_waits ad D cA R_M b_M_waits 5 WW) (Q : qRet (some .boolean) b_M_waits WW QR) : qle (k_M_waits_17 QR WW) WW 17 :=
  S.aload_n d_M_waits_17 rfl <| S.gA fl_M_45 (by decide) d_M_waits_18 <| S.iload_n d_M_waits_21 rfl <| S.iak (by decide) d_M_waits_22 <| S.aload_n d_M_waits_23 rfl <| S.gA fl_M_39 (by decide) d_M_waits_24 <| S.iload_n d_M_waits_27 rfl <| S.iak (by decide) d_M_waits_28 <| S.icmp_eq d_M_waits_29 (by decide) (fun _ _ _ h => h) (s_M_waits_32 S Q)
set_option maxRecDepth 8000 in
theorem s_M_waits_8 {l : Launch} {ad : Nat → Nat} {D : va_G} {cA : Nat → ClassId} {WW : Nat → qP} {QR : Option qA → qS → Prop} (S : qSnd l rm_M_waits ad D cA R_M b_M_waits 5 WW) (Q : qRet (some .boolean) b_M_waits WW QR) : qle (k_M_waits_8 QR WW) WW 8 :=
  S.aload_n d_M_waits_8 rfl <| S.gA fl_M_35 (by decide) d_M_waits_9 <| S.iload_n d_M_waits_12 rfl <| S.zak (by decide) d_M_waits_13 <| S.if_eq d_M_waits_14 (by decide) (fun _ _ _ h => h) (s_M_waits_17 S Q)
set_option maxRecDepth 8000 in
theorem s_M_waits_2 {l : Launch} {ad : Nat → Nat} {D : va_G} {cA : Nat → ClassId} {WW : Nat → qP} {QR : Option qA → qS → Prop} (S : qSnd l rm_M_waits ad D cA R_M b_M_waits 5 WW) (Q : qRet (some .boolean) b_M_waits WW QR) : qle (k_M_waits_2 QR WW) WW 2 :=
  S.iload_n d_M_waits_2 rfl <| S.bipush d_M_waits_3 (by decide) <| S.icmp_ge d_M_waits_5 (by decide) (s_M_waits_103 S Q) (s_M_waits_8 S Q)
set_option maxRecDepth 8000 in
theorem s_M_waits_0 {l : Launch} {ad : Nat → Nat} {D : va_G} {cA : Nat → ClassId} {WW : Nat → qP} {QR : Option qA → qS → Prop} (S : qSnd l rm_M_waits ad D cA R_M b_M_waits 5 WW) (Q : qRet (some .boolean) b_M_waits WW QR) : qle (k_M_waits_0 QR WW) WW 0 :=
  S.iconst d_M_waits_0 (by decide) <| S.istore_n d_M_waits_1 rfl (by decide) <| (fun _ _ _ h => h)
theorem v_M_waits_55 {l : Launch} {ad : Nat → Nat} {D : va_G} {cA : Nat → ClassId} {WW : Nat → qP} {QR : Option qA → qS → Prop} (S : qSnd l rm_M_waits ad D cA R_M b_M_waits 5 WW) (Q : qRet (some .boolean) b_M_waits WW QR) (σ : qS) (j k : Int) (hp : P_M_waits j σ) (K : ∀ b, (b = 0 ∧ ¬ chd σ k ∨ b = 1 ∧ chd σ k) → WW 91 [] [some (.inr (.inr 900)), some (.inl j), some (.inl k), some (.inl b), none] σ) : ∀ (m c : Nat) (b : Int), ((c + m : Nat) : Int) = σ 30 0 → (b = 0 ∧ (∀ i, 0 ≤ i → i < (c : Int) → σ 29 i ≠ k) ∨ b = 1 ∧ chd σ k) → WW 55 [] [some (.inr (.inr 900)), some (.inl j), some (.inl k), some (.inl b), some (.inl (c : Int))] σ := by
  intro m
  induction m with
  | zero =>
    intro c b hc hb
    refine s_M_waits_55 S Q _ _ _ ?_
    simp only [k_M_waits_0, k_M_waits_2, k_M_waits_8, k_M_waits_17, k_M_waits_32, k_M_waits_47, k_M_waits_50, k_M_waits_55, k_M_waits_64, k_M_waits_68, k_M_waits_79, k_M_waits_83, k_M_waits_84, k_M_waits_91, k_M_waits_95, k_M_waits_97, k_M_waits_103, o_c, o_il, o_ll, o_al, o_is, o_as, o_ls, o_inc, o_bi, o_bid, o_bl, o_bld, o_sl, o_i2l, o_l2i, o_dup, o_dup2, o_pop, o_pop2, o_if, o_i2, o_l2, swg, o_sw, o_gI, o_gZ, o_gJ, o_gA, o_gR, o_pI, o_pZ, o_pJ, o_pR, o_ia, o_iak, o_zak, o_ja, o_jak, o_is_, o_isk, o_zsk, o_js_, o_jsk, o_len, o_ri, o_rz, o_rl, o_rv, ls1, ls2, lks, lkj, List.getD_cons_zero, List.getD_cons_succ, List.set_cons_zero, List.set_cons_succ, qcat, true_and, and_true, List.map_nil, List.map_cons, List.sum_nil, List.sum_cons, Nat.reduceAdd, Nat.reduceLeDiff, Nat.zero_le, Int.reduceAdd, Int.reduceNeg, Int.reduceEq, or_true, true_or, Decidable.not_not, false_implies, not_false_eq_true, true_implies, not_true_eq_false, Int.reduceLT, Int.reduceLE]
    refine ⟨fun _ => S.fg (ls' := [some (.inr (.inr 900)), some (.inl j), some (.inl k), some (.inl b), none]) ⟨rfl, rfl, rfl, rfl, trivial⟩ (K b ?_), fun h => by omega⟩
    rcases hb with ⟨h1, h2⟩ | h
    · exact Or.inl ⟨h1, fun ⟨i, i0, i1, i2⟩ => h2 i i0 (by omega) i2⟩
    · exact Or.inr h
  | succ m ih =>
    intro c b hc hb
    have hp2 := hp.2
    refine s_M_waits_55 S Q _ _ _ ?_
    simp only [k_M_waits_0, k_M_waits_2, k_M_waits_8, k_M_waits_17, k_M_waits_32, k_M_waits_47, k_M_waits_50, k_M_waits_55, k_M_waits_64, k_M_waits_68, k_M_waits_79, k_M_waits_83, k_M_waits_84, k_M_waits_91, k_M_waits_95, k_M_waits_97, k_M_waits_103, o_c, o_il, o_ll, o_al, o_is, o_as, o_ls, o_inc, o_bi, o_bid, o_bl, o_bld, o_sl, o_i2l, o_l2i, o_dup, o_dup2, o_pop, o_pop2, o_if, o_i2, o_l2, swg, o_sw, o_gI, o_gZ, o_gJ, o_gA, o_gR, o_pI, o_pZ, o_pJ, o_pR, o_ia, o_iak, o_zak, o_ja, o_jak, o_is_, o_isk, o_zsk, o_js_, o_jsk, o_len, o_ri, o_rz, o_rl, o_rv, ls1, ls2, lks, lkj, List.getD_cons_zero, List.getD_cons_succ, List.set_cons_zero, List.set_cons_succ, qcat, true_and, and_true, List.map_nil, List.map_cons, List.sum_nil, List.sum_cons, Nat.reduceAdd, Nat.reduceLeDiff, Nat.zero_le, Int.reduceAdd, Int.reduceNeg, Int.reduceEq, or_true, true_or, Decidable.not_not, false_implies, not_false_eq_true, true_implies, not_true_eq_false, Int.reduceLT, Int.reduceLE]
    rw [w32_i _ (by omega) (by omega)]
    refine ⟨fun h => by omega, fun _ => ⟨fun hb0 => ih (c + 1) 1 (by omega) (Or.inr ?_), fun hb0 => ⟨by omega, fun hn => ih (c + 1) 0 (by omega) (Or.inl ⟨rfl, ?_⟩), fun he => ih (c + 1) 1 (by omega) (Or.inr ⟨rfl, c, by omega, by omega, he⟩)⟩⟩⟩
    · rcases hb with ⟨x, _⟩ | ⟨x, y⟩
      · exact absurd x hb0
      · exact ⟨rfl, y⟩
    · rcases hb with ⟨_, y⟩ | ⟨x, _⟩
      · intro i i0 i1
        by_cases e : i = (c : Int)
        · rw [e]; exact hn
        · exact y i i0 (by omega)
      · omega
theorem v_M_waits_2 {l : Launch} {ad : Nat → Nat} {D : va_G} {cA : Nat → ClassId} {WW : Nat → qP} {QR : Option qA → qS → Prop} (S : qSnd l rm_M_waits ad D cA R_M b_M_waits 5 WW) (Q : qRet (some .boolean) b_M_waits WW QR) (σ : qS) (j : Int) (hp : P_M_waits j σ) (hq : ∀ r σ', Q_M_waits j σ r σ' → QR (some (.inl r)) σ') : ∀ (m k : Nat), k + m = 8 → (∀ i, 0 ≤ i → i < (k : Int) → ¬ wts1 σ j i) → WW 2 [] [some (.inr (.inr 900)), some (.inl j), some (.inl (k : Int)), none, none] σ := by
  intro m
  induction m with
  | zero =>
    intro k hk hn
    refine s_M_waits_2 S Q _ _ _ ?_
    simp only [k_M_waits_0, k_M_waits_2, k_M_waits_8, k_M_waits_17, k_M_waits_32, k_M_waits_47, k_M_waits_50, k_M_waits_55, k_M_waits_64, k_M_waits_68, k_M_waits_79, k_M_waits_83, k_M_waits_84, k_M_waits_91, k_M_waits_95, k_M_waits_97, k_M_waits_103, o_c, o_il, o_ll, o_al, o_is, o_as, o_ls, o_inc, o_bi, o_bid, o_bl, o_bld, o_sl, o_i2l, o_l2i, o_dup, o_dup2, o_pop, o_pop2, o_if, o_i2, o_l2, swg, o_sw, o_gI, o_gZ, o_gJ, o_gA, o_gR, o_pI, o_pZ, o_pJ, o_pR, o_ia, o_iak, o_zak, o_ja, o_jak, o_is_, o_isk, o_zsk, o_js_, o_jsk, o_len, o_ri, o_rz, o_rl, o_rv, ls1, ls2, lks, lkj, List.getD_cons_zero, List.getD_cons_succ, List.set_cons_zero, List.set_cons_succ, qcat, true_and, and_true, List.map_nil, List.map_cons, List.sum_nil, List.sum_cons, Nat.reduceAdd, Nat.reduceLeDiff, Nat.zero_le, Int.reduceAdd, Int.reduceNeg, Int.reduceEq, or_true, true_or, Decidable.not_not, false_implies, not_false_eq_true, true_implies, not_true_eq_false, Int.reduceLT, Int.reduceLE]
    exact ⟨fun _ => hq _ _ ⟨rfl, Or.inl ⟨rfl, fun ⟨i, i0, i1, i2⟩ => hn i i0 (by omega) i2⟩⟩, fun h => by omega⟩
  | succ m ih =>
    intro k hk hn
    have hp1 := hp.1
    have hp2 := hp.2
    have nx : ¬ wts1 σ j k → WW 97 [] [some (.inr (.inr 900)), some (.inl j), some (.inl (k : Int)), none, none] σ := by
      intro h
      refine s_M_waits_97 S Q _ _ _ ?_
      simp only [k_M_waits_0, k_M_waits_2, k_M_waits_8, k_M_waits_17, k_M_waits_32, k_M_waits_47, k_M_waits_50, k_M_waits_55, k_M_waits_64, k_M_waits_68, k_M_waits_79, k_M_waits_83, k_M_waits_84, k_M_waits_91, k_M_waits_95, k_M_waits_97, k_M_waits_103, o_c, o_il, o_ll, o_al, o_is, o_as, o_ls, o_inc, o_bi, o_bid, o_bl, o_bld, o_sl, o_i2l, o_l2i, o_dup, o_dup2, o_pop, o_pop2, o_if, o_i2, o_l2, swg, o_sw, o_gI, o_gZ, o_gJ, o_gA, o_gR, o_pI, o_pZ, o_pJ, o_pR, o_ia, o_iak, o_zak, o_ja, o_jak, o_is_, o_isk, o_zsk, o_js_, o_jsk, o_len, o_ri, o_rz, o_rl, o_rv, ls1, ls2, lks, lkj, List.getD_cons_zero, List.getD_cons_succ, List.set_cons_zero, List.set_cons_succ, qcat, true_and, and_true, List.map_nil, List.map_cons, List.sum_nil, List.sum_cons, Nat.reduceAdd, Nat.reduceLeDiff, Nat.zero_le, Int.reduceAdd, Int.reduceNeg, Int.reduceEq, or_true, true_or, Decidable.not_not, false_implies, not_false_eq_true, true_implies, not_true_eq_false, Int.reduceLT, Int.reduceLE]
      rw [w32_i _ (by omega) (by omega)]
      exact ih (k + 1) (by omega) (fun i i0 i1 => by by_cases e : i = (k : Int); rw [e]; exact h; exact hn i i0 (by omega))
    have in_ : σ 9 k ≠ 0 → (σ 12 k = σ 10 j ∨ σ 12 k = σ 11 j) → WW 50 [] [some (.inr (.inr 900)), some (.inl j), some (.inl (k : Int)), none, none] σ := by
      intro h1 h2
      refine s_M_waits_50 S Q _ _ _ ?_
      simp only [k_M_waits_0, k_M_waits_2, k_M_waits_8, k_M_waits_17, k_M_waits_32, k_M_waits_47, k_M_waits_50, k_M_waits_55, k_M_waits_64, k_M_waits_68, k_M_waits_79, k_M_waits_83, k_M_waits_84, k_M_waits_91, k_M_waits_95, k_M_waits_97, k_M_waits_103, o_c, o_il, o_ll, o_al, o_is, o_as, o_ls, o_inc, o_bi, o_bid, o_bl, o_bld, o_sl, o_i2l, o_l2i, o_dup, o_dup2, o_pop, o_pop2, o_if, o_i2, o_l2, swg, o_sw, o_gI, o_gZ, o_gJ, o_gA, o_gR, o_pI, o_pZ, o_pJ, o_pR, o_ia, o_iak, o_zak, o_ja, o_jak, o_is_, o_isk, o_zsk, o_js_, o_jsk, o_len, o_ri, o_rz, o_rl, o_rv, ls1, ls2, lks, lkj, List.getD_cons_zero, List.getD_cons_succ, List.set_cons_zero, List.set_cons_succ, qcat, true_and, and_true, List.map_nil, List.map_cons, List.sum_nil, List.sum_cons, Nat.reduceAdd, Nat.reduceLeDiff, Nat.zero_le, Int.reduceAdd, Int.reduceNeg, Int.reduceEq, or_true, true_or, Decidable.not_not, false_implies, not_false_eq_true, true_implies, not_true_eq_false, Int.reduceLT, Int.reduceLE]
      refine v_M_waits_55 S Q σ j k hp (fun b hb => ?_) (σ 30 0).toNat 0 0 (by omega) (Or.inl ⟨rfl, fun i i0 i1 => by omega⟩)
      refine s_M_waits_91 S Q _ _ _ ?_
      simp only [k_M_waits_0, k_M_waits_2, k_M_waits_8, k_M_waits_17, k_M_waits_32, k_M_waits_47, k_M_waits_50, k_M_waits_55, k_M_waits_64, k_M_waits_68, k_M_waits_79, k_M_waits_83, k_M_waits_84, k_M_waits_91, k_M_waits_95, k_M_waits_97, k_M_waits_103, o_c, o_il, o_ll, o_al, o_is, o_as, o_ls, o_inc, o_bi, o_bid, o_bl, o_bld, o_sl, o_i2l, o_l2i, o_dup, o_dup2, o_pop, o_pop2, o_if, o_i2, o_l2, swg, o_sw, o_gI, o_gZ, o_gJ, o_gA, o_gR, o_pI, o_pZ, o_pJ, o_pR, o_ia, o_iak, o_zak, o_ja, o_jak, o_is_, o_isk, o_zsk, o_js_, o_jsk, o_len, o_ri, o_rz, o_rl, o_rv, ls1, ls2, lks, lkj, List.getD_cons_zero, List.getD_cons_succ, List.set_cons_zero, List.set_cons_succ, qcat, true_and, and_true, List.map_nil, List.map_cons, List.sum_nil, List.sum_cons, Nat.reduceAdd, Nat.reduceLeDiff, Nat.zero_le, Int.reduceAdd, Int.reduceNeg, Int.reduceEq, or_true, true_or, Decidable.not_not, false_implies, not_false_eq_true, true_implies, not_true_eq_false, Int.reduceLT, Int.reduceLE]
      refine ⟨fun hb0 => S.fg (ls' := [some (.inr (.inr 900)), some (.inl j), some (.inl (k : Int)), none, none]) ⟨rfl, rfl, rfl, trivial⟩ (nx (fun x => ?_)), fun hb0 => hq _ _ ⟨rfl, Or.inr ⟨rfl, k, by omega, by omega, h1, h2, ?_⟩⟩⟩
      · rcases hb with ⟨y, _⟩ | ⟨_, y⟩
        · exact absurd y hb0
        · exact x.2.2 y
      · rcases hb with ⟨_, y⟩ | ⟨y, _⟩
        · exact y
        · omega
    refine s_M_waits_2 S Q _ _ _ ?_
    simp only [k_M_waits_0, k_M_waits_2, k_M_waits_8, k_M_waits_17, k_M_waits_32, k_M_waits_47, k_M_waits_50, k_M_waits_55, k_M_waits_64, k_M_waits_68, k_M_waits_79, k_M_waits_83, k_M_waits_84, k_M_waits_91, k_M_waits_95, k_M_waits_97, k_M_waits_103, o_c, o_il, o_ll, o_al, o_is, o_as, o_ls, o_inc, o_bi, o_bid, o_bl, o_bld, o_sl, o_i2l, o_l2i, o_dup, o_dup2, o_pop, o_pop2, o_if, o_i2, o_l2, swg, o_sw, o_gI, o_gZ, o_gJ, o_gA, o_gR, o_pI, o_pZ, o_pJ, o_pR, o_ia, o_iak, o_zak, o_ja, o_jak, o_is_, o_isk, o_zsk, o_js_, o_jsk, o_len, o_ri, o_rz, o_rl, o_rv, ls1, ls2, lks, lkj, List.getD_cons_zero, List.getD_cons_succ, List.set_cons_zero, List.set_cons_succ, qcat, true_and, and_true, List.map_nil, List.map_cons, List.sum_nil, List.sum_cons, Nat.reduceAdd, Nat.reduceLeDiff, Nat.zero_le, Int.reduceAdd, Int.reduceNeg, Int.reduceEq, or_true, true_or, Decidable.not_not, false_implies, not_false_eq_true, true_implies, not_true_eq_false, Int.reduceLT, Int.reduceLE]
    refine ⟨fun h => by omega, fun _ => ⟨by omega, fun _ => ⟨fun h0 => nx (fun x => x.1 h0), fun h0 => ⟨by omega, hp1, fun h1 => ?_, fun h1 => ?_⟩⟩⟩⟩
    · first | exact in_ h0 (Or.inl h1) | exact ⟨by omega, hp1, fun h2 => in_ h0 (Or.inr h2), fun h2 => nx (fun x => by rcases x.2.1 with y | y; exact h1 y; exact h2 y)⟩ | exact ⟨by omega, hp1, fun h2 => nx (fun x => by rcases x.2.1 with y | y; exact h1 y; exact h2 y), fun h2 => in_ h0 (Or.inr h2)⟩
    · first | exact in_ h0 (Or.inl h1) | exact ⟨by omega, hp1, fun h2 => in_ h0 (Or.inr h2), fun h2 => nx (fun x => by rcases x.2.1 with y | y; exact h1 y; exact h2 y)⟩ | exact ⟨by omega, hp1, fun h2 => nx (fun x => by rcases x.2.1 with y | y; exact h1 y; exact h2 y), fun h2 => in_ h0 (Or.inr h2)⟩
theorem w_M_waits {l : Launch} {ad : Nat → Nat} {D : va_G} {cA : Nat → ClassId} {WW : Nat → qP} {QR : Option qA → qS → Prop} (S : qSnd l rm_M_waits ad D cA R_M b_M_waits 5 WW) (Q : qRet (some .boolean) b_M_waits WW QR) (a1 : Int) (σ : qS) (ha1 : r32 a1) (hσ : qoS σ) (h : P_M_waits a1 σ) (hq : ∀ (r : Int) σ', Q_M_waits a1 σ r σ' → QR (some (.inl r)) σ') : WW 0 [] [some (.inr (.inr 900)), some (.inl a1), none, none, none] σ := by
  refine s_M_waits_0 S Q _ _ _ ?_
  simp only [k_M_waits_0, k_M_waits_2, k_M_waits_8, k_M_waits_17, k_M_waits_32, k_M_waits_47, k_M_waits_50, k_M_waits_55, k_M_waits_64, k_M_waits_68, k_M_waits_79, k_M_waits_83, k_M_waits_84, k_M_waits_91, k_M_waits_95, k_M_waits_97, k_M_waits_103, o_c, o_il, o_ll, o_al, o_is, o_as, o_ls, o_inc, o_bi, o_bid, o_bl, o_bld, o_sl, o_i2l, o_l2i, o_dup, o_dup2, o_pop, o_pop2, o_if, o_i2, o_l2, swg, o_sw, o_gI, o_gZ, o_gJ, o_gA, o_gR, o_pI, o_pZ, o_pJ, o_pR, o_ia, o_iak, o_zak, o_ja, o_jak, o_is_, o_isk, o_zsk, o_js_, o_jsk, o_len, o_ri, o_rz, o_rl, o_rv, ls1, ls2, lks, lkj, List.getD_cons_zero, List.getD_cons_succ, List.set_cons_zero, List.set_cons_succ, qcat, true_and, and_true, List.map_nil, List.map_cons, List.sum_nil, List.sum_cons, Nat.reduceAdd, Nat.reduceLeDiff, Nat.zero_le, Int.reduceAdd, Int.reduceNeg, Int.reduceEq, or_true, true_or, Decidable.not_not, false_implies, not_false_eq_true, true_implies, not_true_eq_false, Int.reduceLT, Int.reduceLE]
  exact v_M_waits_2 S Q σ a1 h hq 8 0 (by omega) (fun i i0 i1 => by omega)
theorem c_M_waits (l : Launch) (ad : Nat → Nat) (D : va_G) (cA : Nat → ClassId) : qC l ad D cA y_M_waits (Cond.code y_M_waits b_M_waits 5 (some .boolean) :: lw_g) rm_M_waits pre_M_waits post_M_waits := by
  refine qC_of (own := R_M) (by decide) rfl ⟨rfl, rfl⟩ ?_ ?_
  · intro av σ h; unfold pre_M_waits at h; split at h
    · simp [qen]
    · exact h.elim
  · intro WW QR S Q av σ hav hσ h hq; unfold pre_M_waits at h; split at h
    next o a1 =>
      obtain ⟨rfl, h⟩ := h
      exact w_M_waits S Q a1 σ (hav _ (List.mem_of_getElem? (i := 1) rfl)) hσ h (fun r σ' h' => hq _ σ' h')
    next => exact h.elim
def ckS (σ : qS) (k : Int) : Prop := σ 33 k ≠ -1 → (0 ≤ σ 33 k ∧ σ 33 k < 6) ∧ σ 54 (σ 33 k) = σ 31 0 ∧ σ 56 (σ 33 k * 38 + k) ≠ -1 ∧ σ 57 (σ 33 k * 38 + k) = σ 34 k ∧ (0 ≤ σ 56 (σ 33 k * 38 + k) ∧ 0 ≤ σ 57 (σ 33 k * 38 + k) ∧ σ 56 (σ 33 k * 38 + k) + σ 57 (σ 33 k * 38 + k) ≤ 1000) ∧ σ 58 (σ 33 k * 38 + k) = sumf σ (σ 33 k) (σ 57 (σ 33 k * 38 + k)).toNat (σ 56 (σ 33 k * 38 + k)) (σ 57 (σ 33 k * 38 + k))
def P_M_check (σ : qS) : Prop := σ 27 0 ≠ 0 → jobok σ ∧ (∀ k, 0 ≤ k → k < spl σ → ckS σ k) ∧ (∀ k, 0 ≤ k → k < σ 13 (jb σ) → σ 35 k ≠ 0 → σ 40 k = σ 31 0)
def Q_M_check (σ : qS) (r : Int) (σ' : qS) : Prop := σ' = σ ∧ r = 0
def pre_M_check (av : List qA) (σ : qS) : Prop := match av with
  | [.inr (.inr o)] => o = 900 ∧ P_M_check  σ
  | _ => False
def post_M_check (av : List qA) (σ : qS) (r : Option qA) (σ' : qS) : Prop := match av, r with
  | [_], some (.inl r) => Q_M_check  σ r σ'
  | _, _ => False
def oc_M_check (K : qP) : qP := fun st ls σ => match st with
  | .inr (.inr o) :: st => o = 900 ∧ (st.map qcat).sum ≤ 8 ∧ P_M_check  σ ∧ ∀ (r : Int) (σ' : qS), Q_M_check  σ r σ' → K (.inl r :: st) ls σ'
  | _ => False
def rm_M_check : Room := { frames := 2, cells := 0, slots := 0, locals := 51 }
def k_M_check_176 (QR : Option qA → qS → Prop) (H : Nat → qP) : qP :=
  o_il 1 <| o_ri QR
def k_M_check_170 (QR : Option qA → qS → Prop) (H : Nat → qP) : qP :=
  o_inc 3 1 <| H 132
def k_M_check_167 (QR : Option qA → qS → Prop) (H : Nat → qP) : qP :=
  o_inc 1 1 <| k_M_check_170 QR H
def k_M_check_154 (QR : Option qA → qS → Prop) (H : Nat → qP) : qP :=
  o_al 0 <| o_gA 900 40 <| o_il 3 <| o_iak 40 6 <| o_al 0 <| o_gI 900 31 <| o_i2 (fun a b => a = b) (k_M_check_170 QR H) (k_M_check_167 QR H)
def k_M_check_145 (QR : Option qA → qS → Prop) (H : Nat → qP) : qP :=
  o_al 0 <| o_gA 900 35 <| o_il 3 <| o_zak 35 6 <| o_if (fun a => a = 0) (k_M_check_170 QR H) (k_M_check_154 QR H)
def k_M_check_132 (QR : Option qA → qS → Prop) (H : Nat → qP) : qP :=
  o_il 3 <| o_al 0 <| o_gA 900 13 <| o_al 0 <| oc_M_job <| o_iak 13 8 <| o_i2 (fun a b => b ≤ a) (k_M_check_176 QR H) (k_M_check_145 QR H)
def k_M_check_130 (QR : Option qA → qS → Prop) (H : Nat → qP) : qP :=
  o_c (.inl 0) <| o_is 3 <| H 132
def k_M_check_124 (QR : Option qA → qS → Prop) (H : Nat → qP) : qP :=
  o_inc 3 1 <| H 18
def k_M_check_121 (QR : Option qA → qS → Prop) (H : Nat → qP) : qP :=
  o_inc 1 1 <| k_M_check_124 QR H
def k_M_check_90 (QR : Option qA → qS → Prop) (H : Nat → qP) : qP :=
  o_al 0 <| o_gA 900 58 <| o_il 5 <| o_jak 58 228 <| o_al 0 <| o_il 4 <| o_al 0 <| o_gA 900 56 <| o_il 5 <| o_iak 56 228 <| o_al 0 <| o_gA 900 57 <| o_il 5 <| o_iak 57 228 <| oc_M_sumOf <| o_l2 (fun a b => a = b) (k_M_check_124 QR H) (k_M_check_121 QR H)
def k_M_check_74 (QR : Option qA → qS → Prop) (H : Nat → qP) : qP :=
  o_al 0 <| o_gA 900 57 <| o_il 5 <| o_iak 57 228 <| o_al 0 <| o_gA 900 34 <| o_il 3 <| o_iak 34 38 <| o_i2 (fun a b => ¬ a = b) (k_M_check_121 QR H) (k_M_check_90 QR H)
def k_M_check_63 (QR : Option qA → qS → Prop) (H : Nat → qP) : qP :=
  o_al 0 <| o_gA 900 56 <| o_il 5 <| o_iak 56 228 <| o_c (.inl (-1)) <| o_i2 (fun a b => a = b) (k_M_check_121 QR H) (k_M_check_74 QR H)
def k_M_check_40 (QR : Option qA → qS → Prop) (H : Nat → qP) : qP :=
  o_il 4 <| o_c (.inl 38) <| o_bi z_mul <| o_il 3 <| o_bi z_add <| o_is 5 <| o_al 0 <| o_gA 900 54 <| o_il 4 <| o_iak 54 6 <| o_al 0 <| o_gI 900 31 <| o_i2 (fun a b => ¬ a = b) (k_M_check_121 QR H) (k_M_check_63 QR H)
def k_M_check_37 (QR : Option qA → qS → Prop) (H : Nat → qP) : qP :=
  k_M_check_124 QR H
def k_M_check_23 (QR : Option qA → qS → Prop) (H : Nat → qP) : qP :=
  o_al 0 <| o_gA 900 33 <| o_il 3 <| o_iak 33 38 <| o_is 4 <| o_il 4 <| o_c (.inl (-1)) <| o_i2 (fun a b => ¬ a = b) (k_M_check_40 QR H) (k_M_check_37 QR H)
def k_M_check_18 (QR : Option qA → qS → Prop) (H : Nat → qP) : qP :=
  o_il 3 <| o_il 2 <| o_i2 (fun a b => b ≤ a) (H 130) (k_M_check_23 QR H)
def k_M_check_9 (QR : Option qA → qS → Prop) (H : Nat → qP) : qP :=
  o_c (.inl 0) <| o_is 1 <| o_al 0 <| oc_M_splits <| o_is 2 <| o_c (.inl 0) <| o_is 3 <| H 18
def k_M_check_7 (QR : Option qA → qS → Prop) (H : Nat → qP) : qP :=
  o_c (.inl 0) <| o_ri QR
def k_M_check_0 (QR : Option qA → qS → Prop) (H : Nat → qP) : qP :=
  o_al 0 <| o_gZ 900 27 <| o_if (fun a => ¬ a = 0) (k_M_check_9 QR H) (k_M_check_7 QR H)
set_option maxRecDepth 8000 in
theorem s_M_check_176 {l : Launch} {ad : Nat → Nat} {D : va_G} {cA : Nat → ClassId} {WW : Nat → qP} {QR : Option qA → qS → Prop} (S : qSnd l rm_M_check ad D cA R_M b_M_check 6 WW) (Q : qRet (some .int) b_M_check WW QR) : qle (k_M_check_176 QR WW) WW 176 :=
  S.iload_n d_M_check_176 rfl <| Q.1 rfl _ d_M_check_177
set_option maxRecDepth 8000 in
theorem s_M_check_170 {l : Launch} {ad : Nat → Nat} {D : va_G} {cA : Nat → ClassId} {WW : Nat → qP} {QR : Option qA → qS → Prop} (S : qSnd l rm_M_check ad D cA R_M b_M_check 6 WW) (Q : qRet (some .int) b_M_check WW QR) : qle (k_M_check_170 QR WW) WW 170 :=
  S.iinc d_M_check_170 (by decide) <| S.goto d_M_check_173 (by decide) (fun _ _ _ h => h)
set_option maxRecDepth 8000 in
theorem s_M_check_167 {l : Launch} {ad : Nat → Nat} {D : va_G} {cA : Nat → ClassId} {WW : Nat → qP} {QR : Option qA → qS → Prop} (S : qSnd l rm_M_check ad D cA R_M b_M_check 6 WW) (Q : qRet (some .int) b_M_check WW QR) : qle (k_M_check_167 QR WW) WW 167 :=
  S.iinc d_M_check_167 (by decide) <| (s_M_check_170 S Q)
set_option maxRecDepth 8000 in
theorem s_M_check_154 {l : Launch} {ad : Nat → Nat} {D : va_G} {cA : Nat → ClassId} {WW : Nat → qP} {QR : Option qA → qS → Prop} (S : qSnd l rm_M_check ad D cA R_M b_M_check 6 WW) (Q : qRet (some .int) b_M_check WW QR) : qle (k_M_check_154 QR WW) WW 154 :=
  S.aload_n d_M_check_154 rfl <| S.gA fl_M_81 (by decide) d_M_check_155 <| S.iload_n d_M_check_158 rfl <| S.iak (by decide) d_M_check_159 <| S.aload_n d_M_check_160 rfl <| S.gI fl_M_270 (by decide) d_M_check_161 <| S.icmp_eq d_M_check_164 (by decide) (s_M_check_170 S Q) (s_M_check_167 S Q)
set_option maxRecDepth 8000 in
theorem s_M_check_145 {l : Launch} {ad : Nat → Nat} {D : va_G} {cA : Nat → ClassId} {WW : Nat → qP} {QR : Option qA → qS → Prop} (S : qSnd l rm_M_check ad D cA R_M b_M_check 6 WW) (Q : qRet (some .int) b_M_check WW QR) : qle (k_M_check_145 QR WW) WW 145 :=
  S.aload_n d_M_check_145 rfl <| S.gA fl_M_72 (by decide) d_M_check_146 <| S.iload_n d_M_check_149 rfl <| S.zak (by decide) d_M_check_150 <| S.if_eq d_M_check_151 (by decide) (s_M_check_170 S Q) (s_M_check_154 S Q)
set_option maxRecDepth 8000 in
theorem s_M_check_132 {l : Launch} {ad : Nat → Nat} {D : va_G} {cA : Nat → ClassId} {WW : Nat → qP} {QR : Option qA → qS → Prop} (S : qSnd l rm_M_check ad D cA R_M b_M_check 6 WW) (Q : qRet (some .int) b_M_check WW QR) : qle (k_M_check_132 QR WW) WW 132 :=
  S.iload_n d_M_check_132 rfl <| S.aload_n d_M_check_133 rfl <| S.gA fl_M_48 (by decide) d_M_check_134 <| S.aload_n d_M_check_137 rfl <| sc_M_256 S (by decide) d_M_check_138 <| S.iak (by decide) d_M_check_141 <| S.icmp_ge d_M_check_142 (by decide) (s_M_check_176 S Q) (s_M_check_145 S Q)
set_option maxRecDepth 8000 in
theorem s_M_check_130 {l : Launch} {ad : Nat → Nat} {D : va_G} {cA : Nat → ClassId} {WW : Nat → qP} {QR : Option qA → qS → Prop} (S : qSnd l rm_M_check ad D cA R_M b_M_check 6 WW) (Q : qRet (some .int) b_M_check WW QR) : qle (k_M_check_130 QR WW) WW 130 :=
  S.iconst d_M_check_130 (by decide) <| S.istore_n d_M_check_131 rfl (by decide) <| (fun _ _ _ h => h)
set_option maxRecDepth 8000 in
theorem s_M_check_124 {l : Launch} {ad : Nat → Nat} {D : va_G} {cA : Nat → ClassId} {WW : Nat → qP} {QR : Option qA → qS → Prop} (S : qSnd l rm_M_check ad D cA R_M b_M_check 6 WW) (Q : qRet (some .int) b_M_check WW QR) : qle (k_M_check_124 QR WW) WW 124 :=
  S.iinc d_M_check_124 (by decide) <| S.goto d_M_check_127 (by decide) (fun _ _ _ h => h)
set_option maxRecDepth 8000 in
theorem s_M_check_121 {l : Launch} {ad : Nat → Nat} {D : va_G} {cA : Nat → ClassId} {WW : Nat → qP} {QR : Option qA → qS → Prop} (S : qSnd l rm_M_check ad D cA R_M b_M_check 6 WW) (Q : qRet (some .int) b_M_check WW QR) : qle (k_M_check_121 QR WW) WW 121 :=
  S.iinc d_M_check_121 (by decide) <| (s_M_check_124 S Q)
set_option maxRecDepth 8000 in
theorem s_M_check_90 {l : Launch} {ad : Nat → Nat} {D : va_G} {cA : Nat → ClassId} {WW : Nat → qP} {QR : Option qA → qS → Prop} (S : qSnd l rm_M_check ad D cA R_M b_M_check 6 WW) (Q : qRet (some .int) b_M_check WW QR) : qle (k_M_check_90 QR WW) WW 90 :=
  S.aload_n d_M_check_90 rfl <| S.gA fl_M_126 (by decide) d_M_check_91 <| S.iload d_M_check_94 <| S.jak (by decide) d_M_check_96 <| S.aload_n d_M_check_97 rfl <| S.iload d_M_check_98 <| S.aload_n d_M_check_100 rfl <| S.gA fl_M_120 (by decide) d_M_check_101 <| S.iload d_M_check_104 <| S.iak (by decide) d_M_check_106 <| S.aload_n d_M_check_107 rfl <| S.gA fl_M_123 (by decide) d_M_check_108 <| S.iload d_M_check_111 <| S.iak (by decide) d_M_check_113 <| sc_M_407 S (by decide) d_M_check_114 <| S.lcmp_eq d_M_check_117 d_M_check_118 (by decide) (s_M_check_124 S Q) (s_M_check_121 S Q)
set_option maxRecDepth 8000 in
theorem s_M_check_74 {l : Launch} {ad : Nat → Nat} {D : va_G} {cA : Nat → ClassId} {WW : Nat → qP} {QR : Option qA → qS → Prop} (S : qSnd l rm_M_check ad D cA R_M b_M_check 6 WW) (Q : qRet (some .int) b_M_check WW QR) : qle (k_M_check_74 QR WW) WW 74 :=
  S.aload_n d_M_check_74 rfl <| S.gA fl_M_123 (by decide) d_M_check_75 <| S.iload d_M_check_78 <| S.iak (by decide) d_M_check_80 <| S.aload_n d_M_check_81 rfl <| S.gA fl_M_69 (by decide) d_M_check_82 <| S.iload_n d_M_check_85 rfl <| S.iak (by decide) d_M_check_86 <| S.icmp_ne d_M_check_87 (by decide) (s_M_check_121 S Q) (s_M_check_90 S Q)
set_option maxRecDepth 8000 in
theorem s_M_check_63 {l : Launch} {ad : Nat → Nat} {D : va_G} {cA : Nat → ClassId} {WW : Nat → qP} {QR : Option qA → qS → Prop} (S : qSnd l rm_M_check ad D cA R_M b_M_check 6 WW) (Q : qRet (some .int) b_M_check WW QR) : qle (k_M_check_63 QR WW) WW 63 :=
  S.aload_n d_M_check_63 rfl <| S.gA fl_M_120 (by decide) d_M_check_64 <| S.iload d_M_check_67 <| S.iak (by decide) d_M_check_69 <| S.iconst d_M_check_70 (by decide) <| S.icmp_eq d_M_check_71 (by decide) (s_M_check_121 S Q) (s_M_check_74 S Q)
set_option maxRecDepth 8000 in
theorem s_M_check_40 {l : Launch} {ad : Nat → Nat} {D : va_G} {cA : Nat → ClassId} {WW : Nat → qP} {QR : Option qA → qS → Prop} (S : qSnd l rm_M_check ad D cA R_M b_M_check 6 WW) (Q : qRet (some .int) b_M_check WW QR) : qle (k_M_check_40 QR WW) WW 40 :=
  S.iload d_M_check_40 <| S.bipush d_M_check_42 (by decide) <| S.imul d_M_check_44 <| S.iload_n d_M_check_45 rfl <| S.iadd d_M_check_46 <| S.istore d_M_check_47 (by decide) <| S.aload_n d_M_check_49 rfl <| S.gA fl_M_114 (by decide) d_M_check_50 <| S.iload d_M_check_53 <| S.iak (by decide) d_M_check_55 <| S.aload_n d_M_check_56 rfl <| S.gI fl_M_270 (by decide) d_M_check_57 <| S.icmp_ne d_M_check_60 (by decide) (s_M_check_121 S Q) (s_M_check_63 S Q)
set_option maxRecDepth 8000 in
theorem s_M_check_37 {l : Launch} {ad : Nat → Nat} {D : va_G} {cA : Nat → ClassId} {WW : Nat → qP} {QR : Option qA → qS → Prop} (S : qSnd l rm_M_check ad D cA R_M b_M_check 6 WW) (Q : qRet (some .int) b_M_check WW QR) : qle (k_M_check_37 QR WW) WW 37 :=
  S.goto d_M_check_37 (by decide) (s_M_check_124 S Q)
set_option maxRecDepth 8000 in
theorem s_M_check_23 {l : Launch} {ad : Nat → Nat} {D : va_G} {cA : Nat → ClassId} {WW : Nat → qP} {QR : Option qA → qS → Prop} (S : qSnd l rm_M_check ad D cA R_M b_M_check 6 WW) (Q : qRet (some .int) b_M_check WW QR) : qle (k_M_check_23 QR WW) WW 23 :=
  S.aload_n d_M_check_23 rfl <| S.gA fl_M_66 (by decide) d_M_check_24 <| S.iload_n d_M_check_27 rfl <| S.iak (by decide) d_M_check_28 <| S.istore d_M_check_29 (by decide) <| S.iload d_M_check_31 <| S.iconst d_M_check_33 (by decide) <| S.icmp_ne d_M_check_34 (by decide) (s_M_check_40 S Q) (s_M_check_37 S Q)
set_option maxRecDepth 8000 in
theorem s_M_check_18 {l : Launch} {ad : Nat → Nat} {D : va_G} {cA : Nat → ClassId} {WW : Nat → qP} {QR : Option qA → qS → Prop} (S : qSnd l rm_M_check ad D cA R_M b_M_check 6 WW) (Q : qRet (some .int) b_M_check WW QR) : qle (k_M_check_18 QR WW) WW 18 :=
  S.iload_n d_M_check_18 rfl <| S.iload_n d_M_check_19 rfl <| S.icmp_ge d_M_check_20 (by decide) (fun _ _ _ h => h) (s_M_check_23 S Q)
set_option maxRecDepth 8000 in
theorem s_M_check_9 {l : Launch} {ad : Nat → Nat} {D : va_G} {cA : Nat → ClassId} {WW : Nat → qP} {QR : Option qA → qS → Prop} (S : qSnd l rm_M_check ad D cA R_M b_M_check 6 WW) (Q : qRet (some .int) b_M_check WW QR) : qle (k_M_check_9 QR WW) WW 9 :=
  S.iconst d_M_check_9 (by decide) <| S.istore_n d_M_check_10 rfl (by decide) <| S.aload_n d_M_check_11 rfl <| sc_M_329 S (by decide) d_M_check_12 <| S.istore_n d_M_check_15 rfl (by decide) <| S.iconst d_M_check_16 (by decide) <| S.istore_n d_M_check_17 rfl (by decide) <| (fun _ _ _ h => h)
set_option maxRecDepth 8000 in
theorem s_M_check_7 {l : Launch} {ad : Nat → Nat} {D : va_G} {cA : Nat → ClassId} {WW : Nat → qP} {QR : Option qA → qS → Prop} (S : qSnd l rm_M_check ad D cA R_M b_M_check 6 WW) (Q : qRet (some .int) b_M_check WW QR) : qle (k_M_check_7 QR WW) WW 7 :=
  S.iconst d_M_check_7 (by decide) <| Q.1 rfl _ d_M_check_8
set_option maxRecDepth 8000 in
theorem s_M_check_0 {l : Launch} {ad : Nat → Nat} {D : va_G} {cA : Nat → ClassId} {WW : Nat → qP} {QR : Option qA → qS → Prop} (S : qSnd l rm_M_check ad D cA R_M b_M_check 6 WW) (Q : qRet (some .int) b_M_check WW QR) : qle (k_M_check_0 QR WW) WW 0 :=
  S.aload_n d_M_check_0 rfl <| S.gZ fl_M_267 (by decide) d_M_check_1 <| S.if_ne d_M_check_4 (by decide) (s_M_check_9 S Q) (s_M_check_7 S Q)
theorem v_M_check_132 {l : Launch} {ad : Nat → Nat} {D : va_G} {cA : Nat → ClassId} {WW : Nat → qP} {QR : Option qA → qS → Prop} (S : qSnd l rm_M_check ad D cA R_M b_M_check 6 WW) (Q : qRet (some .int) b_M_check WW QR) (σ : qS) (hj : jobok σ) (hc : ∀ k, 0 ≤ k → k < σ 13 (jb σ) → σ 35 k ≠ 0 → σ 40 k = σ 31 0) (hq : QR (some (.inl 0)) σ) : ∀ (m k : Nat), ((k + m : Nat) : Int) = σ 13 (jb σ) → WW 132 [] [some (.inr (.inr 900)), some (.inl 0), none, some (.inl (k : Int)), none, none] σ := by
  intro m
  induction m with
  | zero =>
    intro k hk
    refine s_M_check_132 S Q _ _ _ ?_
    simp only [k_M_check_0, k_M_check_7, k_M_check_9, k_M_check_18, k_M_check_23, k_M_check_37, k_M_check_40, k_M_check_63, k_M_check_74, k_M_check_90, k_M_check_121, k_M_check_124, k_M_check_130, k_M_check_132, k_M_check_145, k_M_check_154, k_M_check_167, k_M_check_170, k_M_check_176, oc_M_job, oc_M_splits, oc_M_sumOf, o_c, o_il, o_ll, o_al, o_is, o_as, o_ls, o_inc, o_bi, o_bid, o_bl, o_bld, o_sl, o_i2l, o_l2i, o_dup, o_dup2, o_pop, o_pop2, o_if, o_i2, o_l2, swg, o_sw, o_gI, o_gZ, o_gJ, o_gA, o_gR, o_pI, o_pZ, o_pJ, o_pR, o_ia, o_iak, o_zak, o_ja, o_jak, o_is_, o_isk, o_zsk, o_js_, o_jsk, o_len, o_ri, o_rz, o_rl, o_rv, ls1, ls2, lks, lkj, List.getD_cons_zero, List.getD_cons_succ, List.set_cons_zero, List.set_cons_succ, qcat, true_and, and_true, List.map_nil, List.map_cons, List.sum_nil, List.sum_cons, Nat.reduceAdd, Nat.reduceLeDiff, Nat.zero_le, Int.reduceAdd, Int.reduceNeg, Int.reduceEq, or_true, true_or, Decidable.not_not, false_implies, not_false_eq_true, true_implies, not_true_eq_false, Int.reduceLT, Int.reduceLE]
    refine ⟨hj.1, fun r σ1 q1 => ?_⟩
    obtain ⟨e9, rfl⟩ := q1; replace e9 := e9.symm; subst e9
    exact ⟨hj.2.1, fun _ => hq, fun h => by omega⟩
  | succ m ih =>
    intro k hk
    refine s_M_check_132 S Q _ _ _ ?_
    simp only [k_M_check_0, k_M_check_7, k_M_check_9, k_M_check_18, k_M_check_23, k_M_check_37, k_M_check_40, k_M_check_63, k_M_check_74, k_M_check_90, k_M_check_121, k_M_check_124, k_M_check_130, k_M_check_132, k_M_check_145, k_M_check_154, k_M_check_167, k_M_check_170, k_M_check_176, oc_M_job, oc_M_splits, oc_M_sumOf, o_c, o_il, o_ll, o_al, o_is, o_as, o_ls, o_inc, o_bi, o_bid, o_bl, o_bld, o_sl, o_i2l, o_l2i, o_dup, o_dup2, o_pop, o_pop2, o_if, o_i2, o_l2, swg, o_sw, o_gI, o_gZ, o_gJ, o_gA, o_gR, o_pI, o_pZ, o_pJ, o_pR, o_ia, o_iak, o_zak, o_ja, o_jak, o_is_, o_isk, o_zsk, o_js_, o_jsk, o_len, o_ri, o_rz, o_rl, o_rv, ls1, ls2, lks, lkj, List.getD_cons_zero, List.getD_cons_succ, List.set_cons_zero, List.set_cons_succ, qcat, true_and, and_true, List.map_nil, List.map_cons, List.sum_nil, List.sum_cons, Nat.reduceAdd, Nat.reduceLeDiff, Nat.zero_le, Int.reduceAdd, Int.reduceNeg, Int.reduceEq, or_true, true_or, Decidable.not_not, false_implies, not_false_eq_true, true_implies, not_true_eq_false, Int.reduceLT, Int.reduceLE]
    refine ⟨hj.1, fun r σ1 q1 => ?_⟩
    obtain ⟨e9, rfl⟩ := q1; replace e9 := e9.symm; subst e9
    have hpar := hj.2.2.2.2.2.1
    rw [w32_i ((k : Int) + 1) (by omega) (by omega)]
    have nx := ih (k + 1) (by omega)
    exact ⟨hj.2.1, fun h => by omega, fun _ => ⟨by omega, fun _ => ⟨fun _ => nx, fun h1 => ⟨by omega, fun _ => nx, fun h2 => absurd (hc k (by omega) (by omega) h1) h2⟩⟩⟩⟩
theorem v_M_check_18 {l : Launch} {ad : Nat → Nat} {D : va_G} {cA : Nat → ClassId} {WW : Nat → qP} {QR : Option qA → qS → Prop} (S : qSnd l rm_M_check ad D cA R_M b_M_check 6 WW) (Q : qRet (some .int) b_M_check WW QR) (σ : qS) (hj : jobok σ) (hs : ∀ k, 0 ≤ k → k < spl σ → ckS σ k) (K : WW 130 [] [some (.inr (.inr 900)), some (.inl 0), none, none, none, none] σ) : ∀ (m k : Nat), ((k + m : Nat) : Int) = spl σ → WW 18 [] [some (.inr (.inr 900)), some (.inl 0), some (.inl (spl σ)), some (.inl (k : Int)), none, none] σ := by
  have sb := spl_b hj
  intro m
  induction m with
  | zero =>
    intro k hk
    refine s_M_check_18 S Q _ _ _ ?_
    simp only [k_M_check_0, k_M_check_7, k_M_check_9, k_M_check_18, k_M_check_23, k_M_check_37, k_M_check_40, k_M_check_63, k_M_check_74, k_M_check_90, k_M_check_121, k_M_check_124, k_M_check_130, k_M_check_132, k_M_check_145, k_M_check_154, k_M_check_167, k_M_check_170, k_M_check_176, oc_M_job, oc_M_splits, oc_M_sumOf, o_c, o_il, o_ll, o_al, o_is, o_as, o_ls, o_inc, o_bi, o_bid, o_bl, o_bld, o_sl, o_i2l, o_l2i, o_dup, o_dup2, o_pop, o_pop2, o_if, o_i2, o_l2, swg, o_sw, o_gI, o_gZ, o_gJ, o_gA, o_gR, o_pI, o_pZ, o_pJ, o_pR, o_ia, o_iak, o_zak, o_ja, o_jak, o_is_, o_isk, o_zsk, o_js_, o_jsk, o_len, o_ri, o_rz, o_rl, o_rv, ls1, ls2, lks, lkj, List.getD_cons_zero, List.getD_cons_succ, List.set_cons_zero, List.set_cons_succ, qcat, true_and, and_true, List.map_nil, List.map_cons, List.sum_nil, List.sum_cons, Nat.reduceAdd, Nat.reduceLeDiff, Nat.zero_le, Int.reduceAdd, Int.reduceNeg, Int.reduceEq, or_true, true_or, Decidable.not_not, false_implies, not_false_eq_true, true_implies, not_true_eq_false, Int.reduceLT, Int.reduceLE]
    exact ⟨fun _ => S.fg (ls' := [some (.inr (.inr 900)), some (.inl 0), none, none, none, none]) ⟨rfl, rfl, trivial⟩ K, fun h => by omega⟩
  | succ m ih =>
    intro k hk
    refine s_M_check_18 S Q _ _ _ ?_
    simp only [k_M_check_0, k_M_check_7, k_M_check_9, k_M_check_18, k_M_check_23, k_M_check_37, k_M_check_40, k_M_check_63, k_M_check_74, k_M_check_90, k_M_check_121, k_M_check_124, k_M_check_130, k_M_check_132, k_M_check_145, k_M_check_154, k_M_check_167, k_M_check_170, k_M_check_176, oc_M_job, oc_M_splits, oc_M_sumOf, o_c, o_il, o_ll, o_al, o_is, o_as, o_ls, o_inc, o_bi, o_bid, o_bl, o_bld, o_sl, o_i2l, o_l2i, o_dup, o_dup2, o_pop, o_pop2, o_if, o_i2, o_l2, swg, o_sw, o_gI, o_gZ, o_gJ, o_gA, o_gR, o_pI, o_pZ, o_pJ, o_pR, o_ia, o_iak, o_zak, o_ja, o_jak, o_is_, o_isk, o_zsk, o_js_, o_jsk, o_len, o_ri, o_rz, o_rl, o_rv, ls1, ls2, lks, lkj, List.getD_cons_zero, List.getD_cons_succ, List.set_cons_zero, List.set_cons_succ, qcat, true_and, and_true, List.map_nil, List.map_cons, List.sum_nil, List.sum_cons, Nat.reduceAdd, Nat.reduceLeDiff, Nat.zero_le, Int.reduceAdd, Int.reduceNeg, Int.reduceEq, or_true, true_or, Decidable.not_not, false_implies, not_false_eq_true, true_implies, not_true_eq_false, Int.reduceLT, Int.reduceLE]
    rw [w32_i ((k : Int) + 1) (by omega) (by omega)]
    have nx := ih (k + 1) (by omega)
    have fg : ∀ a b, WW 18 [] [some (.inr (.inr 900)), some (.inl 0), some (.inl (spl σ)), some (.inl ((k : Int) + 1)), a, b] σ := fun a b => S.fg (ls' := [some (.inr (.inr 900)), some (.inl 0), some (.inl (spl σ)), some (.inl ((k + 1 : Nat) : Int)), none, none]) ⟨rfl, rfl, rfl, rfl, trivial⟩ nx
    refine ⟨fun h => by omega, fun _ => ⟨by omega, fun hb => ?_, fun hb => fg _ _⟩⟩
    obtain ⟨c1, c2, c3, c4, c5, c6⟩ := hs k (by omega) (by omega) hb
    have e1 : z_add (z_mul (σ 33 k) 38) (k : Int) = σ 33 k * 38 + k := by unfold z_add z_mul; rw [w32_i (σ 33 k * 38) (by omega) (by omega), w32_i _ (by omega) (by omega)]
    rw [e1]
    refine ⟨c1, fun h => absurd c2 h, fun _ => ⟨by omega, fun h => absurd h c3, fun _ => ⟨by omega, by omega, fun h => absurd c4 h, fun _ => ⟨by omega, by omega, by omega, ⟨c1, c5⟩, fun r σ1 q1 => ?_⟩⟩⟩⟩
    obtain ⟨e9, rfl⟩ := q1; replace e9 := e9.symm; subst e9
    exact ⟨fun _ => fg _ _, fun h => absurd c6 h⟩
theorem w_M_check {l : Launch} {ad : Nat → Nat} {D : va_G} {cA : Nat → ClassId} {WW : Nat → qP} {QR : Option qA → qS → Prop} (S : qSnd l rm_M_check ad D cA R_M b_M_check 6 WW) (Q : qRet (some .int) b_M_check WW QR)  (σ : qS)  (hσ : qoS σ) (h : P_M_check  σ) (hq : ∀ (r : Int) σ', Q_M_check  σ r σ' → QR (some (.inl r)) σ') : WW 0 [] [some (.inr (.inr 900)), none, none, none, none, none] σ := by
  refine s_M_check_0 S Q _ _ _ ?_
  simp only [k_M_check_0, k_M_check_7, k_M_check_9, k_M_check_18, k_M_check_23, k_M_check_37, k_M_check_40, k_M_check_63, k_M_check_74, k_M_check_90, k_M_check_121, k_M_check_124, k_M_check_130, k_M_check_132, k_M_check_145, k_M_check_154, k_M_check_167, k_M_check_170, k_M_check_176, oc_M_job, oc_M_splits, oc_M_sumOf, o_c, o_il, o_ll, o_al, o_is, o_as, o_ls, o_inc, o_bi, o_bid, o_bl, o_bld, o_sl, o_i2l, o_l2i, o_dup, o_dup2, o_pop, o_pop2, o_if, o_i2, o_l2, swg, o_sw, o_gI, o_gZ, o_gJ, o_gA, o_gR, o_pI, o_pZ, o_pJ, o_pR, o_ia, o_iak, o_zak, o_ja, o_jak, o_is_, o_isk, o_zsk, o_js_, o_jsk, o_len, o_ri, o_rz, o_rl, o_rv, ls1, ls2, lks, lkj, List.getD_cons_zero, List.getD_cons_succ, List.set_cons_zero, List.set_cons_succ, qcat, true_and, and_true, List.map_nil, List.map_cons, List.sum_nil, List.sum_cons, Nat.reduceAdd, Nat.reduceLeDiff, Nat.zero_le, Int.reduceAdd, Int.reduceNeg, Int.reduceEq, or_true, true_or, Decidable.not_not, false_implies, not_false_eq_true, true_implies, not_true_eq_false, Int.reduceLT, Int.reduceLE]
  refine fun _ => ⟨fun h0 => ?_, fun h0 => hq _ _ ⟨rfl, rfl⟩⟩
  obtain ⟨hj, hs, hc⟩ := h h0
  refine ⟨hj, fun r σ1 q1 => ?_⟩
  obtain ⟨e9, rfl⟩ := q1; replace e9 := e9.symm; subst e9
  have sb := spl_b hj
  have hpar := hj.2.2.2.2.2.1
  refine v_M_check_18 S Q σ hj hs ?_ (spl σ).toNat 0 (by omega)
  refine s_M_check_130 S Q _ _ _ ?_
  simp only [k_M_check_0, k_M_check_7, k_M_check_9, k_M_check_18, k_M_check_23, k_M_check_37, k_M_check_40, k_M_check_63, k_M_check_74, k_M_check_90, k_M_check_121, k_M_check_124, k_M_check_130, k_M_check_132, k_M_check_145, k_M_check_154, k_M_check_167, k_M_check_170, k_M_check_176, oc_M_job, oc_M_splits, oc_M_sumOf, o_c, o_il, o_ll, o_al, o_is, o_as, o_ls, o_inc, o_bi, o_bid, o_bl, o_bld, o_sl, o_i2l, o_l2i, o_dup, o_dup2, o_pop, o_pop2, o_if, o_i2, o_l2, swg, o_sw, o_gI, o_gZ, o_gJ, o_gA, o_gR, o_pI, o_pZ, o_pJ, o_pR, o_ia, o_iak, o_zak, o_ja, o_jak, o_is_, o_isk, o_zsk, o_js_, o_jsk, o_len, o_ri, o_rz, o_rl, o_rv, ls1, ls2, lks, lkj, List.getD_cons_zero, List.getD_cons_succ, List.set_cons_zero, List.set_cons_succ, qcat, true_and, and_true, List.map_nil, List.map_cons, List.sum_nil, List.sum_cons, Nat.reduceAdd, Nat.reduceLeDiff, Nat.zero_le, Int.reduceAdd, Int.reduceNeg, Int.reduceEq, or_true, true_or, Decidable.not_not, false_implies, not_false_eq_true, true_implies, not_true_eq_false, Int.reduceLT, Int.reduceLE]
  exact v_M_check_132 S Q σ hj hc (hq _ _ ⟨rfl, rfl⟩) (σ 13 (jb σ)).toNat 0 (by omega)
theorem c_M_check (l : Launch) (ad : Nat → Nat) (D : va_G) (cA : Nat → ClassId) : qC l ad D cA y_M_check (Cond.code y_M_check b_M_check 6 (some .int) :: lw_g) rm_M_check pre_M_check post_M_check := by
  refine qC_of (own := R_M) (by decide) rfl ⟨rfl, rfl⟩ ?_ ?_
  · intro av σ h; unfold pre_M_check at h; split at h
    · simp [qen]
    · exact h.elim
  · intro WW QR S Q av σ hav hσ h hq; unfold pre_M_check at h; split at h
    next o =>
      obtain ⟨rfl, h⟩ := h
      exact w_M_check S Q  σ  hσ h (fun r σ' h' => hq _ σ' h')
    next => exact h.elim

