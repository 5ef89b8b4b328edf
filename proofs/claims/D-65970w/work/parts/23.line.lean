abbrev Ms : Type := Int × List Int × List (Int × Int)
def mg (σ : qS) (m : Int) : Ms := (σ 44 m, (List.range 6).map (fun j : Nat => σ 45 (m * 6 + j)), (List.range 8).map (fun j : Nat => (σ 46 (m * 8 + j), σ 47 (m * 8 + j))))
theorem mg_of {σ σ' : qS} {m m' : Int} (h1 : σ' 44 m' = σ 44 m) (h2 : ∀ j : Int, 0 ≤ j → j < 6 → σ' 45 (m' * 6 + j) = σ 45 (m * 6 + j)) (h3 : ∀ j : Int, 0 ≤ j → j < 8 → σ' 46 (m' * 8 + j) = σ 46 (m * 8 + j) ∧ σ' 47 (m' * 8 + j) = σ 47 (m * 8 + j)) : mg σ' m' = mg σ m := by
  unfold mg
  rw [h1]
  congr 2
  · apply List.map_congr_left
    intro j hj
    have := List.mem_range.mp hj
    exact h2 j (by omega) (by omega)
  · apply List.map_congr_left
    intro j hj
    have := List.mem_range.mp hj
    obtain ⟨a, b⟩ := h3 j (by omega) (by omega)
    rw [a, b]
def F_l4 (σ σ' : qS) : Prop := ∀ k, k ∉ [44, 45, 46, 47] → σ' k = σ k
def F_ln (σ σ' : qS) : Prop := ∀ k, k ∉ [44, 45, 46, 47, 48] → σ' k = σ k
theorem F_l4.rf (σ : qS) : F_l4 σ σ := fun _ _ => rfl
theorem F_ln.rf (σ : qS) : F_ln σ σ := fun _ _ => rfl
theorem F_l4.tr {σ σ1 σ2 : qS} (h : F_l4 σ σ1) (h' : F_l4 σ1 σ2) : F_l4 σ σ2 := fun k hk => (h' k hk).trans (h k hk)
theorem F_ln.tr {σ σ1 σ2 : qS} (h : F_ln σ σ1) (h' : F_ln σ1 σ2) : F_ln σ σ2 := fun k hk => (h' k hk).trans (h k hk)
theorem F_l4.ln {σ σ' : qS} (h : F_l4 σ σ') : F_ln σ σ' := fun k hk => h k (fun e => hk (by simp only [List.mem_cons, List.not_mem_nil, or_false] at e ⊢; omega))
theorem F_ln.su {σ : qS} {k : Nat} {i v : Int} (h : k ∈ [44, 45, 46, 47, 48]) : F_ln σ (su σ k i v) := fun q hq => su_k (by intro e; subst e; exact hq h)
def ln (σ : qS) : List Ms := (List.range (σ 48 0).toNat).map (fun m : Nat => mg σ m)
theorem ln_len (σ : qS) : (ln σ).length = (σ 48 0).toNat := by simp [ln]
theorem ln_at {σ : qS} {i : Nat} (h : (i : Int) < σ 48 0) : (ln σ)[i]? = some (mg σ i) := by
  unfold ln; rw [List.getElem?_map, List.getElem?_range (by omega)]; rfl
theorem ln_no {σ : qS} {i : Nat} (h : ¬ (i : Int) < σ 48 0) : (ln σ)[i]? = none := List.getElem?_eq_none (by rw [ln_len]; omega)
theorem su_ra {σ : qS} {k k' : Nat} {lo hi i v : Int} {f : Int → Int} (h : k' ≠ k) : su (ra σ k lo hi f) k' i v = ra (su σ k' i v) k lo hi f := by
  funext q j
  unfold su ra
  by_cases e : q = k'
  · subst e; by_cases e2 : j = i <;> simp [e2, h]
  · by_cases e2 : q = k <;> simp [e, e2]
    subst e2; simp [e]
def P_M_copy (f t : Int) (_σ : qS) : Prop := (0 ≤ f ∧ f < 96) ∧ (0 ≤ t ∧ t < 96) ∧ f ≠ t
def Q_M_copy (f t : Int) (σ σ' : qS) : Prop := F_l4 σ σ' ∧ mg σ' t = mg σ f ∧ ∀ m, 0 ≤ m → m < 96 → m ≠ t → mg σ' m = mg σ m
def pre_M_copy (av : List qA) (σ : qS) : Prop := match av with
  | [.inr (.inr o), .inl a1, .inl a2] => o = 900 ∧ P_M_copy a1 a2 σ
  | _ => False
def post_M_copy (av : List qA) (σ : qS) (r : Option qA) (σ' : qS) : Prop := match av, r with
  | [_, .inl a1, .inl a2], none => Q_M_copy a1 a2 σ σ'
  | _, _ => False
def oc_M_copy (K : qP) : qP := fun st ls σ => match st with
  | .inl a2 :: .inl a1 :: .inr (.inr o) :: st => o = 900 ∧ (st.map qcat).sum ≤ 8 ∧ P_M_copy a1 a2 σ ∧ ∀ (σ' : qS), Q_M_copy a1 a2 σ σ' → K st ls σ'
  | _ => False
def rm_M_copy : Room := { frames := 0, cells := 0, slots := 0, locals := 0 }
theorem fl_M_93 : qF R_M 900 0 82 0 R_M F_M 93 44 := ⟨Or.inl ⟨rfl, rfl, rfl, rfl, rfl, rfl⟩, by decide, lw_at 122 (by decide +kernel) rfl⟩
theorem fl_M_96 : qF R_M 900 0 82 0 R_M F_M 96 45 := ⟨Or.inl ⟨rfl, rfl, rfl, rfl, rfl, rfl⟩, by decide, lw_at 123 (by decide +kernel) rfl⟩
theorem fl_M_99 : qF R_M 900 0 82 0 R_M F_M 99 46 := ⟨Or.inl ⟨rfl, rfl, rfl, rfl, rfl, rfl⟩, by decide, lw_at 124 (by decide +kernel) rfl⟩
theorem fl_M_102 : qF R_M 900 0 82 0 R_M F_M 102 47 := ⟨Or.inl ⟨rfl, rfl, rfl, rfl, rfl, rfl⟩, by decide, lw_at 125 (by decide +kernel) rfl⟩
def k_M_copy_106 (QR : Option qA → qS → Prop) (H : Nat → qP) : qP :=
  o_rv QR
def k_M_copy_56 (QR : Option qA → qS → Prop) (H : Nat → qP) : qP :=
  o_al 0 <| o_gA 900 46 <| o_il 2 <| o_c (.inl 8) <| o_bi z_mul <| o_il 3 <| o_bi z_add <| o_al 0 <| o_gA 900 46 <| o_il 1 <| o_c (.inl 8) <| o_bi z_mul <| o_il 3 <| o_bi z_add <| o_jak 46 768 <| o_jsk 46 768 <| o_al 0 <| o_gA 900 47 <| o_il 2 <| o_c (.inl 8) <| o_bi z_mul <| o_il 3 <| o_bi z_add <| o_al 0 <| o_gA 900 47 <| o_il 1 <| o_c (.inl 8) <| o_bi z_mul <| o_il 3 <| o_bi z_add <| o_jak 47 768 <| o_jsk 47 768 <| o_inc 3 1 <| H 50
def k_M_copy_50 (QR : Option qA → qS → Prop) (H : Nat → qP) : qP :=
  o_il 3 <| o_c (.inl 8) <| o_i2 (fun a b => b ≤ a) (k_M_copy_106 QR H) (k_M_copy_56 QR H)
def k_M_copy_48 (QR : Option qA → qS → Prop) (H : Nat → qP) : qP :=
  o_c (.inl 0) <| o_is 3 <| H 50
def k_M_copy_20 (QR : Option qA → qS → Prop) (H : Nat → qP) : qP :=
  o_al 0 <| o_gA 900 45 <| o_il 2 <| o_c (.inl 6) <| o_bi z_mul <| o_il 3 <| o_bi z_add <| o_al 0 <| o_gA 900 45 <| o_il 1 <| o_c (.inl 6) <| o_bi z_mul <| o_il 3 <| o_bi z_add <| o_iak 45 576 <| o_isk 45 576 <| o_inc 3 1 <| H 14
def k_M_copy_14 (QR : Option qA → qS → Prop) (H : Nat → qP) : qP :=
  o_il 3 <| o_c (.inl 6) <| o_i2 (fun a b => b ≤ a) (k_M_copy_48 QR H) (k_M_copy_20 QR H)
def k_M_copy_0 (QR : Option qA → qS → Prop) (H : Nat → qP) : qP :=
  o_al 0 <| o_gA 900 44 <| o_il 2 <| o_al 0 <| o_gA 900 44 <| o_il 1 <| o_iak 44 96 <| o_isk 44 96 <| o_c (.inl 0) <| o_is 3 <| H 14
set_option maxRecDepth 8000 in
theorem s_M_copy_106 {l : Launch} {ad : Nat → Nat} {D : va_G} {cA : Nat → ClassId} {WW : Nat → qP} {QR : Option qA → qS → Prop} (S : qSnd l rm_M_copy ad D cA R_M b_M_copy 4 WW) (Q : qRet (none) b_M_copy WW QR) : qle (k_M_copy_106 QR WW) WW 106 :=
  Q.2.2.2 rfl _ d_M_copy_106
set_option maxRecDepth 8000 in
theorem s_M_copy_56 {l : Launch} {ad : Nat → Nat} {D : va_G} {cA : Nat → ClassId} {WW : Nat → qP} {QR : Option qA → qS → Prop} (S : qSnd l rm_M_copy ad D cA R_M b_M_copy 4 WW) (Q : qRet (none) b_M_copy WW QR) : qle (k_M_copy_56 QR WW) WW 56 :=
  S.aload_n d_M_copy_56 rfl <| S.gA fl_M_99 (by decide) d_M_copy_57 <| S.iload_n d_M_copy_60 rfl <| S.bipush d_M_copy_61 (by decide) <| S.imul d_M_copy_63 <| S.iload_n d_M_copy_64 rfl <| S.iadd d_M_copy_65 <| S.aload_n d_M_copy_66 rfl <| S.gA fl_M_99 (by decide) d_M_copy_67 <| S.iload_n d_M_copy_70 rfl <| S.bipush d_M_copy_71 (by decide) <| S.imul d_M_copy_73 <| S.iload_n d_M_copy_74 rfl <| S.iadd d_M_copy_75 <| S.jak (by decide) d_M_copy_76 <| S.jsk (by decide) d_M_copy_77 <| S.aload_n d_M_copy_78 rfl <| S.gA fl_M_102 (by decide) d_M_copy_79 <| S.iload_n d_M_copy_82 rfl <| S.bipush d_M_copy_83 (by decide) <| S.imul d_M_copy_85 <| S.iload_n d_M_copy_86 rfl <| S.iadd d_M_copy_87 <| S.aload_n d_M_copy_88 rfl <| S.gA fl_M_102 (by decide) d_M_copy_89 <| S.iload_n d_M_copy_92 rfl <| S.bipush d_M_copy_93 (by decide) <| S.imul d_M_copy_95 <| S.iload_n d_M_copy_96 rfl <| S.iadd d_M_copy_97 <| S.jak (by decide) d_M_copy_98 <| S.jsk (by decide) d_M_copy_99 <| S.iinc d_M_copy_100 (by decide) <| S.goto d_M_copy_103 (by decide) (fun _ _ _ h => h)
set_option maxRecDepth 8000 in
theorem s_M_copy_50 {l : Launch} {ad : Nat → Nat} {D : va_G} {cA : Nat → ClassId} {WW : Nat → qP} {QR : Option qA → qS → Prop} (S : qSnd l rm_M_copy ad D cA R_M b_M_copy 4 WW) (Q : qRet (none) b_M_copy WW QR) : qle (k_M_copy_50 QR WW) WW 50 :=
  S.iload_n d_M_copy_50 rfl <| S.bipush d_M_copy_51 (by decide) <| S.icmp_ge d_M_copy_53 (by decide) (s_M_copy_106 S Q) (s_M_copy_56 S Q)
set_option maxRecDepth 8000 in
theorem s_M_copy_48 {l : Launch} {ad : Nat → Nat} {D : va_G} {cA : Nat → ClassId} {WW : Nat → qP} {QR : Option qA → qS → Prop} (S : qSnd l rm_M_copy ad D cA R_M b_M_copy 4 WW) (Q : qRet (none) b_M_copy WW QR) : qle (k_M_copy_48 QR WW) WW 48 :=
  S.iconst d_M_copy_48 (by decide) <| S.istore_n d_M_copy_49 rfl (by decide) <| (fun _ _ _ h => h)
set_option maxRecDepth 8000 in
theorem s_M_copy_20 {l : Launch} {ad : Nat → Nat} {D : va_G} {cA : Nat → ClassId} {WW : Nat → qP} {QR : Option qA → qS → Prop} (S : qSnd l rm_M_copy ad D cA R_M b_M_copy 4 WW) (Q : qRet (none) b_M_copy WW QR) : qle (k_M_copy_20 QR WW) WW 20 :=
  S.aload_n d_M_copy_20 rfl <| S.gA fl_M_96 (by decide) d_M_copy_21 <| S.iload_n d_M_copy_24 rfl <| S.bipush d_M_copy_25 (by decide) <| S.imul d_M_copy_27 <| S.iload_n d_M_copy_28 rfl <| S.iadd d_M_copy_29 <| S.aload_n d_M_copy_30 rfl <| S.gA fl_M_96 (by decide) d_M_copy_31 <| S.iload_n d_M_copy_34 rfl <| S.bipush d_M_copy_35 (by decide) <| S.imul d_M_copy_37 <| S.iload_n d_M_copy_38 rfl <| S.iadd d_M_copy_39 <| S.iak (by decide) d_M_copy_40 <| S.isk (by decide) d_M_copy_41 <| S.iinc d_M_copy_42 (by decide) <| S.goto d_M_copy_45 (by decide) (fun _ _ _ h => h)
set_option maxRecDepth 8000 in
theorem s_M_copy_14 {l : Launch} {ad : Nat → Nat} {D : va_G} {cA : Nat → ClassId} {WW : Nat → qP} {QR : Option qA → qS → Prop} (S : qSnd l rm_M_copy ad D cA R_M b_M_copy 4 WW) (Q : qRet (none) b_M_copy WW QR) : qle (k_M_copy_14 QR WW) WW 14 :=
  S.iload_n d_M_copy_14 rfl <| S.bipush d_M_copy_15 (by decide) <| S.icmp_ge d_M_copy_17 (by decide) (s_M_copy_48 S Q) (s_M_copy_20 S Q)
set_option maxRecDepth 8000 in
theorem s_M_copy_0 {l : Launch} {ad : Nat → Nat} {D : va_G} {cA : Nat → ClassId} {WW : Nat → qP} {QR : Option qA → qS → Prop} (S : qSnd l rm_M_copy ad D cA R_M b_M_copy 4 WW) (Q : qRet (none) b_M_copy WW QR) : qle (k_M_copy_0 QR WW) WW 0 :=
  S.aload_n d_M_copy_0 rfl <| S.gA fl_M_93 (by decide) d_M_copy_1 <| S.iload_n d_M_copy_4 rfl <| S.aload_n d_M_copy_5 rfl <| S.gA fl_M_93 (by decide) d_M_copy_6 <| S.iload_n d_M_copy_9 rfl <| S.iak (by decide) d_M_copy_10 <| S.isk (by decide) d_M_copy_11 <| S.iconst d_M_copy_12 (by decide) <| S.istore_n d_M_copy_13 rfl (by decide) <| (fun _ _ _ h => h)
def cp1 (σ : qS) (f t k : Int) : qS := ra (su σ 44 t (σ 44 f)) 45 (t * 6) (t * 6 + k) (fun i => σ 45 (i - t * 6 + f * 6))
def cp2 (σ : qS) (f t k : Int) : qS := ra (ra (cp1 σ f t 6) 46 (t * 8) (t * 8 + k) (fun i => σ 46 (i - t * 8 + f * 8))) 47 (t * 8) (t * 8 + k) (fun i => σ 47 (i - t * 8 + f * 8))
theorem cp2_ok {σ : qS} {f t : Int} (h : P_M_copy f t σ) : Q_M_copy f t σ (cp2 σ f t 8) := by
  obtain ⟨h1, h2, h3⟩ := h
  refine ⟨fun k hk => ?_, ?_, fun m m0 m1 m2 => ?_⟩
  · unfold cp2 cp1
    rw [ra_k (by intro e; subst e; exact hk (by decide)), ra_k (by intro e; subst e; exact hk (by decide)), ra_k (by intro e; subst e; exact hk (by decide)), su_k (by intro e; subst e; exact hk (by decide))]
  · apply mg_of
    · unfold cp2 cp1; simp (disch := omega) only [ra_k, su_s]
    · intro j j0 j1; unfold cp2 cp1; simp (disch := omega) only [ra_k]; rw [ra_e, if_pos (by omega)]; congr 1; omega
    · intro j j0 j1; unfold cp2 cp1; simp (disch := omega) only [ra_k]; rw [ra_e, ra_e, if_pos (by omega), if_pos (by omega)]; constructor <;> (congr 1; omega)
  · apply mg_of
    · unfold cp2 cp1; simp (disch := omega) only [ra_k]; rw [su_e, if_neg m2]
    · intro j j0 j1; unfold cp2 cp1; simp (disch := omega) only [ra_k]; rw [ra_e, if_neg (by omega), su_k (by decide)]
    · intro j j0 j1; unfold cp2 cp1; simp (disch := omega) only [ra_k]; rw [ra_e, ra_e, if_neg (by omega), if_neg (by omega)]; simp (disch := omega) only [ra_k, su_k]; exact ⟨trivial, trivial⟩
theorem z_m6 {a k : Int} (h1 : 0 ≤ a ∧ a < 96) (h2 : 0 ≤ k ∧ k < 10) : z_add (z_mul a 6) k = a * 6 + k := by unfold z_add z_mul; rw [w32_i (a * 6) (by omega) (by omega), w32_i _ (by omega) (by omega)]
theorem z_m8 {a k : Int} (h1 : 0 ≤ a ∧ a < 96) (h2 : 0 ≤ k ∧ k < 10) : z_add (z_mul a 8) k = a * 8 + k := by unfold z_add z_mul; rw [w32_i (a * 8) (by omega) (by omega), w32_i _ (by omega) (by omega)]
theorem v_M_copy_50 {l : Launch} {ad : Nat → Nat} {D : va_G} {cA : Nat → ClassId} {WW : Nat → qP} {QR : Option qA → qS → Prop} (S : qSnd l rm_M_copy ad D cA R_M b_M_copy 4 WW) (Q : qRet (none) b_M_copy WW QR) (σ : qS) (f t : Int) (hp : P_M_copy f t σ) (hq : QR none (cp2 σ f t 8)) : ∀ (n k : Nat), k + n = 8 → WW 50 [] [some (.inr (.inr 900)), some (.inl f), some (.inl t), some (.inl k)] (cp2 σ f t k) := by
  obtain ⟨h1, h2, h3⟩ := hp
  intro n
  induction n with
  | zero =>
    intro k hk
    refine s_M_copy_50 S Q _ _ _ ?_
    simp only [k_M_copy_0, k_M_copy_14, k_M_copy_20, k_M_copy_48, k_M_copy_50, k_M_copy_56, k_M_copy_106, o_c, o_il, o_ll, o_al, o_is, o_as, o_ls, o_inc, o_bi, o_bid, o_bl, o_bld, o_sl, o_i2l, o_l2i, o_dup, o_dup2, o_pop, o_pop2, o_if, o_i2, o_l2, swg, o_sw, o_gI, o_gZ, o_gJ, o_gA, o_gR, o_pI, o_pZ, o_pJ, o_pR, o_ia, o_iak, o_zak, o_ja, o_jak, o_is_, o_isk, o_zsk, o_js_, o_jsk, o_len, o_ri, o_rz, o_rl, o_rv, ls1, ls2, lks, lkj, List.getD_cons_zero, List.getD_cons_succ, List.set_cons_zero, List.set_cons_succ, qcat, true_and, and_true, List.map_nil, List.map_cons, List.sum_nil, List.sum_cons, Nat.reduceAdd, Nat.reduceLeDiff, Nat.zero_le, Int.reduceAdd, Int.reduceNeg, Int.reduceEq, or_true, true_or, Decidable.not_not]
    have : (k : Int) = 8 := by omega
    rw [this]
    exact ⟨fun _ => hq, fun h => by omega⟩
  | succ n ih =>
    intro k hk
    refine s_M_copy_50 S Q _ _ _ ?_
    simp only [k_M_copy_0, k_M_copy_14, k_M_copy_20, k_M_copy_48, k_M_copy_50, k_M_copy_56, k_M_copy_106, o_c, o_il, o_ll, o_al, o_is, o_as, o_ls, o_inc, o_bi, o_bid, o_bl, o_bld, o_sl, o_i2l, o_l2i, o_dup, o_dup2, o_pop, o_pop2, o_if, o_i2, o_l2, swg, o_sw, o_gI, o_gZ, o_gJ, o_gA, o_gR, o_pI, o_pZ, o_pJ, o_pR, o_ia, o_iak, o_zak, o_ja, o_jak, o_is_, o_isk, o_zsk, o_js_, o_jsk, o_len, o_ri, o_rz, o_rl, o_rv, ls1, ls2, lks, lkj, List.getD_cons_zero, List.getD_cons_succ, List.set_cons_zero, List.set_cons_succ, qcat, true_and, and_true, List.map_nil, List.map_cons, List.sum_nil, List.sum_cons, Nat.reduceAdd, Nat.reduceLeDiff, Nat.zero_le, Int.reduceAdd, Int.reduceNeg, Int.reduceEq, or_true, true_or, Decidable.not_not]
    rw [z_m8 h1 (by omega), z_m8 h2 (by omega), w32_i _ (by omega) (by omega)]
    refine ⟨fun h => by omega, fun h => ⟨by omega, by omega, by omega, by omega, ?_⟩⟩
    have e1 : cp2 σ f t k 46 (f * 8 + k) = σ 46 (f * 8 + k) := by
      unfold cp2 cp1; simp (disch := omega) only [ra_k]; rw [ra_e, if_neg (by omega)]; simp (disch := omega) only [ra_k, su_k]
    have e2 : cp2 σ f t k 47 (f * 8 + k) = σ 47 (f * 8 + k) := by
      unfold cp2 cp1; rw [ra_e, if_neg (by omega)]; simp (disch := omega) only [ra_k, su_k]
    rw [su_k (by decide), e1, e2]
    have e3 : su (su (cp2 σ f t k) 46 (t * 8 + k) (σ 46 (f * 8 + k))) 47 (t * 8 + k) (σ 47 (f * 8 + k)) = cp2 σ f t ((k + 1 : Nat) : Int) := by
      unfold cp2
      rw [su_ra (by decide), ra_s (by omega) (by congr 1; omega), ra_s (by omega) (by congr 1; omega)]
      rw [show t * 8 + ((k + 1 : Nat) : Int) = t * 8 + (k : Int) + 1 by omega]
    rw [e3]
    exact ih (k + 1) (by omega)
theorem v_M_copy_14 {l : Launch} {ad : Nat → Nat} {D : va_G} {cA : Nat → ClassId} {WW : Nat → qP} {QR : Option qA → qS → Prop} (S : qSnd l rm_M_copy ad D cA R_M b_M_copy 4 WW) (Q : qRet (none) b_M_copy WW QR) (σ : qS) (f t : Int) (hp : P_M_copy f t σ) (hq : QR none (cp2 σ f t 8)) : ∀ (n k : Nat), k + n = 6 → WW 14 [] [some (.inr (.inr 900)), some (.inl f), some (.inl t), some (.inl k)] (cp1 σ f t k) := by
  have hp' := hp
  obtain ⟨h1, h2, h3⟩ := hp
  intro n
  induction n with
  | zero =>
    intro k hk
    refine s_M_copy_14 S Q _ _ _ ?_
    simp only [k_M_copy_0, k_M_copy_14, k_M_copy_20, k_M_copy_48, k_M_copy_50, k_M_copy_56, k_M_copy_106, o_c, o_il, o_ll, o_al, o_is, o_as, o_ls, o_inc, o_bi, o_bid, o_bl, o_bld, o_sl, o_i2l, o_l2i, o_dup, o_dup2, o_pop, o_pop2, o_if, o_i2, o_l2, swg, o_sw, o_gI, o_gZ, o_gJ, o_gA, o_gR, o_pI, o_pZ, o_pJ, o_pR, o_ia, o_iak, o_zak, o_ja, o_jak, o_is_, o_isk, o_zsk, o_js_, o_jsk, o_len, o_ri, o_rz, o_rl, o_rv, ls1, ls2, lks, lkj, List.getD_cons_zero, List.getD_cons_succ, List.set_cons_zero, List.set_cons_succ, qcat, true_and, and_true, List.map_nil, List.map_cons, List.sum_nil, List.sum_cons, Nat.reduceAdd, Nat.reduceLeDiff, Nat.zero_le, Int.reduceAdd, Int.reduceNeg, Int.reduceEq, or_true, true_or, Decidable.not_not]
    have : (k : Int) = 6 := by omega
    rw [this]
    refine ⟨fun _ => ?_, fun h => by omega⟩
    have := v_M_copy_50 S Q σ f t hp' hq 8 0 rfl
    have e : cp2 σ f t ((0 : Nat) : Int) = cp1 σ f t 6 := by unfold cp2; rw [ra_0 (by simp), ra_0 (by simp)]
    rw [e] at this
    exact this
  | succ n ih =>
    intro k hk
    refine s_M_copy_14 S Q _ _ _ ?_
    simp only [k_M_copy_0, k_M_copy_14, k_M_copy_20, k_M_copy_48, k_M_copy_50, k_M_copy_56, k_M_copy_106, o_c, o_il, o_ll, o_al, o_is, o_as, o_ls, o_inc, o_bi, o_bid, o_bl, o_bld, o_sl, o_i2l, o_l2i, o_dup, o_dup2, o_pop, o_pop2, o_if, o_i2, o_l2, swg, o_sw, o_gI, o_gZ, o_gJ, o_gA, o_gR, o_pI, o_pZ, o_pJ, o_pR, o_ia, o_iak, o_zak, o_ja, o_jak, o_is_, o_isk, o_zsk, o_js_, o_jsk, o_len, o_ri, o_rz, o_rl, o_rv, ls1, ls2, lks, lkj, List.getD_cons_zero, List.getD_cons_succ, List.set_cons_zero, List.set_cons_succ, qcat, true_and, and_true, List.map_nil, List.map_cons, List.sum_nil, List.sum_cons, Nat.reduceAdd, Nat.reduceLeDiff, Nat.zero_le, Int.reduceAdd, Int.reduceNeg, Int.reduceEq, or_true, true_or, Decidable.not_not]
    rw [z_m6 h1 (by omega), z_m6 h2 (by omega), w32_i _ (by omega) (by omega)]
    refine ⟨fun h => by omega, fun h => ⟨by omega, by omega, ?_⟩⟩
    have e1 : cp1 σ f t k 45 (f * 6 + k) = σ 45 (f * 6 + k) := by
      unfold cp1; rw [ra_e, if_neg (by omega), su_k (by decide)]
    rw [e1]
    have e3 : su (cp1 σ f t k) 45 (t * 6 + k) (σ 45 (f * 6 + k)) = cp1 σ f t ((k + 1 : Nat) : Int) := by
      unfold cp1
      rw [ra_s (by omega) (by congr 1; omega), show t * 6 + ((k + 1 : Nat) : Int) = t * 6 + (k : Int) + 1 by omega]
    rw [e3]
    exact ih (k + 1) (by omega)
theorem w_M_copy {l : Launch} {ad : Nat → Nat} {D : va_G} {cA : Nat → ClassId} {WW : Nat → qP} {QR : Option qA → qS → Prop} (S : qSnd l rm_M_copy ad D cA R_M b_M_copy 4 WW) (Q : qRet (none) b_M_copy WW QR) (a1 : Int) (a2 : Int) (σ : qS) (ha1 : r32 a1) (ha2 : r32 a2) (hσ : qoS σ) (h : P_M_copy a1 a2 σ) (hq : ∀ σ', Q_M_copy a1 a2 σ σ' → QR none σ') : WW 0 [] [some (.inr (.inr 900)), some (.inl a1), some (.inl a2), none] σ := by
  refine s_M_copy_0 S Q _ _ _ ?_
  simp only [k_M_copy_0, k_M_copy_14, k_M_copy_20, k_M_copy_48, k_M_copy_50, k_M_copy_56, k_M_copy_106, o_c, o_il, o_ll, o_al, o_is, o_as, o_ls, o_inc, o_bi, o_bid, o_bl, o_bld, o_sl, o_i2l, o_l2i, o_dup, o_dup2, o_pop, o_pop2, o_if, o_i2, o_l2, swg, o_sw, o_gI, o_gZ, o_gJ, o_gA, o_gR, o_pI, o_pZ, o_pJ, o_pR, o_ia, o_iak, o_zak, o_ja, o_jak, o_is_, o_isk, o_zsk, o_js_, o_jsk, o_len, o_ri, o_rz, o_rl, o_rv, ls1, ls2, lks, lkj, List.getD_cons_zero, List.getD_cons_succ, List.set_cons_zero, List.set_cons_succ, qcat, true_and, and_true, List.map_nil, List.map_cons, List.sum_nil, List.sum_cons, Nat.reduceAdd, Nat.reduceLeDiff, Nat.zero_le, Int.reduceAdd, Int.reduceNeg, Int.reduceEq, or_true, true_or, Decidable.not_not]
  have := v_M_copy_14 S Q σ a1 a2 h (hq _ (cp2_ok h)) 6 0 rfl
  have e : cp1 σ a1 a2 ((0 : Nat) : Int) = su σ 44 a2 (σ 44 a1) := by unfold cp1; rw [ra_0 (by simp)]
  rw [e] at this
  exact ⟨h.1, h.2.1, this⟩
theorem c_M_copy (l : Launch) (ad : Nat → Nat) (D : va_G) (cA : Nat → ClassId) : qC l ad D cA y_M_copy (Cond.code y_M_copy b_M_copy 4 (none) :: lw_g) rm_M_copy pre_M_copy post_M_copy := by
  refine qC_of (own := R_M) (by decide) rfl ⟨rfl, rfl⟩ ?_ ?_
  · intro av σ h; unfold pre_M_copy at h; split at h
    · simp [qen]
    · exact h.elim
  · intro WW QR S Q av σ hav hσ h hq; unfold pre_M_copy at h; split at h
    next o a1 a2 =>
      obtain ⟨rfl, h⟩ := h
      exact w_M_copy S Q a1 a2 σ (hav _ (List.mem_of_getElem? (i := 1) rfl)) (hav _ (List.mem_of_getElem? (i := 2) rfl)) hσ h (fun σ' h' => hq _ σ' h')
    next => exact h.elim
def P_M_take (m : Int) (σ : qS) : Prop := 0 ≤ m ∧ m < σ 48 0 ∧ σ 48 0 ≤ 96
def Q_M_take (m : Int) (σ σ' : qS) : Prop := F_ln σ σ' ∧ σ' 48 0 = σ 48 0 - 1 ∧ ln σ' = (ln σ).eraseIdx m.toNat
def pre_M_take (av : List qA) (σ : qS) : Prop := match av with
  | [.inr (.inr o), .inl a1] => o = 900 ∧ P_M_take a1 σ
  | _ => False
def post_M_take (av : List qA) (σ : qS) (r : Option qA) (σ' : qS) : Prop := match av, r with
  | [_, .inl a1], none => Q_M_take a1 σ σ'
  | _, _ => False
def oc_M_take (K : qP) : qP := fun st ls σ => match st with
  | .inl a1 :: .inr (.inr o) :: st => o = 900 ∧ (st.map qcat).sum ≤ 8 ∧ P_M_take a1 σ ∧ ∀ (σ' : qS), Q_M_take a1 σ σ' → K st ls σ'
  | _ => False
def rm_M_take : Room := { frames := 1, cells := 0, slots := 0, locals := 23 }
theorem fl_M_279 : qF R_M 900 0 82 0 R_M F_M 279 48 := ⟨Or.inl ⟨rfl, rfl, rfl, rfl, rfl, rfl⟩, by decide, lw_at 126 (by decide +kernel) rfl⟩
theorem sc_M_291 {l : Launch} {R : Room} {ad : Nat → Nat} {D : va_G} {cA : Nat → ClassId} {cc : ByteArray} {nL : Nat} {WW : Nat → qP} (S : qSnd l R ad D cA R_M cc nL WW) (hR : rm_M_copy.frames + 1 ≤ R.frames ∧ 8 + (4 + 11) + rm_M_copy.locals ≤ R.locals) {K : qP} {pc : Nat} (d : decode cc pc = .ok (.invokevirtual 291, 3)) (h : qle K WW (pc + 3)) : qle (oc_M_copy K) WW pc := by
  intro st ls σ k
  refine S.callV (o := 900) (ci := 0) (N := 82) (base := 0) (C := R_M) (T := F_M) (n := 2) (pre := pre_M_copy) (post := post_M_copy) (Or.inl ⟨rfl, rfl, rfl, rfl, rfl, rfl⟩) ⟨lw_at 584 (by decide +kernel) rfl, lw_at 581 (by decide +kernel) rfl, lw_at 59 (by decide +kernel) rfl, by decide, by decide, by decide +kernel⟩ ⟨lw_at 583 (by decide +kernel) rfl, lw_at 14 (by decide +kernel) rfl⟩ ⟨rfl, rfl⟩ hR (c_M_copy l ad D cA) ?_ d h st ls σ ?_
  · intro av σ h; unfold pre_M_copy at h; split at h
    · obtain ⟨rfl, h⟩ := h; exact ⟨_, rfl⟩
    · exact h.elim
  · unfold oc_M_copy at k
    split at k
    next a2 a1 o st =>
      obtain ⟨rfl, hs, hp, k⟩ := k
      refine ⟨[.inr (.inr 900), .inl a1, .inl a2], st, rfl, rfl, hs, ⟨rfl, hp⟩, fun r σ' hq => ?_⟩
      unfold post_M_copy at hq
      split at hq
      next h1 =>
        cases h1
        exact k _ hq
      next => exact hq.elim
    next => exact k.elim
def k_M_take_26 (QR : Option qA → qS → Prop) (H : Nat → qP) : qP :=
  o_al 0 <| o_dup <| o_gI 900 48 <| o_c (.inl 1) <| o_bi z_sub <| o_pI 900 48 <| o_rv QR
def k_M_take_12 (QR : Option qA → qS → Prop) (H : Nat → qP) : qP :=
  o_al 0 <| o_il 2 <| o_il 2 <| o_c (.inl 1) <| o_bi z_sub <| oc_M_copy <| o_inc 2 1 <| H 4
def k_M_take_4 (QR : Option qA → qS → Prop) (H : Nat → qP) : qP :=
  o_il 2 <| o_al 0 <| o_gI 900 48 <| o_i2 (fun a b => b ≤ a) (k_M_take_26 QR H) (k_M_take_12 QR H)
def k_M_take_0 (QR : Option qA → qS → Prop) (H : Nat → qP) : qP :=
  o_il 1 <| o_c (.inl 1) <| o_bi z_add <| o_is 2 <| H 4
set_option maxRecDepth 8000 in
theorem s_M_take_26 {l : Launch} {ad : Nat → Nat} {D : va_G} {cA : Nat → ClassId} {WW : Nat → qP} {QR : Option qA → qS → Prop} (S : qSnd l rm_M_take ad D cA R_M b_M_take 3 WW) (Q : qRet (none) b_M_take WW QR) : qle (k_M_take_26 QR WW) WW 26 :=
  S.aload_n d_M_take_26 rfl <| S.dup d_M_take_27 <| S.gI fl_M_279 (by decide) d_M_take_28 <| S.iconst d_M_take_31 (by decide) <| S.isub d_M_take_32 <| S.pI fl_M_279 (by decide) (by decide +kernel) d_M_take_33 <| Q.2.2.2 rfl _ d_M_take_36
set_option maxRecDepth 8000 in
theorem s_M_take_12 {l : Launch} {ad : Nat → Nat} {D : va_G} {cA : Nat → ClassId} {WW : Nat → qP} {QR : Option qA → qS → Prop} (S : qSnd l rm_M_take ad D cA R_M b_M_take 3 WW) (Q : qRet (none) b_M_take WW QR) : qle (k_M_take_12 QR WW) WW 12 :=
  S.aload_n d_M_take_12 rfl <| S.iload_n d_M_take_13 rfl <| S.iload_n d_M_take_14 rfl <| S.iconst d_M_take_15 (by decide) <| S.isub d_M_take_16 <| sc_M_291 S (by decide) d_M_take_17 <| S.iinc d_M_take_20 (by decide) <| S.goto d_M_take_23 (by decide) (fun _ _ _ h => h)
set_option maxRecDepth 8000 in
theorem s_M_take_4 {l : Launch} {ad : Nat → Nat} {D : va_G} {cA : Nat → ClassId} {WW : Nat → qP} {QR : Option qA → qS → Prop} (S : qSnd l rm_M_take ad D cA R_M b_M_take 3 WW) (Q : qRet (none) b_M_take WW QR) : qle (k_M_take_4 QR WW) WW 4 :=
  S.iload_n d_M_take_4 rfl <| S.aload_n d_M_take_5 rfl <| S.gI fl_M_279 (by decide) d_M_take_6 <| S.icmp_ge d_M_take_9 (by decide) (s_M_take_26 S Q) (s_M_take_12 S Q)
set_option maxRecDepth 8000 in
theorem s_M_take_0 {l : Launch} {ad : Nat → Nat} {D : va_G} {cA : Nat → ClassId} {WW : Nat → qP} {QR : Option qA → qS → Prop} (S : qSnd l rm_M_take ad D cA R_M b_M_take 3 WW) (Q : qRet (none) b_M_take WW QR) : qle (k_M_take_0 QR WW) WW 0 :=
  S.iload_n d_M_take_0 rfl <| S.iconst d_M_take_1 (by decide) <| S.iadd d_M_take_2 <| S.istore_n d_M_take_3 rfl (by decide) <| (fun _ _ _ h => h)
theorem v_M_take_4 {l : Launch} {ad : Nat → Nat} {D : va_G} {cA : Nat → ClassId} {WW : Nat → qP} {QR : Option qA → qS → Prop} (S : qSnd l rm_M_take ad D cA R_M b_M_take 3 WW) (Q : qRet (none) b_M_take WW QR) (σ0 : qS) (m : Int) (hp : P_M_take m σ0) (hq : ∀ σ', Q_M_take m σ0 σ' → QR none σ') : ∀ (n : Nat) (k : Int) (σ : qS), m < k → k + n = σ0 48 0 → F_l4 σ0 σ → (∀ j, 0 ≤ j → j < m → mg σ j = mg σ0 j) → (∀ j, m ≤ j → j < k - 1 → mg σ j = mg σ0 (j + 1)) → (∀ j, k - 1 ≤ j → j < 96 → mg σ j = mg σ0 j) → WW 4 [] [some (.inr (.inr 900)), some (.inl m), some (.inl k)] σ := by
  obtain ⟨h1, h2, h3⟩ := hp
  intro n
  induction n with
  | zero =>
    intro k σ hk hn hF g1 g2 g3
    refine s_M_take_4 S Q _ _ _ ?_
    simp only [k_M_take_0, k_M_take_4, k_M_take_12, k_M_take_26, oc_M_copy, o_c, o_il, o_ll, o_al, o_is, o_as, o_ls, o_inc, o_bi, o_bid, o_bl, o_bld, o_sl, o_i2l, o_l2i, o_dup, o_dup2, o_pop, o_pop2, o_if, o_i2, o_l2, swg, o_sw, o_gI, o_gZ, o_gJ, o_gA, o_gR, o_pI, o_pZ, o_pJ, o_pR, o_ia, o_iak, o_zak, o_ja, o_jak, o_is_, o_isk, o_zsk, o_js_, o_jsk, o_len, o_ri, o_rz, o_rl, o_rv, ls1, ls2, lks, lkj, List.getD_cons_zero, List.getD_cons_succ, List.set_cons_zero, List.set_cons_succ, qcat, true_and, and_true, List.map_nil, List.map_cons, List.sum_nil, List.sum_cons, Nat.reduceAdd, Nat.reduceLeDiff, Nat.zero_le, Int.reduceAdd, Int.reduceNeg, Int.reduceEq, or_true, true_or, Decidable.not_not]
    have eM : σ 48 0 = σ0 48 0 := by rw [hF _ (by decide)]
    refine ⟨fun _ => hq _ ⟨?_, ?_, ?_⟩, fun h => by omega⟩
    · exact hF.ln.tr (F_ln.su (by decide))
    · rw [su_s, eM]; unfold z_sub; exact w32_i _ (by omega) (by omega)
    · have e0 : su σ 48 0 (z_sub (σ 48 0) 1) 48 0 = σ0 48 0 - 1 := by rw [su_s, eM]; unfold z_sub; exact w32_i _ (by omega) (by omega)
      have emg : ∀ j, mg (su σ 48 0 (z_sub (σ 48 0) 1)) j = mg σ j := fun j => mg_of (by rw [su_k (by decide)]) (fun _ _ _ => by rw [su_k (by decide)]) (fun _ _ _ => by rw [su_k (by decide), su_k (by decide)]; exact ⟨rfl, rfl⟩)
      apply List.ext_getElem?
      intro i
      rw [List.getElem?_eraseIdx]
      by_cases hi : (i : Int) < σ0 48 0 - 1
      · rw [ln_at (by rw [e0]; exact hi), emg]
        split
        next hlt => rw [ln_at (by omega), g1 i (by omega) (by omega)]
        next hlt => rw [ln_at (by omega), g2 i (by omega) (by omega)]; rfl
      · rw [ln_no (by rw [e0]; exact hi)]
        split
        next hlt => omega
        next hlt => rw [ln_no (by omega)]
  | succ n ih =>
    intro k σ hk hn hF g1 g2 g3
    refine s_M_take_4 S Q _ _ _ ?_
    simp only [k_M_take_0, k_M_take_4, k_M_take_12, k_M_take_26, oc_M_copy, o_c, o_il, o_ll, o_al, o_is, o_as, o_ls, o_inc, o_bi, o_bid, o_bl, o_bld, o_sl, o_i2l, o_l2i, o_dup, o_dup2, o_pop, o_pop2, o_if, o_i2, o_l2, swg, o_sw, o_gI, o_gZ, o_gJ, o_gA, o_gR, o_pI, o_pZ, o_pJ, o_pR, o_ia, o_iak, o_zak, o_ja, o_jak, o_is_, o_isk, o_zsk, o_js_, o_jsk, o_len, o_ri, o_rz, o_rl, o_rv, ls1, ls2, lks, lkj, List.getD_cons_zero, List.getD_cons_succ, List.set_cons_zero, List.set_cons_succ, qcat, true_and, and_true, List.map_nil, List.map_cons, List.sum_nil, List.sum_cons, Nat.reduceAdd, Nat.reduceLeDiff, Nat.zero_le, Int.reduceAdd, Int.reduceNeg, Int.reduceEq, or_true, true_or, Decidable.not_not]
    have eM : σ 48 0 = σ0 48 0 := by rw [hF _ (by decide)]
    refine ⟨fun h => by omega, fun h => ?_⟩
    have e1 : z_sub k 1 = k - 1 := by unfold z_sub; exact w32_i _ (by omega) (by omega)
    rw [e1, w32_i _ (by omega) (by omega)]
    refine ⟨⟨by omega, by omega, by omega⟩, fun σ1 q1 => ?_⟩
    obtain ⟨c1, c2, c3⟩ := q1
    refine ih (k + 1) σ1 (by omega) (by omega) (hF.tr c1) (fun j j0 j1 => ?_) (fun j j0 j1 => ?_) (fun j j0 j1 => ?_)
    · rw [c3 j j0 (by omega) (by omega), g1 j j0 j1]
    · by_cases e : j = k - 1
      · subst e; rw [c2, g3 k (by omega) (by omega)]; congr 1; omega
      · rw [c3 j (by omega) (by omega) e, g2 j j0 (by omega)]
    · rw [c3 j (by omega) j1 (by omega), g3 j (by omega) j1]
theorem w_M_take {l : Launch} {ad : Nat → Nat} {D : va_G} {cA : Nat → ClassId} {WW : Nat → qP} {QR : Option qA → qS → Prop} (S : qSnd l rm_M_take ad D cA R_M b_M_take 3 WW) (Q : qRet (none) b_M_take WW QR) (a1 : Int) (σ : qS) (ha1 : r32 a1) (hσ : qoS σ) (h : P_M_take a1 σ) (hq : ∀ σ', Q_M_take a1 σ σ' → QR none σ') : WW 0 [] [some (.inr (.inr 900)), some (.inl a1), none] σ := by
  refine s_M_take_0 S Q _ _ _ ?_
  simp only [k_M_take_0, k_M_take_4, k_M_take_12, k_M_take_26, oc_M_copy, o_c, o_il, o_ll, o_al, o_is, o_as, o_ls, o_inc, o_bi, o_bid, o_bl, o_bld, o_sl, o_i2l, o_l2i, o_dup, o_dup2, o_pop, o_pop2, o_if, o_i2, o_l2, swg, o_sw, o_gI, o_gZ, o_gJ, o_gA, o_gR, o_pI, o_pZ, o_pJ, o_pR, o_ia, o_iak, o_zak, o_ja, o_jak, o_is_, o_isk, o_zsk, o_js_, o_jsk, o_len, o_ri, o_rz, o_rl, o_rv, ls1, ls2, lks, lkj, List.getD_cons_zero, List.getD_cons_succ, List.set_cons_zero, List.set_cons_succ, qcat, true_and, and_true, List.map_nil, List.map_cons, List.sum_nil, List.sum_cons, Nat.reduceAdd, Nat.reduceLeDiff, Nat.zero_le, Int.reduceAdd, Int.reduceNeg, Int.reduceEq, or_true, true_or, Decidable.not_not]
  have hp := h
  obtain ⟨h1, h2, h3⟩ := h
  have e1 : z_add a1 1 = a1 + 1 := by unfold z_add; exact w32_i _ (by omega) (by omega)
  rw [e1]
  exact v_M_take_4 S Q σ a1 hp hq (σ 48 0 - (a1 + 1)).toNat (a1 + 1) σ (by omega) (by omega) (F_l4.rf _) (fun _ _ _ => rfl) (fun j j0 j1 => by omega) (fun _ _ _ => rfl)
theorem c_M_take (l : Launch) (ad : Nat → Nat) (D : va_G) (cA : Nat → ClassId) : qC l ad D cA y_M_take (Cond.code y_M_take b_M_take 3 (none) :: lw_g) rm_M_take pre_M_take post_M_take := by
  refine qC_of (own := R_M) (by decide) rfl ⟨rfl, rfl⟩ ?_ ?_
  · intro av σ h; unfold pre_M_take at h; split at h
    · simp [qen]
    · exact h.elim
  · intro WW QR S Q av σ hav hσ h hq; unfold pre_M_take at h; split at h
    next o a1 =>
      obtain ⟨rfl, h⟩ := h
      exact w_M_take S Q a1 σ (hav _ (List.mem_of_getElem? (i := 1) rfl)) hσ h (fun σ' h' => hq _ σ' h')
    next => exact h.elim
def fmi (σ : qS) (who : Int) : Nat → Int → Int
  | 0, _ => -1
  | n + 1, k => if σ 44 k = who then k else fmi σ who n (k + 1)
def P_M_mail (_who : Int) (σ : qS) : Prop := 0 ≤ σ 48 0 ∧ σ 48 0 ≤ 96
def Q_M_mail (who : Int) (σ : qS) (r : Int) (σ' : qS) : Prop := σ' = σ ∧ ((r = -1 ∧ (ln σ).findIdx? (fun m => m.1 == who) = none) ∨ ∃ i : Nat, r = i ∧ (i : Int) < σ 48 0 ∧ (ln σ).findIdx? (fun m => m.1 == who) = some i)
def pre_M_mail (av : List qA) (σ : qS) : Prop := match av with
  | [.inr (.inr o), .inl a1] => o = 900 ∧ P_M_mail a1 σ
  | _ => False
def post_M_mail (av : List qA) (σ : qS) (r : Option qA) (σ' : qS) : Prop := match av, r with
  | [_, .inl a1], some (.inl r) => Q_M_mail a1 σ r σ'
  | _, _ => False
def oc_M_mail (K : qP) : qP := fun st ls σ => match st with
  | .inl a1 :: .inr (.inr o) :: st => o = 900 ∧ (st.map qcat).sum ≤ 8 ∧ P_M_mail a1 σ ∧ ∀ (r : Int) (σ' : qS), Q_M_mail a1 σ r σ' → K (.inl r :: st) ls σ'
  | _ => False
def rm_M_mail : Room := { frames := 0, cells := 0, slots := 0, locals := 0 }
def k_M_mail_39 (QR : Option qA → qS → Prop) (H : Nat → qP) : qP :=
  o_ri QR
def k_M_mail_38 (QR : Option qA → qS → Prop) (H : Nat → qP) : qP :=
  o_c (.inl (-1)) <| k_M_mail_39 QR H
def k_M_mail_34 (QR : Option qA → qS → Prop) (H : Nat → qP) : qP :=
  o_il 2 <| k_M_mail_39 QR H
def k_M_mail_26 (QR : Option qA → qS → Prop) (H : Nat → qP) : qP :=
  o_il 2 <| o_al 0 <| o_gI 900 48 <| o_i2 (fun a b => b ≤ a) (k_M_mail_38 QR H) (k_M_mail_34 QR H)
def k_M_mail_20 (QR : Option qA → qS → Prop) (H : Nat → qP) : qP :=
  o_inc 2 1 <| H 2
def k_M_mail_10 (QR : Option qA → qS → Prop) (H : Nat → qP) : qP :=
  o_al 0 <| o_gA 900 44 <| o_il 2 <| o_iak 44 96 <| o_il 1 <| o_i2 (fun a b => a = b) (k_M_mail_26 QR H) (k_M_mail_20 QR H)
def k_M_mail_2 (QR : Option qA → qS → Prop) (H : Nat → qP) : qP :=
  o_il 2 <| o_al 0 <| o_gI 900 48 <| o_i2 (fun a b => b ≤ a) (k_M_mail_26 QR H) (k_M_mail_10 QR H)
def k_M_mail_0 (QR : Option qA → qS → Prop) (H : Nat → qP) : qP :=
  o_c (.inl 0) <| o_is 2 <| H 2
set_option maxRecDepth 8000 in
theorem s_M_mail_39 {l : Launch} {ad : Nat → Nat} {D : va_G} {cA : Nat → ClassId} {WW : Nat → qP} {QR : Option qA → qS → Prop} (S : qSnd l rm_M_mail ad D cA R_M b_M_mail 3 WW) (Q : qRet (some .int) b_M_mail WW QR) : qle (k_M_mail_39 QR WW) WW 39 :=
  Q.1 rfl _ d_M_mail_39
set_option maxRecDepth 8000 in
theorem s_M_mail_38 {l : Launch} {ad : Nat → Nat} {D : va_G} {cA : Nat → ClassId} {WW : Nat → qP} {QR : Option qA → qS → Prop} (S : qSnd l rm_M_mail ad D cA R_M b_M_mail 3 WW) (Q : qRet (some .int) b_M_mail WW QR) : qle (k_M_mail_38 QR WW) WW 38 :=
  S.iconst d_M_mail_38 (by decide) <| (s_M_mail_39 S Q)
set_option maxRecDepth 8000 in
theorem s_M_mail_34 {l : Launch} {ad : Nat → Nat} {D : va_G} {cA : Nat → ClassId} {WW : Nat → qP} {QR : Option qA → qS → Prop} (S : qSnd l rm_M_mail ad D cA R_M b_M_mail 3 WW) (Q : qRet (some .int) b_M_mail WW QR) : qle (k_M_mail_34 QR WW) WW 34 :=
  S.iload_n d_M_mail_34 rfl <| S.goto d_M_mail_35 (by decide) (s_M_mail_39 S Q)
set_option maxRecDepth 8000 in
theorem s_M_mail_26 {l : Launch} {ad : Nat → Nat} {D : va_G} {cA : Nat → ClassId} {WW : Nat → qP} {QR : Option qA → qS → Prop} (S : qSnd l rm_M_mail ad D cA R_M b_M_mail 3 WW) (Q : qRet (some .int) b_M_mail WW QR) : qle (k_M_mail_26 QR WW) WW 26 :=
  S.iload_n d_M_mail_26 rfl <| S.aload_n d_M_mail_27 rfl <| S.gI fl_M_279 (by decide) d_M_mail_28 <| S.icmp_ge d_M_mail_31 (by decide) (s_M_mail_38 S Q) (s_M_mail_34 S Q)
set_option maxRecDepth 8000 in
theorem s_M_mail_20 {l : Launch} {ad : Nat → Nat} {D : va_G} {cA : Nat → ClassId} {WW : Nat → qP} {QR : Option qA → qS → Prop} (S : qSnd l rm_M_mail ad D cA R_M b_M_mail 3 WW) (Q : qRet (some .int) b_M_mail WW QR) : qle (k_M_mail_20 QR WW) WW 20 :=
  S.iinc d_M_mail_20 (by decide) <| S.goto d_M_mail_23 (by decide) (fun _ _ _ h => h)
set_option maxRecDepth 8000 in
theorem s_M_mail_10 {l : Launch} {ad : Nat → Nat} {D : va_G} {cA : Nat → ClassId} {WW : Nat → qP} {QR : Option qA → qS → Prop} (S : qSnd l rm_M_mail ad D cA R_M b_M_mail 3 WW) (Q : qRet (some .int) b_M_mail WW QR) : qle (k_M_mail_10 QR WW) WW 10 :=
  S.aload_n d_M_mail_10 rfl <| S.gA fl_M_93 (by decide) d_M_mail_11 <| S.iload_n d_M_mail_14 rfl <| S.iak (by decide) d_M_mail_15 <| S.iload_n d_M_mail_16 rfl <| S.icmp_eq d_M_mail_17 (by decide) (s_M_mail_26 S Q) (s_M_mail_20 S Q)
set_option maxRecDepth 8000 in
theorem s_M_mail_2 {l : Launch} {ad : Nat → Nat} {D : va_G} {cA : Nat → ClassId} {WW : Nat → qP} {QR : Option qA → qS → Prop} (S : qSnd l rm_M_mail ad D cA R_M b_M_mail 3 WW) (Q : qRet (some .int) b_M_mail WW QR) : qle (k_M_mail_2 QR WW) WW 2 :=
  S.iload_n d_M_mail_2 rfl <| S.aload_n d_M_mail_3 rfl <| S.gI fl_M_279 (by decide) d_M_mail_4 <| S.icmp_ge d_M_mail_7 (by decide) (s_M_mail_26 S Q) (s_M_mail_10 S Q)
set_option maxRecDepth 8000 in
theorem s_M_mail_0 {l : Launch} {ad : Nat → Nat} {D : va_G} {cA : Nat → ClassId} {WW : Nat → qP} {QR : Option qA → qS → Prop} (S : qSnd l rm_M_mail ad D cA R_M b_M_mail 3 WW) (Q : qRet (some .int) b_M_mail WW QR) : qle (k_M_mail_0 QR WW) WW 0 :=
  S.iconst d_M_mail_0 (by decide) <| S.istore_n d_M_mail_1 rfl (by decide) <| (fun _ _ _ h => h)
theorem v_M_mail_2 {l : Launch} {ad : Nat → Nat} {D : va_G} {cA : Nat → ClassId} {WW : Nat → qP} {QR : Option qA → qS → Prop} (S : qSnd l rm_M_mail ad D cA R_M b_M_mail 3 WW) (Q : qRet (some .int) b_M_mail WW QR) (σ : qS) (who : Int) (hp : P_M_mail who σ) (hq : ∀ r σ', Q_M_mail who σ r σ' → QR (some (.inl r)) σ') : ∀ (n k : Nat), (k + n : Int) = σ 48 0 → (∀ i : Nat, i < k → σ 44 i ≠ who) → WW 2 [] [some (.inr (.inr 900)), some (.inl who), some (.inl k)] σ := by
  obtain ⟨h1, h2⟩ := hp
  have tl : ∀ k : Nat, (k : Int) ≤ σ 48 0 → (∀ i : Nat, i < k → σ 44 i ≠ who) → (∀ i : Nat, i < k → (ln σ)[i]? = some (mg σ i) ∧ ((mg σ i).1 == who) = false) := by
    intro k hk h i hi
    exact ⟨ln_at (by omega), by simpa [mg] using h i hi⟩
  have tl2 : (∀ i : Nat, (i : Int) < σ 48 0 → σ 44 i ≠ who) → (ln σ).findIdx? (fun m => m.1 == who) = none := by
    intro h
    rw [List.findIdx?_eq_none_iff]
    intro x hx
    unfold ln at hx
    obtain ⟨i, hi, rfl⟩ := List.mem_map.mp hx
    have := List.mem_range.mp hi
    simpa [mg] using h i (by omega)
  have tl3 : ∀ k : Nat, (k : Int) < σ 48 0 → (∀ i : Nat, i < k → σ 44 i ≠ who) → σ 44 k = who → (ln σ).findIdx? (fun m => m.1 == who) = some k := by
    intro k hk h he
    rw [List.findIdx?_eq_some_iff_getElem]
    refine ⟨by rw [ln_len]; omega, ?_, fun j hj => ?_⟩
    · have := ln_at hk
      rw [List.getElem?_eq_some_iff] at this
      obtain ⟨hl, he2⟩ := this
      rw [he2]; simpa [mg] using he
    · have := ln_at (σ := σ) (i := j) (by omega)
      rw [List.getElem?_eq_some_iff] at this
      obtain ⟨hl, he2⟩ := this
      rw [he2]; simpa [mg] using h j hj
  intro n
  induction n with
  | zero =>
    intro k hk hd
    refine s_M_mail_2 S Q _ _ _ ?_
    simp only [k_M_mail_0, k_M_mail_2, k_M_mail_10, k_M_mail_20, k_M_mail_26, k_M_mail_34, k_M_mail_38, k_M_mail_39, o_c, o_il, o_ll, o_al, o_is, o_as, o_ls, o_inc, o_bi, o_bid, o_bl, o_bld, o_sl, o_i2l, o_l2i, o_dup, o_dup2, o_pop, o_pop2, o_if, o_i2, o_l2, swg, o_sw, o_gI, o_gZ, o_gJ, o_gA, o_gR, o_pI, o_pZ, o_pJ, o_pR, o_ia, o_iak, o_zak, o_ja, o_jak, o_is_, o_isk, o_zsk, o_js_, o_jsk, o_len, o_ri, o_rz, o_rl, o_rv, ls1, ls2, lks, lkj, List.getD_cons_zero, List.getD_cons_succ, List.set_cons_zero, List.set_cons_succ, qcat, true_and, and_true, List.map_nil, List.map_cons, List.sum_nil, List.sum_cons, Nat.reduceAdd, Nat.reduceLeDiff, Nat.zero_le, Int.reduceAdd, Int.reduceNeg, Int.reduceEq, or_true, true_or, Decidable.not_not]
    have : QR (some (.inl (-1))) σ := hq _ _ ⟨rfl, Or.inl ⟨rfl, tl2 (fun i hi => hd i (by omega))⟩⟩
    exact ⟨fun _ => ⟨fun _ => this, fun h => by omega⟩, fun h => by omega⟩
  | succ n ih =>
    intro k hk hd
    refine s_M_mail_2 S Q _ _ _ ?_
    simp only [k_M_mail_0, k_M_mail_2, k_M_mail_10, k_M_mail_20, k_M_mail_26, k_M_mail_34, k_M_mail_38, k_M_mail_39, o_c, o_il, o_ll, o_al, o_is, o_as, o_ls, o_inc, o_bi, o_bid, o_bl, o_bld, o_sl, o_i2l, o_l2i, o_dup, o_dup2, o_pop, o_pop2, o_if, o_i2, o_l2, swg, o_sw, o_gI, o_gZ, o_gJ, o_gA, o_gR, o_pI, o_pZ, o_pJ, o_pR, o_ia, o_iak, o_zak, o_ja, o_jak, o_is_, o_isk, o_zsk, o_js_, o_jsk, o_len, o_ri, o_rz, o_rl, o_rv, ls1, ls2, lks, lkj, List.getD_cons_zero, List.getD_cons_succ, List.set_cons_zero, List.set_cons_succ, qcat, true_and, and_true, List.map_nil, List.map_cons, List.sum_nil, List.sum_cons, Nat.reduceAdd, Nat.reduceLeDiff, Nat.zero_le, Int.reduceAdd, Int.reduceNeg, Int.reduceEq, or_true, true_or, Decidable.not_not]
    refine ⟨fun h => by omega, fun h => ⟨by omega, fun e => ⟨fun h => by omega, fun _ => hq _ _ ⟨rfl, Or.inr ⟨k, rfl, by omega, tl3 k (by omega) hd e⟩⟩⟩, fun e => ?_⟩⟩
    rw [w32_i _ (by omega) (by omega)]
    refine ih (k + 1) (by omega) (fun i hi => ?_)
    by_cases e2 : i = k
    · rw [e2]; exact e
    · exact hd i (by omega)
theorem w_M_mail {l : Launch} {ad : Nat → Nat} {D : va_G} {cA : Nat → ClassId} {WW : Nat → qP} {QR : Option qA → qS → Prop} (S : qSnd l rm_M_mail ad D cA R_M b_M_mail 3 WW) (Q : qRet (some .int) b_M_mail WW QR) (a1 : Int) (σ : qS) (ha1 : r32 a1) (hσ : qoS σ) (h : P_M_mail a1 σ) (hq : ∀ (r : Int) σ', Q_M_mail a1 σ r σ' → QR (some (.inl r)) σ') : WW 0 [] [some (.inr (.inr 900)), some (.inl a1), none] σ := by
  refine s_M_mail_0 S Q _ _ _ ?_
  simp only [k_M_mail_0, k_M_mail_2, k_M_mail_10, k_M_mail_20, k_M_mail_26, k_M_mail_34, k_M_mail_38, k_M_mail_39, o_c, o_il, o_ll, o_al, o_is, o_as, o_ls, o_inc, o_bi, o_bid, o_bl, o_bld, o_sl, o_i2l, o_l2i, o_dup, o_dup2, o_pop, o_pop2, o_if, o_i2, o_l2, swg, o_sw, o_gI, o_gZ, o_gJ, o_gA, o_gR, o_pI, o_pZ, o_pJ, o_pR, o_ia, o_iak, o_zak, o_ja, o_jak, o_is_, o_isk, o_zsk, o_js_, o_jsk, o_len, o_ri, o_rz, o_rl, o_rv, ls1, ls2, lks, lkj, List.getD_cons_zero, List.getD_cons_succ, List.set_cons_zero, List.set_cons_succ, qcat, true_and, and_true, List.map_nil, List.map_cons, List.sum_nil, List.sum_cons, Nat.reduceAdd, Nat.reduceLeDiff, Nat.zero_le, Int.reduceAdd, Int.reduceNeg, Int.reduceEq, or_true, true_or, Decidable.not_not]
  have hp := h
  obtain ⟨h1, h2⟩ := h
  exact v_M_mail_2 S Q σ a1 hp hq (σ 48 0).toNat 0 (by omega) (fun i hi => by omega)
theorem c_M_mail (l : Launch) (ad : Nat → Nat) (D : va_G) (cA : Nat → ClassId) : qC l ad D cA y_M_mail (Cond.code y_M_mail b_M_mail 3 (some .int) :: lw_g) rm_M_mail pre_M_mail post_M_mail := by
  refine qC_of (own := R_M) (by decide) rfl ⟨rfl, rfl⟩ ?_ ?_
  · intro av σ h; unfold pre_M_mail at h; split at h
    · simp [qen]
    · exact h.elim
  · intro WW QR S Q av σ hav hσ h hq; unfold pre_M_mail at h; split at h
    next o a1 =>
      obtain ⟨rfl, h⟩ := h
      exact w_M_mail S Q a1 σ (hav _ (List.mem_of_getElem? (i := 1) rfl)) hσ h (fun r σ' h' => hq _ σ' h')
    next => exact h.elim
def tl95 (L : List Ms) : List Ms := if 95 ≤ L.length then L.eraseIdx 0 else L
def lok (σ : qS) : Prop := 0 ≤ σ 48 0 ∧ σ 48 0 ≤ 96
theorem tl95_len (L : List Ms) (h : L.length ≤ 96) : (tl95 L).length ≤ 95 := by
  unfold tl95; split
  · rw [List.length_eraseIdx]; split <;> omega
  · omega
def P_M_send (_to _ty _a _b _c _d : Int) (σ : qS) : Prop := lok σ
def Q_M_send (to ty a b c d : Int) (σ : qS) (r : Int) (σ' : qS) : Prop := F_ln σ σ' ∧ (0 ≤ r ∧ r < 96) ∧ σ' 48 0 = r + 1 ∧ r = (tl95 (ln σ)).length ∧ ∃ kv, kv.length = 8 ∧ ln σ' = tl95 (ln σ) ++ [(to, [ty, σ 31 0, a, b, c, d], kv)]
def pre_M_send (av : List qA) (σ : qS) : Prop := match av with
  | [.inr (.inr o), .inl a1, .inl a2, .inl a3, .inl a4, .inl a5, .inl a6] => o = 900 ∧ P_M_send a1 a2 a3 a4 a5 a6 σ
  | _ => False
def post_M_send (av : List qA) (σ : qS) (r : Option qA) (σ' : qS) : Prop := match av, r with
  | [_, .inl a1, .inl a2, .inl a3, .inl a4, .inl a5, .inl a6], some (.inl r) => Q_M_send a1 a2 a3 a4 a5 a6 σ r σ'
  | _, _ => False
def oc_M_send (K : qP) : qP := fun st ls σ => match st with
  | .inl a6 :: .inl a5 :: .inl a4 :: .inl a3 :: .inl a2 :: .inl a1 :: .inr (.inr o) :: st => o = 900 ∧ (st.map qcat).sum ≤ 8 ∧ P_M_send a1 a2 a3 a4 a5 a6 σ ∧ ∀ (r : Int) (σ' : qS), Q_M_send a1 a2 a3 a4 a5 a6 σ r σ' → K (.inl r :: st) ls σ'
  | _ => False
def rm_M_send : Room := { frames := 2, cells := 0, slots := 0, locals := 45 }
theorem sc_M_282 {l : Launch} {R : Room} {ad : Nat → Nat} {D : va_G} {cA : Nat → ClassId} {cc : ByteArray} {nL : Nat} {WW : Nat → qP} (S : qSnd l R ad D cA R_M cc nL WW) (hR : rm_M_take.frames + 1 ≤ R.frames ∧ 8 + (3 + 11) + rm_M_take.locals ≤ R.locals) {K : qP} {pc : Nat} (d : decode cc pc = .ok (.invokevirtual 282, 3)) (h : qle K WW (pc + 3)) : qle (oc_M_take K) WW pc := by
  intro st ls σ k
  refine S.callV (o := 900) (ci := 0) (N := 82) (base := 0) (C := R_M) (T := F_M) (n := 1) (pre := pre_M_take) (post := post_M_take) (Or.inl ⟨rfl, rfl, rfl, rfl, rfl, rfl⟩) ⟨lw_at 580 (by decide +kernel) rfl, lw_at 577 (by decide +kernel) rfl, lw_at 59 (by decide +kernel) rfl, by decide, by decide, by decide +kernel⟩ ⟨lw_at 579 (by decide +kernel) rfl, lw_at 13 (by decide +kernel) rfl⟩ ⟨rfl, rfl⟩ hR (c_M_take l ad D cA) ?_ d h st ls σ ?_
  · intro av σ h; unfold pre_M_take at h; split at h
    · obtain ⟨rfl, h⟩ := h; exact ⟨_, rfl⟩
    · exact h.elim
  · unfold oc_M_take at k
    split at k
    next a1 o st =>
      obtain ⟨rfl, hs, hp, k⟩ := k
      refine ⟨[.inr (.inr 900), .inl a1], st, rfl, rfl, hs, ⟨rfl, hp⟩, fun r σ' hq => ?_⟩
      unfold post_M_take at hq
      split at hq
      next h1 =>
        cases h1
        exact k _ hq
      next => exact hq.elim
    next => exact k.elim
def k_M_send_14 (QR : Option qA → qS → Prop) (H : Nat → qP) : qP :=
  o_al 0 <| o_gI 900 48 <| o_is 7 <| o_al 0 <| o_dup <| o_gI 900 48 <| o_c (.inl 1) <| o_bi z_add <| o_pI 900 48 <| o_al 0 <| o_gA 900 44 <| o_il 7 <| o_il 1 <| o_isk 44 96 <| o_al 0 <| o_gA 900 45 <| o_il 7 <| o_c (.inl 6) <| o_bi z_mul <| o_il 2 <| o_isk 45 576 <| o_al 0 <| o_gA 900 45 <| o_il 7 <| o_c (.inl 6) <| o_bi z_mul <| o_c (.inl 1) <| o_bi z_add <| o_al 0 <| o_gI 900 31 <| o_isk 45 576 <| o_al 0 <| o_gA 900 45 <| o_il 7 <| o_c (.inl 6) <| o_bi z_mul <| o_c (.inl 2) <| o_bi z_add <| o_il 3 <| o_isk 45 576 <| o_al 0 <| o_gA 900 45 <| o_il 7 <| o_c (.inl 6) <| o_bi z_mul <| o_c (.inl 3) <| o_bi z_add <| o_il 4 <| o_isk 45 576 <| o_al 0 <| o_gA 900 45 <| o_il 7 <| o_c (.inl 6) <| o_bi z_mul <| o_c (.inl 4) <| o_bi z_add <| o_il 5 <| o_isk 45 576 <| o_al 0 <| o_gA 900 45 <| o_il 7 <| o_c (.inl 6) <| o_bi z_mul <| o_c (.inl 5) <| o_bi z_add <| o_il 6 <| o_isk 45 576 <| o_il 7 <| o_ri QR
def k_M_send_9 (QR : Option qA → qS → Prop) (H : Nat → qP) : qP :=
  o_al 0 <| o_c (.inl 0) <| oc_M_take <| H 14
def k_M_send_0 (QR : Option qA → qS → Prop) (H : Nat → qP) : qP :=
  o_al 0 <| o_gI 900 48 <| o_c (.inl 95) <| o_i2 (fun a b => a < b) (H 14) (k_M_send_9 QR H)
set_option maxRecDepth 8000 in
theorem s_M_send_14 {l : Launch} {ad : Nat → Nat} {D : va_G} {cA : Nat → ClassId} {WW : Nat → qP} {QR : Option qA → qS → Prop} (S : qSnd l rm_M_send ad D cA R_M b_M_send 8 WW) (Q : qRet (some .int) b_M_send WW QR) : qle (k_M_send_14 QR WW) WW 14 :=
  S.aload_n d_M_send_14 rfl <| S.gI fl_M_279 (by decide) d_M_send_15 <| S.istore d_M_send_18 (by decide) <| S.aload_n d_M_send_20 rfl <| S.dup d_M_send_21 <| S.gI fl_M_279 (by decide) d_M_send_22 <| S.iconst d_M_send_25 (by decide) <| S.iadd d_M_send_26 <| S.pI fl_M_279 (by decide) (by decide +kernel) d_M_send_27 <| S.aload_n d_M_send_30 rfl <| S.gA fl_M_93 (by decide) d_M_send_31 <| S.iload d_M_send_34 <| S.iload_n d_M_send_36 rfl <| S.isk (by decide) d_M_send_37 <| S.aload_n d_M_send_38 rfl <| S.gA fl_M_96 (by decide) d_M_send_39 <| S.iload d_M_send_42 <| S.bipush d_M_send_44 (by decide) <| S.imul d_M_send_46 <| S.iload_n d_M_send_47 rfl <| S.isk (by decide) d_M_send_48 <| S.aload_n d_M_send_49 rfl <| S.gA fl_M_96 (by decide) d_M_send_50 <| S.iload d_M_send_53 <| S.bipush d_M_send_55 (by decide) <| S.imul d_M_send_57 <| S.iconst d_M_send_58 (by decide) <| S.iadd d_M_send_59 <| S.aload_n d_M_send_60 rfl <| S.gI fl_M_270 (by decide) d_M_send_61 <| S.isk (by decide) d_M_send_64 <| S.aload_n d_M_send_65 rfl <| S.gA fl_M_96 (by decide) d_M_send_66 <| S.iload d_M_send_69 <| S.bipush d_M_send_71 (by decide) <| S.imul d_M_send_73 <| S.iconst d_M_send_74 (by decide) <| S.iadd d_M_send_75 <| S.iload_n d_M_send_76 rfl <| S.isk (by decide) d_M_send_77 <| S.aload_n d_M_send_78 rfl <| S.gA fl_M_96 (by decide) d_M_send_79 <| S.iload d_M_send_82 <| S.bipush d_M_send_84 (by decide) <| S.imul d_M_send_86 <| S.iconst d_M_send_87 (by decide) <| S.iadd d_M_send_88 <| S.iload d_M_send_89 <| S.isk (by decide) d_M_send_91 <| S.aload_n d_M_send_92 rfl <| S.gA fl_M_96 (by decide) d_M_send_93 <| S.iload d_M_send_96 <| S.bipush d_M_send_98 (by decide) <| S.imul d_M_send_100 <| S.iconst d_M_send_101 (by decide) <| S.iadd d_M_send_102 <| S.iload d_M_send_103 <| S.isk (by decide) d_M_send_105 <| S.aload_n d_M_send_106 rfl <| S.gA fl_M_96 (by decide) d_M_send_107 <| S.iload d_M_send_110 <| S.bipush d_M_send_112 (by decide) <| S.imul d_M_send_114 <| S.iconst d_M_send_115 (by decide) <| S.iadd d_M_send_116 <| S.iload d_M_send_117 <| S.isk (by decide) d_M_send_119 <| S.iload d_M_send_120 <| Q.1 rfl _ d_M_send_122
set_option maxRecDepth 8000 in
theorem s_M_send_9 {l : Launch} {ad : Nat → Nat} {D : va_G} {cA : Nat → ClassId} {WW : Nat → qP} {QR : Option qA → qS → Prop} (S : qSnd l rm_M_send ad D cA R_M b_M_send 8 WW) (Q : qRet (some .int) b_M_send WW QR) : qle (k_M_send_9 QR WW) WW 9 :=
  S.aload_n d_M_send_9 rfl <| S.iconst d_M_send_10 (by decide) <| sc_M_282 S (by decide) d_M_send_11 <| (fun _ _ _ h => h)
set_option maxRecDepth 8000 in
theorem s_M_send_0 {l : Launch} {ad : Nat → Nat} {D : va_G} {cA : Nat → ClassId} {WW : Nat → qP} {QR : Option qA → qS → Prop} (S : qSnd l rm_M_send ad D cA R_M b_M_send 8 WW) (Q : qRet (some .int) b_M_send WW QR) : qle (k_M_send_0 QR WW) WW 0 :=
  S.aload_n d_M_send_0 rfl <| S.gI fl_M_279 (by decide) d_M_send_1 <| S.bipush d_M_send_4 (by decide) <| S.icmp_lt d_M_send_6 (by decide) (fun _ _ _ h => h) (s_M_send_9 S Q)
theorem ln_push {σ σ' : qS} {r : Int} (h0 : 0 ≤ r) (hm : σ 48 0 = r) (hm' : σ' 48 0 = r + 1) (hk : ∀ j, 0 ≤ j → j < r → mg σ' j = mg σ j) : ln σ' = ln σ ++ [mg σ' r] := by
  apply List.ext_getElem?
  intro i
  by_cases hi : (i : Int) < r
  · rw [ln_at (by omega), List.getElem?_append_left (by rw [ln_len]; omega), ln_at (by omega), hk i (by omega) hi]
  · by_cases he : (i : Int) = r
    · rw [ln_at (by omega), List.getElem?_append_right (by rw [ln_len]; omega), ln_len, show i - (σ 48 0).toNat = 0 by omega, he]; rfl
    · rw [ln_no (by omega), List.getElem?_eq_none (by simp [ln_len]; omega)]
theorem v_M_send_14 {l : Launch} {ad : Nat → Nat} {D : va_G} {cA : Nat → ClassId} {WW : Nat → qP} {QR : Option qA → qS → Prop} (S : qSnd l rm_M_send ad D cA R_M b_M_send 8 WW) (Q : qRet (some .int) b_M_send WW QR) (σ0 σ : qS) (to ty a b c d : Int) (hF : F_ln σ0 σ) (hL : ln σ = tl95 (ln σ0)) (hm : 0 ≤ σ 48 0 ∧ σ 48 0 < 96) (hq : ∀ r σ', Q_M_send to ty a b c d σ0 r σ' → QR (some (.inl r)) σ') : WW 14 [] [some (.inr (.inr 900)), some (.inl to), some (.inl ty), some (.inl a), some (.inl b), some (.inl c), some (.inl d), none] σ := by
  refine s_M_send_14 S Q _ _ _ ?_
  simp only [k_M_send_0, k_M_send_9, k_M_send_14, oc_M_take, o_c, o_il, o_ll, o_al, o_is, o_as, o_ls, o_inc, o_bi, o_bid, o_bl, o_bld, o_sl, o_i2l, o_l2i, o_dup, o_dup2, o_pop, o_pop2, o_if, o_i2, o_l2, swg, o_sw, o_gI, o_gZ, o_gJ, o_gA, o_gR, o_pI, o_pZ, o_pJ, o_pR, o_ia, o_iak, o_zak, o_ja, o_jak, o_is_, o_isk, o_zsk, o_js_, o_jsk, o_len, o_ri, o_rz, o_rl, o_rv, ls1, ls2, lks, lkj, List.getD_cons_zero, List.getD_cons_succ, List.set_cons_zero, List.set_cons_succ, qcat, true_and, and_true, List.map_nil, List.map_cons, List.sum_nil, List.sum_cons, Nat.reduceAdd, Nat.reduceLeDiff, Nat.zero_le, Int.reduceAdd, Int.reduceNeg, Int.reduceEq, or_true, true_or, Decidable.not_not]
  have e0 : z_mul (σ 48 0) 6 = σ 48 0 * 6 := by unfold z_mul; exact w32_i _ (by omega) (by omega)
  have e00 : z_add (σ 48 0) 1 = σ 48 0 + 1 := by unfold z_add; exact w32_i _ (by omega) (by omega)
  simp only [e0, e00]
  have ek : ∀ c : Int, 0 ≤ c → c < 10 → z_add (σ 48 0 * 6) c = σ 48 0 * 6 + c := fun c c0 c1 => by unfold z_add; exact w32_i _ (by omega) (by omega)
  simp only [ek 1 (by omega) (by omega), ek 2 (by omega) (by omega), ek 3 (by omega) (by omega), ek 4 (by omega) (by omega), ek 5 (by omega) (by omega)]
  clear ek e0 e00
  generalize hr : σ 48 0 = r at *
  refine ⟨by omega, by omega, by omega, by omega, by omega, by omega, by omega, hq _ _ ?_⟩
  simp (disch := omega) only [su_k]
  have hera : σ 31 = σ0 31 := hF _ (by decide)
  generalize hT : su (su (su (su (su (su (su (su σ 48 0 (r + 1)) 44 r to) 45 (r * 6) ty) 45 (r * 6 + 1) (σ 31 0)) 45 (r * 6 + 2) a) 45 (r * 6 + 3) b) 45 (r * 6 + 4) c) 45 (r * 6 + 5) d = σ'
  have f1 : F_ln σ σ' := by
    rw [← hT]
    exact ((((((((F_ln.su (by decide)).tr (F_ln.su (by decide))).tr (F_ln.su (by decide))).tr (F_ln.su (by decide))).tr (F_ln.su (by decide))).tr (F_ln.su (by decide))).tr (F_ln.su (by decide))).tr (F_ln.su (by decide)))
  have f2 : σ' 48 0 = r + 1 := by rw [← hT]; simp (disch := omega) only [su_k, su_s]
  have f3 : ∀ j, 0 ≤ j → j < r → mg σ' j = mg σ j := by
    intro j j0 j1
    rw [← hT]
    apply mg_of
    · simp (disch := omega) only [su_k]; rw [su_e, if_neg (by omega), su_k (by decide)]
    · intro i i0 i1
      simp only [su_e]
      repeat rw [if_neg (by omega)]
      simp (disch := omega) only [su_k]
    · intro i i0 i1
      simp (disch := omega) only [su_k]; exact ⟨trivial, trivial⟩
  have f4 : mg σ' r = (to, [ty, σ 31 0, a, b, c, d], (List.range 8).map (fun j : Nat => (σ' 46 (r * 8 + j), σ' 47 (r * 8 + j)))) := by
    unfold mg
    congr 1
    · rw [← hT]; simp (disch := omega) only [su_k, su_s]
    · congr 1
      have : List.range 6 = [0, 1, 2, 3, 4, 5] := by decide
      rw [this, ← hT]
      simp only [List.map_cons, List.map_nil]
      congr 1
      · show su _ _ _ _ _ (r * 6 + ((0 : Nat) : Int)) = _
        simp only [su_e]
        rw [if_neg (by omega), if_neg (by omega), if_neg (by omega), if_neg (by omega), if_neg (by omega), if_pos (by omega)]
      congr 1
      · show su _ _ _ _ _ (r * 6 + ((1 : Nat) : Int)) = _
        simp only [su_e]
        rw [if_neg (by omega), if_neg (by omega), if_neg (by omega), if_neg (by omega), if_pos (by omega)]
      congr 1
      · show su _ _ _ _ _ (r * 6 + ((2 : Nat) : Int)) = _
        simp only [su_e]
        rw [if_neg (by omega), if_neg (by omega), if_neg (by omega), if_pos (by omega)]
      congr 1
      · show su _ _ _ _ _ (r * 6 + ((3 : Nat) : Int)) = _
        simp only [su_e]
        rw [if_neg (by omega), if_neg (by omega), if_pos (by omega)]
      congr 1
      · show su _ _ _ _ _ (r * 6 + ((4 : Nat) : Int)) = _
        simp only [su_e]
        rw [if_neg (by omega), if_pos (by omega)]
      congr 1
      · show su _ _ _ _ _ (r * 6 + ((5 : Nat) : Int)) = _
        simp only [su_e]
        rw [if_pos (by omega)]
  refine ⟨hF.tr f1, hm, f2, by rw [← hL, ln_len, hr]; omega, (List.range 8).map (fun j : Nat => (σ' 46 (r * 8 + j), σ' 47 (r * 8 + j))), by rw [List.length_map, List.length_range], ?_⟩
  rw [ln_push hm.1 hr f2 f3, hL, f4, hera]
theorem w_M_send {l : Launch} {ad : Nat → Nat} {D : va_G} {cA : Nat → ClassId} {WW : Nat → qP} {QR : Option qA → qS → Prop} (S : qSnd l rm_M_send ad D cA R_M b_M_send 8 WW) (Q : qRet (some .int) b_M_send WW QR) (a1 : Int) (a2 : Int) (a3 : Int) (a4 : Int) (a5 : Int) (a6 : Int) (σ : qS) (ha1 : r32 a1) (ha2 : r32 a2) (ha3 : r32 a3) (ha4 : r32 a4) (ha5 : r32 a5) (ha6 : r32 a6) (hσ : qoS σ) (h : P_M_send a1 a2 a3 a4 a5 a6 σ) (hq : ∀ (r : Int) σ', Q_M_send a1 a2 a3 a4 a5 a6 σ r σ' → QR (some (.inl r)) σ') : WW 0 [] [some (.inr (.inr 900)), some (.inl a1), some (.inl a2), some (.inl a3), some (.inl a4), some (.inl a5), some (.inl a6), none] σ := by
  refine s_M_send_0 S Q _ _ _ ?_
  simp only [k_M_send_0, k_M_send_9, k_M_send_14, oc_M_take, o_c, o_il, o_ll, o_al, o_is, o_as, o_ls, o_inc, o_bi, o_bid, o_bl, o_bld, o_sl, o_i2l, o_l2i, o_dup, o_dup2, o_pop, o_pop2, o_if, o_i2, o_l2, swg, o_sw, o_gI, o_gZ, o_gJ, o_gA, o_gR, o_pI, o_pZ, o_pJ, o_pR, o_ia, o_iak, o_zak, o_ja, o_jak, o_is_, o_isk, o_zsk, o_js_, o_jsk, o_len, o_ri, o_rz, o_rl, o_rv, ls1, ls2, lks, lkj, List.getD_cons_zero, List.getD_cons_succ, List.set_cons_zero, List.set_cons_succ, qcat, true_and, and_true, List.map_nil, List.map_cons, List.sum_nil, List.sum_cons, Nat.reduceAdd, Nat.reduceLeDiff, Nat.zero_le, Int.reduceAdd, Int.reduceNeg, Int.reduceEq, or_true, true_or, Decidable.not_not]
  obtain ⟨h1, h2⟩ := h
  refine ⟨fun e => ?_, fun e => ⟨⟨by omega, by omega, h2⟩, fun σ1 q1 => ?_⟩⟩
  · refine v_M_send_14 S Q σ σ a1 a2 a3 a4 a5 a6 (F_ln.rf _) ?_ (by omega) hq
    unfold tl95; rw [if_neg (by rw [ln_len]; omega)]
  · obtain ⟨c1, c2, c3⟩ := q1
    refine v_M_send_14 S Q σ σ1 a1 a2 a3 a4 a5 a6 c1 ?_ (by omega) hq
    unfold tl95; rw [if_pos (by rw [ln_len]; omega), c3]; rfl
theorem c_M_send (l : Launch) (ad : Nat → Nat) (D : va_G) (cA : Nat → ClassId) : qC l ad D cA y_M_send (Cond.code y_M_send b_M_send 8 (some .int) :: lw_g) rm_M_send pre_M_send post_M_send := by
  refine qC_of (own := R_M) (by decide) rfl ⟨rfl, rfl⟩ ?_ ?_
  · intro av σ h; unfold pre_M_send at h; split at h
    · simp [qen]
    · exact h.elim
  · intro WW QR S Q av σ hav hσ h hq; unfold pre_M_send at h; split at h
    next o a1 a2 a3 a4 a5 a6 =>
      obtain ⟨rfl, h⟩ := h
      exact w_M_send S Q a1 a2 a3 a4 a5 a6 σ (hav _ (List.mem_of_getElem? (i := 1) rfl)) (hav _ (List.mem_of_getElem? (i := 2) rfl)) (hav _ (List.mem_of_getElem? (i := 3) rfl)) (hav _ (List.mem_of_getElem? (i := 4) rfl)) (hav _ (List.mem_of_getElem? (i := 5) rfl)) (hav _ (List.mem_of_getElem? (i := 6) rfl)) hσ h (fun r σ' h' => hq _ σ' h')
    next => exact h.elim
def F_lc (σ σ' : qS) : Prop := ∀ k, k ∉ [44, 45, 46, 47, 48, 49, 50] → σ' k = σ k
theorem F_lc.rf (σ : qS) : F_lc σ σ := fun _ _ => rfl
theorem F_lc.tr {σ σ1 σ2 : qS} (h : F_lc σ σ1) (h' : F_lc σ1 σ2) : F_lc σ σ2 := fun k hk => (h' k hk).trans (h k hk)
theorem F_ln.lc {σ σ' : qS} (h : F_ln σ σ') : F_lc σ σ' := fun k hk => h k (fun e => hk (by simp only [List.mem_cons, List.not_mem_nil, or_false] at e ⊢; omega))
theorem F_lc.su {σ : qS} {k : Nat} {i v : Int} (h : k ∈ [44, 45, 46, 47, 48, 49, 50]) : F_lc σ (su σ k i v) := fun q hq => su_k (by intro e; subst e; exact hq h)
def cll (lo tw : Int) (L : List Ms) (x : Ms) : List Ms := if z_and lo 1 = 1 then L else if z_and tw 1 = 1 ∧ L.length < 95 then L ++ [x, x] else L ++ [x]
def P_M_close (σ : qS) : Prop := 1 ≤ σ 48 0 ∧ σ 48 0 ≤ 96
def Q_M_close (σ σ' : qS) : Prop := F_lc σ σ' ∧ lok σ' ∧ σ' 49 0 = z_ushr (σ 49 0) 1 ∧ σ' 50 0 = z_ushr (σ 50 0) 1 ∧ ∀ L x, ln σ = L ++ [x] → ln σ' = cll (σ 49 0) (σ 50 0) L x
def pre_M_close (av : List qA) (σ : qS) : Prop := match av with
  | [.inr (.inr o)] => o = 900 ∧ P_M_close  σ
  | _ => False
def post_M_close (av : List qA) (σ : qS) (r : Option qA) (σ' : qS) : Prop := match av, r with
  | [_], none => Q_M_close  σ σ'
  | _, _ => False
def oc_M_close (K : qP) : qP := fun st ls σ => match st with
  | .inr (.inr o) :: st => o = 900 ∧ (st.map qcat).sum ≤ 8 ∧ P_M_close  σ ∧ ∀ (σ' : qS), Q_M_close  σ σ' → K st ls σ'
  | _ => False
def rm_M_close : Room := { frames := 1, cells := 0, slots := 0, locals := 23 }
theorem fl_M_285 : qF R_M 900 0 82 0 R_M F_M 285 49 := ⟨Or.inl ⟨rfl, rfl, rfl, rfl, rfl, rfl⟩, by decide, lw_at 127 (by decide +kernel) rfl⟩
theorem fl_M_288 : qF R_M 900 0 82 0 R_M F_M 288 50 := ⟨Or.inl ⟨rfl, rfl, rfl, rfl, rfl, rfl⟩, by decide, lw_at 128 (by decide +kernel) rfl⟩
def k_M_close_123 (QR : Option qA → qS → Prop) (H : Nat → qP) : qP :=
  o_rv QR
def k_M_close_113 (QR : Option qA → qS → Prop) (H : Nat → qP) : qP :=
  o_al 0 <| o_dup <| o_gI 900 48 <| o_c (.inl 1) <| o_bi z_add <| o_pI 900 48 <| k_M_close_123 QR H
def k_M_close_104 (QR : Option qA → qS → Prop) (H : Nat → qP) : qP :=
  o_al 0 <| o_gI 900 48 <| o_c (.inl 96) <| o_i2 (fun a b => b ≤ a) (k_M_close_123 QR H) (k_M_close_113 QR H)
def k_M_close_100 (QR : Option qA → qS → Prop) (H : Nat → qP) : qP :=
  o_il 2 <| o_if (fun a => a = 0) (k_M_close_123 QR H) (k_M_close_104 QR H)
def k_M_close_96 (QR : Option qA → qS → Prop) (H : Nat → qP) : qP :=
  o_il 1 <| o_if (fun a => ¬ a = 0) (k_M_close_123 QR H) (k_M_close_100 QR H)
def k_M_close_82 (QR : Option qA → qS → Prop) (H : Nat → qP) : qP :=
  o_al 0 <| o_al 0 <| o_gI 900 48 <| o_c (.inl 1) <| o_bi z_sub <| o_al 0 <| o_gI 900 48 <| oc_M_copy <| H 96
def k_M_close_73 (QR : Option qA → qS → Prop) (H : Nat → qP) : qP :=
  o_al 0 <| o_gI 900 48 <| o_c (.inl 96) <| o_i2 (fun a b => b ≤ a) (H 96) (k_M_close_82 QR H)
def k_M_close_69 (QR : Option qA → qS → Prop) (H : Nat → qP) : qP :=
  o_il 2 <| o_if (fun a => a = 0) (H 96) (k_M_close_73 QR H)
def k_M_close_56 (QR : Option qA → qS → Prop) (H : Nat → qP) : qP :=
  o_al 0 <| o_dup <| o_gI 900 48 <| o_c (.inl 1) <| o_bi z_sub <| o_pI 900 48 <| H 96
def k_M_close_52 (QR : Option qA → qS → Prop) (H : Nat → qP) : qP :=
  o_il 1 <| o_if (fun a => a = 0) (k_M_close_69 QR H) (k_M_close_56 QR H)
def k_M_close_31 (QR : Option qA → qS → Prop) (H : Nat → qP) : qP :=
  o_is 2 <| o_al 0 <| o_al 0 <| o_gI 900 49 <| o_c (.inl 1) <| o_bi z_ushr <| o_pI 900 49 <| o_al 0 <| o_al 0 <| o_gI 900 50 <| o_c (.inl 1) <| o_bi z_ushr <| o_pI 900 50 <| H 52
def k_M_close_30 (QR : Option qA → qS → Prop) (H : Nat → qP) : qP :=
  o_c (.inl 0) <| k_M_close_31 QR H
def k_M_close_26 (QR : Option qA → qS → Prop) (H : Nat → qP) : qP :=
  o_c (.inl 1) <| k_M_close_31 QR H
def k_M_close_15 (QR : Option qA → qS → Prop) (H : Nat → qP) : qP :=
  o_is 1 <| o_al 0 <| o_gI 900 50 <| o_c (.inl 1) <| o_bi z_and <| o_c (.inl 1) <| o_i2 (fun a b => ¬ a = b) (k_M_close_30 QR H) (k_M_close_26 QR H)
def k_M_close_14 (QR : Option qA → qS → Prop) (H : Nat → qP) : qP :=
  o_c (.inl 0) <| k_M_close_15 QR H
def k_M_close_10 (QR : Option qA → qS → Prop) (H : Nat → qP) : qP :=
  o_c (.inl 1) <| k_M_close_15 QR H
def k_M_close_0 (QR : Option qA → qS → Prop) (H : Nat → qP) : qP :=
  o_al 0 <| o_gI 900 49 <| o_c (.inl 1) <| o_bi z_and <| o_c (.inl 1) <| o_i2 (fun a b => ¬ a = b) (k_M_close_14 QR H) (k_M_close_10 QR H)
set_option maxRecDepth 8000 in
theorem s_M_close_123 {l : Launch} {ad : Nat → Nat} {D : va_G} {cA : Nat → ClassId} {WW : Nat → qP} {QR : Option qA → qS → Prop} (S : qSnd l rm_M_close ad D cA R_M b_M_close 3 WW) (Q : qRet (none) b_M_close WW QR) : qle (k_M_close_123 QR WW) WW 123 :=
  Q.2.2.2 rfl _ d_M_close_123
set_option maxRecDepth 8000 in
theorem s_M_close_113 {l : Launch} {ad : Nat → Nat} {D : va_G} {cA : Nat → ClassId} {WW : Nat → qP} {QR : Option qA → qS → Prop} (S : qSnd l rm_M_close ad D cA R_M b_M_close 3 WW) (Q : qRet (none) b_M_close WW QR) : qle (k_M_close_113 QR WW) WW 113 :=
  S.aload_n d_M_close_113 rfl <| S.dup d_M_close_114 <| S.gI fl_M_279 (by decide) d_M_close_115 <| S.iconst d_M_close_118 (by decide) <| S.iadd d_M_close_119 <| S.pI fl_M_279 (by decide) (by decide +kernel) d_M_close_120 <| (s_M_close_123 S Q)
set_option maxRecDepth 8000 in
theorem s_M_close_104 {l : Launch} {ad : Nat → Nat} {D : va_G} {cA : Nat → ClassId} {WW : Nat → qP} {QR : Option qA → qS → Prop} (S : qSnd l rm_M_close ad D cA R_M b_M_close 3 WW) (Q : qRet (none) b_M_close WW QR) : qle (k_M_close_104 QR WW) WW 104 :=
  S.aload_n d_M_close_104 rfl <| S.gI fl_M_279 (by decide) d_M_close_105 <| S.bipush d_M_close_108 (by decide) <| S.icmp_ge d_M_close_110 (by decide) (s_M_close_123 S Q) (s_M_close_113 S Q)
set_option maxRecDepth 8000 in
theorem s_M_close_100 {l : Launch} {ad : Nat → Nat} {D : va_G} {cA : Nat → ClassId} {WW : Nat → qP} {QR : Option qA → qS → Prop} (S : qSnd l rm_M_close ad D cA R_M b_M_close 3 WW) (Q : qRet (none) b_M_close WW QR) : qle (k_M_close_100 QR WW) WW 100 :=
  S.iload_n d_M_close_100 rfl <| S.if_eq d_M_close_101 (by decide) (s_M_close_123 S Q) (s_M_close_104 S Q)
set_option maxRecDepth 8000 in
theorem s_M_close_96 {l : Launch} {ad : Nat → Nat} {D : va_G} {cA : Nat → ClassId} {WW : Nat → qP} {QR : Option qA → qS → Prop} (S : qSnd l rm_M_close ad D cA R_M b_M_close 3 WW) (Q : qRet (none) b_M_close WW QR) : qle (k_M_close_96 QR WW) WW 96 :=
  S.iload_n d_M_close_96 rfl <| S.if_ne d_M_close_97 (by decide) (s_M_close_123 S Q) (s_M_close_100 S Q)
set_option maxRecDepth 8000 in
theorem s_M_close_82 {l : Launch} {ad : Nat → Nat} {D : va_G} {cA : Nat → ClassId} {WW : Nat → qP} {QR : Option qA → qS → Prop} (S : qSnd l rm_M_close ad D cA R_M b_M_close 3 WW) (Q : qRet (none) b_M_close WW QR) : qle (k_M_close_82 QR WW) WW 82 :=
  S.aload_n d_M_close_82 rfl <| S.aload_n d_M_close_83 rfl <| S.gI fl_M_279 (by decide) d_M_close_84 <| S.iconst d_M_close_87 (by decide) <| S.isub d_M_close_88 <| S.aload_n d_M_close_89 rfl <| S.gI fl_M_279 (by decide) d_M_close_90 <| sc_M_291 S (by decide) d_M_close_93 <| (fun _ _ _ h => h)
set_option maxRecDepth 8000 in
theorem s_M_close_73 {l : Launch} {ad : Nat → Nat} {D : va_G} {cA : Nat → ClassId} {WW : Nat → qP} {QR : Option qA → qS → Prop} (S : qSnd l rm_M_close ad D cA R_M b_M_close 3 WW) (Q : qRet (none) b_M_close WW QR) : qle (k_M_close_73 QR WW) WW 73 :=
  S.aload_n d_M_close_73 rfl <| S.gI fl_M_279 (by decide) d_M_close_74 <| S.bipush d_M_close_77 (by decide) <| S.icmp_ge d_M_close_79 (by decide) (fun _ _ _ h => h) (s_M_close_82 S Q)
set_option maxRecDepth 8000 in
theorem s_M_close_69 {l : Launch} {ad : Nat → Nat} {D : va_G} {cA : Nat → ClassId} {WW : Nat → qP} {QR : Option qA → qS → Prop} (S : qSnd l rm_M_close ad D cA R_M b_M_close 3 WW) (Q : qRet (none) b_M_close WW QR) : qle (k_M_close_69 QR WW) WW 69 :=
  S.iload_n d_M_close_69 rfl <| S.if_eq d_M_close_70 (by decide) (fun _ _ _ h => h) (s_M_close_73 S Q)
set_option maxRecDepth 8000 in
theorem s_M_close_56 {l : Launch} {ad : Nat → Nat} {D : va_G} {cA : Nat → ClassId} {WW : Nat → qP} {QR : Option qA → qS → Prop} (S : qSnd l rm_M_close ad D cA R_M b_M_close 3 WW) (Q : qRet (none) b_M_close WW QR) : qle (k_M_close_56 QR WW) WW 56 :=
  S.aload_n d_M_close_56 rfl <| S.dup d_M_close_57 <| S.gI fl_M_279 (by decide) d_M_close_58 <| S.iconst d_M_close_61 (by decide) <| S.isub d_M_close_62 <| S.pI fl_M_279 (by decide) (by decide +kernel) d_M_close_63 <| S.goto d_M_close_66 (by decide) (fun _ _ _ h => h)
set_option maxRecDepth 8000 in
theorem s_M_close_52 {l : Launch} {ad : Nat → Nat} {D : va_G} {cA : Nat → ClassId} {WW : Nat → qP} {QR : Option qA → qS → Prop} (S : qSnd l rm_M_close ad D cA R_M b_M_close 3 WW) (Q : qRet (none) b_M_close WW QR) : qle (k_M_close_52 QR WW) WW 52 :=
  S.iload_n d_M_close_52 rfl <| S.if_eq d_M_close_53 (by decide) (s_M_close_69 S Q) (s_M_close_56 S Q)
set_option maxRecDepth 8000 in
theorem s_M_close_31 {l : Launch} {ad : Nat → Nat} {D : va_G} {cA : Nat → ClassId} {WW : Nat → qP} {QR : Option qA → qS → Prop} (S : qSnd l rm_M_close ad D cA R_M b_M_close 3 WW) (Q : qRet (none) b_M_close WW QR) : qle (k_M_close_31 QR WW) WW 31 :=
  S.istore_n d_M_close_31 rfl (by decide) <| S.aload_n d_M_close_32 rfl <| S.aload_n d_M_close_33 rfl <| S.gI fl_M_285 (by decide) d_M_close_34 <| S.iconst d_M_close_37 (by decide) <| S.iushr d_M_close_38 <| S.pI fl_M_285 (by decide) (by decide +kernel) d_M_close_39 <| S.aload_n d_M_close_42 rfl <| S.aload_n d_M_close_43 rfl <| S.gI fl_M_288 (by decide) d_M_close_44 <| S.iconst d_M_close_47 (by decide) <| S.iushr d_M_close_48 <| S.pI fl_M_288 (by decide) (by decide +kernel) d_M_close_49 <| (fun _ _ _ h => h)
set_option maxRecDepth 8000 in
theorem s_M_close_30 {l : Launch} {ad : Nat → Nat} {D : va_G} {cA : Nat → ClassId} {WW : Nat → qP} {QR : Option qA → qS → Prop} (S : qSnd l rm_M_close ad D cA R_M b_M_close 3 WW) (Q : qRet (none) b_M_close WW QR) : qle (k_M_close_30 QR WW) WW 30 :=
  S.iconst d_M_close_30 (by decide) <| (s_M_close_31 S Q)
set_option maxRecDepth 8000 in
theorem s_M_close_26 {l : Launch} {ad : Nat → Nat} {D : va_G} {cA : Nat → ClassId} {WW : Nat → qP} {QR : Option qA → qS → Prop} (S : qSnd l rm_M_close ad D cA R_M b_M_close 3 WW) (Q : qRet (none) b_M_close WW QR) : qle (k_M_close_26 QR WW) WW 26 :=
  S.iconst d_M_close_26 (by decide) <| S.goto d_M_close_27 (by decide) (s_M_close_31 S Q)
set_option maxRecDepth 8000 in
theorem s_M_close_15 {l : Launch} {ad : Nat → Nat} {D : va_G} {cA : Nat → ClassId} {WW : Nat → qP} {QR : Option qA → qS → Prop} (S : qSnd l rm_M_close ad D cA R_M b_M_close 3 WW) (Q : qRet (none) b_M_close WW QR) : qle (k_M_close_15 QR WW) WW 15 :=
  S.istore_n d_M_close_15 rfl (by decide) <| S.aload_n d_M_close_16 rfl <| S.gI fl_M_288 (by decide) d_M_close_17 <| S.iconst d_M_close_20 (by decide) <| S.iand d_M_close_21 <| S.iconst d_M_close_22 (by decide) <| S.icmp_ne d_M_close_23 (by decide) (s_M_close_30 S Q) (s_M_close_26 S Q)
set_option maxRecDepth 8000 in
theorem s_M_close_14 {l : Launch} {ad : Nat → Nat} {D : va_G} {cA : Nat → ClassId} {WW : Nat → qP} {QR : Option qA → qS → Prop} (S : qSnd l rm_M_close ad D cA R_M b_M_close 3 WW) (Q : qRet (none) b_M_close WW QR) : qle (k_M_close_14 QR WW) WW 14 :=
  S.iconst d_M_close_14 (by decide) <| (s_M_close_15 S Q)
set_option maxRecDepth 8000 in
theorem s_M_close_10 {l : Launch} {ad : Nat → Nat} {D : va_G} {cA : Nat → ClassId} {WW : Nat → qP} {QR : Option qA → qS → Prop} (S : qSnd l rm_M_close ad D cA R_M b_M_close 3 WW) (Q : qRet (none) b_M_close WW QR) : qle (k_M_close_10 QR WW) WW 10 :=
  S.iconst d_M_close_10 (by decide) <| S.goto d_M_close_11 (by decide) (s_M_close_15 S Q)
set_option maxRecDepth 8000 in
theorem s_M_close_0 {l : Launch} {ad : Nat → Nat} {D : va_G} {cA : Nat → ClassId} {WW : Nat → qP} {QR : Option qA → qS → Prop} (S : qSnd l rm_M_close ad D cA R_M b_M_close 3 WW) (Q : qRet (none) b_M_close WW QR) : qle (k_M_close_0 QR WW) WW 0 :=
  S.aload_n d_M_close_0 rfl <| S.gI fl_M_285 (by decide) d_M_close_1 <| S.iconst d_M_close_4 (by decide) <| S.iand d_M_close_5 <| S.iconst d_M_close_6 (by decide) <| S.icmp_ne d_M_close_7 (by decide) (s_M_close_14 S Q) (s_M_close_10 S Q)
theorem ln_pop {σ σ' : qS} {L : List Ms} {x : Ms} (hm : 1 ≤ σ 48 0) (hm' : σ' 48 0 = σ 48 0 - 1) (hk : ∀ j, mg σ' j = mg σ j) (hL : ln σ = L ++ [x]) : ln σ' = L := by
  have hl : (ln σ).length = L.length + 1 := by rw [hL]; simp
  rw [ln_len] at hl
  apply List.ext_getElem?
  intro i
  by_cases hi : (i : Int) < σ 48 0 - 1
  · have := ln_at (σ := σ) (i := i) (by omega)
    rw [hL, List.getElem?_append_left (by omega)] at this
    rw [ln_at (by omega), hk, this]
  · rw [ln_no (by omega), List.getElem?_eq_none (by omega)]
theorem ln_same {σ σ' : qS} (hm : σ' 48 0 = σ 48 0) (hk : ∀ j, mg σ' j = mg σ j) : ln σ' = ln σ := by
  unfold ln; rw [hm]; apply List.map_congr_left; intro j _; exact hk j
theorem mg_su {σ : qS} {k : Nat} {i v : Int} (h : k ∉ [44, 45, 46, 47]) (m : Int) : mg (su σ k i v) m = mg σ m := by
  have h' : 44 ≠ k ∧ 45 ≠ k ∧ 46 ≠ k ∧ 47 ≠ k := by simp only [List.mem_cons, List.not_mem_nil, or_false] at h; omega
  exact mg_of (by rw [su_k h'.1]) (fun _ _ _ => by rw [su_k h'.2.1]) (fun _ _ _ => by rw [su_k h'.2.2.1, su_k h'.2.2.2]; exact ⟨rfl, rfl⟩)
theorem v_M_close_96 {l : Launch} {ad : Nat → Nat} {D : va_G} {cA : Nat → ClassId} {WW : Nat → qP} {QR : Option qA → qS → Prop} (S : qSnd l rm_M_close ad D cA R_M b_M_close 3 WW) (Q : qRet (none) b_M_close WW QR) (σ0 σ : qS) (g ag : Int) (hm : 1 ≤ σ0 48 0 ∧ σ0 48 0 ≤ 96) (hF : F_lc σ0 σ) (hl : σ 49 0 = z_ushr (σ0 49 0) 1) (ht : σ 50 0 = z_ushr (σ0 50 0) 1) (hg : (g = 1 ∧ z_and (σ0 49 0) 1 = 1 ∧ σ 48 0 = σ0 48 0 - 1 ∧ ∀ j, mg σ j = mg σ0 j) ∨ (g = 0 ∧ ¬ z_and (σ0 49 0) 1 = 1 ∧ σ 48 0 = σ0 48 0 ∧ ((ag = 1 ∧ z_and (σ0 50 0) 1 = 1 ∧ (σ0 48 0 < 96 → mg σ (σ0 48 0) = mg σ0 (σ0 48 0 - 1)) ∧ ∀ j, 0 ≤ j → j < σ0 48 0 → mg σ j = mg σ0 j) ∨ (ag = 0 ∧ ¬ z_and (σ0 50 0) 1 = 1 ∧ ∀ j, mg σ j = mg σ0 j)))) (hq : ∀ σ', Q_M_close σ0 σ' → QR none σ') : WW 96 [] [some (.inr (.inr 900)), some (.inl g), some (.inl ag)] σ := by
  refine s_M_close_96 S Q _ _ _ ?_
  simp only [k_M_close_0, k_M_close_10, k_M_close_14, k_M_close_15, k_M_close_26, k_M_close_30, k_M_close_31, k_M_close_52, k_M_close_56, k_M_close_69, k_M_close_73, k_M_close_82, k_M_close_96, k_M_close_100, k_M_close_104, k_M_close_113, k_M_close_123, oc_M_copy, o_c, o_il, o_ll, o_al, o_is, o_as, o_ls, o_inc, o_bi, o_bid, o_bl, o_bld, o_sl, o_i2l, o_l2i, o_dup, o_dup2, o_pop, o_pop2, o_if, o_i2, o_l2, swg, o_sw, o_gI, o_gZ, o_gJ, o_gA, o_gR, o_pI, o_pZ, o_pJ, o_pR, o_ia, o_iak, o_zak, o_ja, o_jak, o_is_, o_isk, o_zsk, o_js_, o_jsk, o_len, o_ri, o_rz, o_rl, o_rv, ls1, ls2, lks, lkj, List.getD_cons_zero, List.getD_cons_succ, List.set_cons_zero, List.set_cons_succ, qcat, true_and, and_true, List.map_nil, List.map_cons, List.sum_nil, List.sum_cons, Nat.reduceAdd, Nat.reduceLeDiff, Nat.zero_le, Int.reduceAdd, Int.reduceNeg, Int.reduceEq, or_true, true_or, Decidable.not_not, false_implies, not_false_eq_true, true_implies, not_true_eq_false, Int.reduceLT, Int.reduceLE]
  rcases hg with ⟨rfl, c1, c2, c3⟩ | ⟨rfl, c1, c2, ⟨rfl, c3, c4, c5⟩ | ⟨rfl, c3, c4⟩⟩
  · refine ⟨fun _ => hq _ ⟨hF, ⟨by omega, by omega⟩, hl, ht, fun L x hL => ?_⟩, fun h => absurd h (by omega)⟩
    unfold cll; rw [if_pos c1]; exact ln_pop hm.1 c2 c3 hL
  · refine ⟨fun h => absurd rfl h, fun _ => ⟨fun h => by omega, fun _ => ⟨fun h => hq _ ⟨hF, ⟨by omega, by omega⟩, hl, ht, fun L x hL => ?_⟩, fun h => hq _ ⟨hF.tr (F_lc.su (by decide)), ?_, by rw [su_k (by decide)]; exact hl, by rw [su_k (by decide)]; exact ht, fun L x hL => ?_⟩⟩⟩⟩
    · have hlen : (ln σ0).length = L.length + 1 := by rw [hL]; simp
      rw [ln_len] at hlen
      unfold cll; rw [if_neg c1, if_neg (by omega), ← hL]
      unfold ln
      rw [c2]
      apply List.map_congr_left
      intro j hj
      have := List.mem_range.mp hj
      exact c5 j (by omega) (by omega)
    · have e : z_add (σ 48 0) 1 = σ 48 0 + 1 := by unfold z_add; exact w32_i _ (by omega) (by omega)
      unfold lok; rw [su_s, e]; omega
    · have e : z_add (σ 48 0) 1 = σ 48 0 + 1 := by unfold z_add; exact w32_i _ (by omega) (by omega)
      have hlen : (ln σ0).length = L.length + 1 := by rw [hL]; simp
      rw [ln_len] at hlen
      have hx : mg σ0 (σ0 48 0 - 1) = x := by
        have := ln_at (σ := σ0) (i := L.length) (by omega)
        rw [hL, List.getElem?_append_right (Nat.le_refl _)] at this
        simp at this
        rw [this]; congr 1; omega
      unfold cll; rw [if_neg c1, if_pos ⟨c3, by omega⟩]
      have hp := ln_push (σ := σ0) (σ' := su σ 48 0 (z_add (σ 48 0) 1)) (r := σ0 48 0) (by omega) rfl (by rw [su_s, e, c2]) (fun j j0 j1 => by rw [mg_su (by decide), c5 j j0 j1])
      rw [hp, hL, mg_su (by decide), c4 (by omega), hx]
      simp
  · refine ⟨fun h => absurd rfl h, fun _ => ⟨fun _ => hq _ ⟨hF, ⟨by omega, by omega⟩, hl, ht, fun L x hL => ?_⟩, fun h => absurd rfl h⟩⟩
    unfold cll; rw [if_neg c1, if_neg (fun q => c3 q.1), ← hL]
    exact ln_same c2 c4
theorem v_M_close_52 {l : Launch} {ad : Nat → Nat} {D : va_G} {cA : Nat → ClassId} {WW : Nat → qP} {QR : Option qA → qS → Prop} (S : qSnd l rm_M_close ad D cA R_M b_M_close 3 WW) (Q : qRet (none) b_M_close WW QR) (σ0 : qS) (g ag : Int) (hm : 1 ≤ σ0 48 0 ∧ σ0 48 0 ≤ 96) (hg : (g = 1 ∧ z_and (σ0 49 0) 1 = 1) ∨ (g = 0 ∧ ¬ z_and (σ0 49 0) 1 = 1)) (ha : (ag = 1 ∧ z_and (σ0 50 0) 1 = 1) ∨ (ag = 0 ∧ ¬ z_and (σ0 50 0) 1 = 1)) (hq : ∀ σ', Q_M_close σ0 σ' → QR none σ') : WW 52 [] [some (.inr (.inr 900)), some (.inl g), some (.inl ag)] (su (su σ0 49 0 (z_ushr (σ0 49 0) 1)) 50 0 (z_ushr (σ0 50 0) 1)) := by
  refine s_M_close_52 S Q _ _ _ ?_
  simp only [k_M_close_0, k_M_close_10, k_M_close_14, k_M_close_15, k_M_close_26, k_M_close_30, k_M_close_31, k_M_close_52, k_M_close_56, k_M_close_69, k_M_close_73, k_M_close_82, k_M_close_96, k_M_close_100, k_M_close_104, k_M_close_113, k_M_close_123, oc_M_copy, o_c, o_il, o_ll, o_al, o_is, o_as, o_ls, o_inc, o_bi, o_bid, o_bl, o_bld, o_sl, o_i2l, o_l2i, o_dup, o_dup2, o_pop, o_pop2, o_if, o_i2, o_l2, swg, o_sw, o_gI, o_gZ, o_gJ, o_gA, o_gR, o_pI, o_pZ, o_pJ, o_pR, o_ia, o_iak, o_zak, o_ja, o_jak, o_is_, o_isk, o_zsk, o_js_, o_jsk, o_len, o_ri, o_rz, o_rl, o_rv, ls1, ls2, lks, lkj, List.getD_cons_zero, List.getD_cons_succ, List.set_cons_zero, List.set_cons_succ, qcat, true_and, and_true, List.map_nil, List.map_cons, List.sum_nil, List.sum_cons, Nat.reduceAdd, Nat.reduceLeDiff, Nat.zero_le, Int.reduceAdd, Int.reduceNeg, Int.reduceEq, or_true, true_or, Decidable.not_not, false_implies, not_false_eq_true, true_implies, not_true_eq_false, Int.reduceLT, Int.reduceLE]
  have hF : F_lc σ0 (su (su σ0 49 0 (z_ushr (σ0 49 0) 1)) 50 0 (z_ushr (σ0 50 0) 1)) := (F_lc.su (by decide)).tr (F_lc.su (by decide))
  have em : ∀ j, mg (su (su σ0 49 0 (z_ushr (σ0 49 0) 1)) 50 0 (z_ushr (σ0 50 0) 1)) j = mg σ0 j := fun j => by rw [mg_su (by decide), mg_su (by decide)]
  have e1 : su (su σ0 49 0 (z_ushr (σ0 49 0) 1)) 50 0 (z_ushr (σ0 50 0) 1) 49 0 = z_ushr (σ0 49 0) 1 := by rw [su_k (by decide), su_s]
  have e2 : su (su σ0 49 0 (z_ushr (σ0 49 0) 1)) 50 0 (z_ushr (σ0 50 0) 1) 50 0 = z_ushr (σ0 50 0) 1 := su_s
  have e3 : su (su σ0 49 0 (z_ushr (σ0 49 0) 1)) 50 0 (z_ushr (σ0 50 0) 1) 48 0 = σ0 48 0 := by simp (disch := omega) only [su_k]
  generalize su (su σ0 49 0 (z_ushr (σ0 49 0) 1)) 50 0 (z_ushr (σ0 50 0) 1) = σ at *
  have e4 : z_sub (σ 48 0) 1 = σ0 48 0 - 1 := by unfold z_sub; rw [e3]; exact w32_i _ (by omega) (by omega)
  rw [e4]
  rcases hg with ⟨rfl, g1⟩ | ⟨rfl, g1⟩
  · refine ⟨fun h => by omega, fun _ => ?_⟩
    refine v_M_close_96 S Q σ0 _ 1 ag hm (hF.tr (F_lc.su (by decide))) (by rw [su_k (by decide)]; exact e1) (by rw [su_k (by decide)]; exact e2) (Or.inl ⟨rfl, g1, su_s, fun j => by rw [mg_su (by decide), em]⟩) hq
  · refine ⟨fun _ => ?_, fun h => absurd rfl h⟩
    rcases ha with ⟨rfl, a1⟩ | ⟨rfl, a1⟩
    · refine ⟨fun h => by omega, fun _ => ⟨fun h => ?_, fun h => ⟨⟨by omega, by omega, by omega⟩, fun σ1 q1 => ?_⟩⟩⟩
      · exact v_M_close_96 S Q σ0 σ 0 1 hm hF e1 e2 (Or.inr ⟨rfl, g1, e3, Or.inl ⟨rfl, a1, fun h' => by omega, fun j _ _ => em j⟩⟩) hq
      · obtain ⟨c1, c2, c3⟩ := q1
        refine v_M_close_96 S Q σ0 σ1 0 1 hm (hF.tr c1.ln.lc) (by rw [c1 _ (by decide)]; exact e1) (by rw [c1 _ (by decide)]; exact e2) (Or.inr ⟨rfl, g1, by rw [c1 _ (by decide)]; exact e3, Or.inl ⟨rfl, a1, fun h' => ?_, fun j j0 j1 => ?_⟩⟩) hq
        · rw [← e3, c2, em, e3]
        · rw [c3 j j0 (by omega) (by omega), em]
    · refine ⟨fun _ => ?_, fun h => absurd rfl h⟩
      exact v_M_close_96 S Q σ0 σ 0 0 hm hF e1 e2 (Or.inr ⟨rfl, g1, e3, Or.inr ⟨rfl, a1, em⟩⟩) hq
theorem w_M_close {l : Launch} {ad : Nat → Nat} {D : va_G} {cA : Nat → ClassId} {WW : Nat → qP} {QR : Option qA → qS → Prop} (S : qSnd l rm_M_close ad D cA R_M b_M_close 3 WW) (Q : qRet (none) b_M_close WW QR)  (σ : qS)  (hσ : qoS σ) (h : P_M_close  σ) (hq : ∀ σ', Q_M_close  σ σ' → QR none σ') : WW 0 [] [some (.inr (.inr 900)), none, none] σ := by
  refine s_M_close_0 S Q _ _ _ ?_
  simp only [k_M_close_0, k_M_close_10, k_M_close_14, k_M_close_15, k_M_close_26, k_M_close_30, k_M_close_31, k_M_close_52, k_M_close_56, k_M_close_69, k_M_close_73, k_M_close_82, k_M_close_96, k_M_close_100, k_M_close_104, k_M_close_113, k_M_close_123, oc_M_copy, o_c, o_il, o_ll, o_al, o_is, o_as, o_ls, o_inc, o_bi, o_bid, o_bl, o_bld, o_sl, o_i2l, o_l2i, o_dup, o_dup2, o_pop, o_pop2, o_if, o_i2, o_l2, swg, o_sw, o_gI, o_gZ, o_gJ, o_gA, o_gR, o_pI, o_pZ, o_pJ, o_pR, o_ia, o_iak, o_zak, o_ja, o_jak, o_is_, o_isk, o_zsk, o_js_, o_jsk, o_len, o_ri, o_rz, o_rl, o_rv, ls1, ls2, lks, lkj, List.getD_cons_zero, List.getD_cons_succ, List.set_cons_zero, List.set_cons_succ, qcat, true_and, and_true, List.map_nil, List.map_cons, List.sum_nil, List.sum_cons, Nat.reduceAdd, Nat.reduceLeDiff, Nat.zero_le, Int.reduceAdd, Int.reduceNeg, Int.reduceEq, or_true, true_or, Decidable.not_not, false_implies, not_false_eq_true, true_implies, not_true_eq_false, Int.reduceLT, Int.reduceLE]
  rw [su_k (by decide)]
  refine ⟨fun h1 => ⟨fun h2 => ?_, fun h2 => ?_⟩, fun h1 => ⟨fun h2 => ?_, fun h2 => ?_⟩⟩
  · exact v_M_close_52 S Q σ 0 0 h (Or.inr ⟨rfl, h1⟩) (Or.inr ⟨rfl, h2⟩) hq
  · exact v_M_close_52 S Q σ 0 1 h (Or.inr ⟨rfl, h1⟩) (Or.inl ⟨rfl, h2⟩) hq
  · exact v_M_close_52 S Q σ 1 0 h (Or.inl ⟨rfl, h1⟩) (Or.inr ⟨rfl, h2⟩) hq
  · exact v_M_close_52 S Q σ 1 1 h (Or.inl ⟨rfl, h1⟩) (Or.inl ⟨rfl, h2⟩) hq
theorem c_M_close (l : Launch) (ad : Nat → Nat) (D : va_G) (cA : Nat → ClassId) : qC l ad D cA y_M_close (Cond.code y_M_close b_M_close 3 (none) :: lw_g) rm_M_close pre_M_close post_M_close := by
  refine qC_of (own := R_M) (by decide) rfl ⟨rfl, rfl⟩ ?_ ?_
  · intro av σ h; unfold pre_M_close at h; split at h
    · simp [qen]
    · exact h.elim
  · intro WW QR S Q av σ hav hσ h hq; unfold pre_M_close at h; split at h
    next o =>
      obtain ⟨rfl, h⟩ := h
      exact w_M_close S Q  σ  hσ h (fun σ' h' => hq _ σ' h')
    next => exact h.elim
def P_M_tell (_to _ty _a _b _c _d : Int) (σ : qS) : Prop := lok σ
def tld (σ : qS) (x : Ms) : List Ms := cll (σ 49 0) (σ 50 0) (tl95 (ln σ)) x
def Q_M_tell (to ty a b c d : Int) (σ : qS) (σ' : qS) : Prop := F_lc σ σ' ∧ lok σ' ∧ σ' 49 0 = z_ushr (σ 49 0) 1 ∧ σ' 50 0 = z_ushr (σ 50 0) 1 ∧ ∃ kv, kv.length = 8 ∧ ln σ' = tld σ (to, [ty, σ 31 0, a, b, c, d], kv)
def pre_M_tell (av : List qA) (σ : qS) : Prop := match av with
  | [.inr (.inr o), .inl a1, .inl a2, .inl a3, .inl a4, .inl a5, .inl a6] => o = 900 ∧ P_M_tell a1 a2 a3 a4 a5 a6 σ
  | _ => False
def post_M_tell (av : List qA) (σ : qS) (r : Option qA) (σ' : qS) : Prop := match av, r with
  | [_, .inl a1, .inl a2, .inl a3, .inl a4, .inl a5, .inl a6], none => Q_M_tell a1 a2 a3 a4 a5 a6 σ σ'
  | _, _ => False
def oc_M_tell (K : qP) : qP := fun st ls σ => match st with
  | .inl a6 :: .inl a5 :: .inl a4 :: .inl a3 :: .inl a2 :: .inl a1 :: .inr (.inr o) :: st => o = 900 ∧ (st.map qcat).sum ≤ 8 ∧ P_M_tell a1 a2 a3 a4 a5 a6 σ ∧ ∀ (σ' : qS), Q_M_tell a1 a2 a3 a4 a5 a6 σ σ' → K st ls σ'
  | _ => False
def rm_M_tell : Room := { frames := 3, cells := 0, slots := 0, locals := 72 }
theorem sc_M_299 {l : Launch} {R : Room} {ad : Nat → Nat} {D : va_G} {cA : Nat → ClassId} {cc : ByteArray} {nL : Nat} {WW : Nat → qP} (S : qSnd l R ad D cA R_M cc nL WW) (hR : rm_M_close.frames + 1 ≤ R.frames ∧ 8 + (3 + 11) + rm_M_close.locals ≤ R.locals) {K : qP} {pc : Nat} (d : decode cc pc = .ok (.invokevirtual 299, 3)) (h : qle K WW (pc + 3)) : qle (oc_M_close K) WW pc := by
  intro st ls σ k
  refine S.callV (o := 900) (ci := 0) (N := 82) (base := 0) (C := R_M) (T := F_M) (n := 0) (pre := pre_M_close) (post := post_M_close) (Or.inl ⟨rfl, rfl, rfl, rfl, rfl, rfl⟩) ⟨lw_at 612 (by decide +kernel) rfl, lw_at 609 (by decide +kernel) rfl, lw_at 59 (by decide +kernel) rfl, by decide, by decide, by decide +kernel⟩ ⟨lw_at 611 (by decide +kernel) rfl, lw_at 21 (by decide +kernel) rfl⟩ ⟨rfl, rfl⟩ hR (c_M_close l ad D cA) ?_ d h st ls σ ?_
  · intro av σ h; unfold pre_M_close at h; split at h
    · obtain ⟨rfl, h⟩ := h; exact ⟨_, rfl⟩
    · exact h.elim
  · unfold oc_M_close at k
    split at k
    next o st =>
      obtain ⟨rfl, hs, hp, k⟩ := k
      refine ⟨[.inr (.inr 900)], st, rfl, rfl, hs, ⟨rfl, hp⟩, fun r σ' hq => ?_⟩
      unfold post_M_close at hq
      split at hq
      next h1 =>
        cases h1
        exact k _ hq
      next => exact hq.elim
    next => exact k.elim
theorem sc_M_295 {l : Launch} {R : Room} {ad : Nat → Nat} {D : va_G} {cA : Nat → ClassId} {cc : ByteArray} {nL : Nat} {WW : Nat → qP} (S : qSnd l R ad D cA R_M cc nL WW) (hR : rm_M_send.frames + 1 ≤ R.frames ∧ 8 + (8 + 11) + rm_M_send.locals ≤ R.locals) {K : qP} {pc : Nat} (d : decode cc pc = .ok (.invokevirtual 295, 3)) (h : qle K WW (pc + 3)) : qle (oc_M_send K) WW pc := by
  intro st ls σ k
  refine S.callV (o := 900) (ci := 0) (N := 82) (base := 0) (C := R_M) (T := F_M) (n := 6) (pre := pre_M_send) (post := post_M_send) (Or.inl ⟨rfl, rfl, rfl, rfl, rfl, rfl⟩) ⟨lw_at 608 (by decide +kernel) rfl, lw_at 605 (by decide +kernel) rfl, lw_at 59 (by decide +kernel) rfl, by decide, by decide, by decide +kernel⟩ ⟨lw_at 607 (by decide +kernel) rfl, lw_at 20 (by decide +kernel) rfl⟩ ⟨rfl, rfl⟩ hR (c_M_send l ad D cA) ?_ d h st ls σ ?_
  · intro av σ h; unfold pre_M_send at h; split at h
    · obtain ⟨rfl, h⟩ := h; exact ⟨_, rfl⟩
    · exact h.elim
  · unfold oc_M_send at k
    split at k
    next a6 a5 a4 a3 a2 a1 o st =>
      obtain ⟨rfl, hs, hp, k⟩ := k
      refine ⟨[.inr (.inr 900), .inl a1, .inl a2, .inl a3, .inl a4, .inl a5, .inl a6], st, rfl, rfl, hs, ⟨rfl, hp⟩, fun r σ' hq => ?_⟩
      unfold post_M_send at hq
      split at hq
      next h1 =>
        cases h1
        exact k _ _ hq
      next => exact hq.elim
    next => exact k.elim
def k_M_tell_0 (QR : Option qA → qS → Prop) (H : Nat → qP) : qP :=
  o_al 0 <| o_il 1 <| o_il 2 <| o_il 3 <| o_il 4 <| o_il 5 <| o_il 6 <| oc_M_send <| o_pop <| o_al 0 <| oc_M_close <| o_rv QR
set_option maxRecDepth 8000 in
theorem s_M_tell_0 {l : Launch} {ad : Nat → Nat} {D : va_G} {cA : Nat → ClassId} {WW : Nat → qP} {QR : Option qA → qS → Prop} (S : qSnd l rm_M_tell ad D cA R_M b_M_tell 7 WW) (Q : qRet (none) b_M_tell WW QR) : qle (k_M_tell_0 QR WW) WW 0 :=
  S.aload_n d_M_tell_0 rfl <| S.iload_n d_M_tell_1 rfl <| S.iload_n d_M_tell_2 rfl <| S.iload_n d_M_tell_3 rfl <| S.iload d_M_tell_4 <| S.iload d_M_tell_6 <| S.iload d_M_tell_8 <| sc_M_295 S (by decide) d_M_tell_10 <| S.pop d_M_tell_13 <| S.aload_n d_M_tell_14 rfl <| sc_M_299 S (by decide) d_M_tell_15 <| Q.2.2.2 rfl _ d_M_tell_18
theorem w_M_tell {l : Launch} {ad : Nat → Nat} {D : va_G} {cA : Nat → ClassId} {WW : Nat → qP} {QR : Option qA → qS → Prop} (S : qSnd l rm_M_tell ad D cA R_M b_M_tell 7 WW) (Q : qRet (none) b_M_tell WW QR) (a1 : Int) (a2 : Int) (a3 : Int) (a4 : Int) (a5 : Int) (a6 : Int) (σ : qS) (ha1 : r32 a1) (ha2 : r32 a2) (ha3 : r32 a3) (ha4 : r32 a4) (ha5 : r32 a5) (ha6 : r32 a6) (hσ : qoS σ) (h : P_M_tell a1 a2 a3 a4 a5 a6 σ) (hq : ∀ σ', Q_M_tell a1 a2 a3 a4 a5 a6 σ σ' → QR none σ') : WW 0 [] [some (.inr (.inr 900)), some (.inl a1), some (.inl a2), some (.inl a3), some (.inl a4), some (.inl a5), some (.inl a6)] σ := by
  refine s_M_tell_0 S Q _ _ _ ?_
  simp only [k_M_tell_0, oc_M_close, oc_M_send, o_c, o_il, o_ll, o_al, o_is, o_as, o_ls, o_inc, o_bi, o_bid, o_bl, o_bld, o_sl, o_i2l, o_l2i, o_dup, o_dup2, o_pop, o_pop2, o_if, o_i2, o_l2, swg, o_sw, o_gI, o_gZ, o_gJ, o_gA, o_gR, o_pI, o_pZ, o_pJ, o_pR, o_ia, o_iak, o_zak, o_ja, o_jak, o_is_, o_isk, o_zsk, o_js_, o_jsk, o_len, o_ri, o_rz, o_rl, o_rv, ls1, ls2, lks, lkj, List.getD_cons_zero, List.getD_cons_succ, List.set_cons_zero, List.set_cons_succ, qcat, true_and, and_true, List.map_nil, List.map_cons, List.sum_nil, List.sum_cons, Nat.reduceAdd, Nat.reduceLeDiff, Nat.zero_le, Int.reduceAdd, Int.reduceNeg, Int.reduceEq, or_true, true_or, Decidable.not_not, false_implies, not_false_eq_true, true_implies, not_true_eq_false, Int.reduceLT, Int.reduceLE]
  refine ⟨h, fun r σ1 q1 => ?_⟩
  obtain ⟨c1, c2, c3, c4, kv, c5, c6⟩ := q1
  refine ⟨⟨by omega, by omega⟩, fun σ2 q2 => hq _ ?_⟩
  obtain ⟨d1, d2, d3, d4, d5⟩ := q2
  have el : σ1 49 = σ 49 := c1 _ (by decide)
  have et : σ1 50 = σ 50 := c1 _ (by decide)
  rw [el] at d3 d5; rw [et] at d4 d5
  exact ⟨c1.lc.tr d1, d2, d3, d4, kv, c5, d5 _ _ c6⟩
theorem c_M_tell (l : Launch) (ad : Nat → Nat) (D : va_G) (cA : Nat → ClassId) : qC l ad D cA y_M_tell (Cond.code y_M_tell b_M_tell 7 (none) :: lw_g) rm_M_tell pre_M_tell post_M_tell := by
  refine qC_of (own := R_M) (by decide) rfl ⟨rfl, rfl⟩ ?_ ?_
  · intro av σ h; unfold pre_M_tell at h; split at h
    · simp [qen]
    · exact h.elim
  · intro WW QR S Q av σ hav hσ h hq; unfold pre_M_tell at h; split at h
    next o a1 a2 a3 a4 a5 a6 =>
      obtain ⟨rfl, h⟩ := h
      exact w_M_tell S Q a1 a2 a3 a4 a5 a6 σ (hav _ (List.mem_of_getElem? (i := 1) rfl)) (hav _ (List.mem_of_getElem? (i := 2) rfl)) (hav _ (List.mem_of_getElem? (i := 3) rfl)) (hav _ (List.mem_of_getElem? (i := 4) rfl)) (hav _ (List.mem_of_getElem? (i := 5) rfl)) (hav _ (List.mem_of_getElem? (i := 6) rfl)) hσ h (fun σ' h' => hq _ σ' h')
    next => exact h.elim
def F_op (σ σ' : qS) : Prop := ∀ k, k ∉ [44, 45, 46, 47, 48, 51, 52, 53] → σ' k = σ k
def lt6 (σ : qS) : List Int := (List.range 6).map (fun j : Nat => σ 51 j)
def lt8 (σ : qS) : List (Int × Int) := (List.range 8).map (fun j : Nat => (σ 52 j, σ 53 j))
def P_M_opens (_who : Int) (σ : qS) : Prop := lok σ
def Q_M_opens (who : Int) (σ : qS) (r : Int) (σ' : qS) : Prop := (r = 0 ∧ σ' = σ ∧ (ln σ).findIdx? (fun m => m.1 == who) = none) ∨ ∃ (i : Nat) (x : Ms), (ln σ).findIdx? (fun m => m.1 == who) = some i ∧ (ln σ)[i]? = some x ∧ F_op σ σ' ∧ lok σ' ∧ ln σ' = (ln σ).eraseIdx i ∧ lt6 σ' = x.2.1 ∧ lt8 σ' = x.2.2 ∧ r = if σ' 51 1 = σ 31 0 then 1 else 0
def pre_M_opens (av : List qA) (σ : qS) : Prop := match av with
  | [.inr (.inr o), .inl a1] => o = 900 ∧ P_M_opens a1 σ
  | _ => False
def post_M_opens (av : List qA) (σ : qS) (r : Option qA) (σ' : qS) : Prop := match av, r with
  | [_, .inl a1], some (.inl r) => Q_M_opens a1 σ r σ'
  | _, _ => False
def oc_M_opens (K : qP) : qP := fun st ls σ => match st with
  | .inl a1 :: .inr (.inr o) :: st => o = 900 ∧ (st.map qcat).sum ≤ 8 ∧ P_M_opens a1 σ ∧ ∀ (r : Int) (σ' : qS), Q_M_opens a1 σ r σ' → K (.inl r :: st) ls σ'
  | _ => False
def rm_M_opens : Room := { frames := 2, cells := 0, slots := 0, locals := 45 }
theorem fl_M_105 : qF R_M 900 0 82 0 R_M F_M 105 51 := ⟨Or.inl ⟨rfl, rfl, rfl, rfl, rfl, rfl⟩, by decide, lw_at 129 (by decide +kernel) rfl⟩
theorem fl_M_108 : qF R_M 900 0 82 0 R_M F_M 108 52 := ⟨Or.inl ⟨rfl, rfl, rfl, rfl, rfl, rfl⟩, by decide, lw_at 130 (by decide +kernel) rfl⟩
theorem fl_M_111 : qF R_M 900 0 82 0 R_M F_M 111 53 := ⟨Or.inl ⟨rfl, rfl, rfl, rfl, rfl, rfl⟩, by decide, lw_at 131 (by decide +kernel) rfl⟩
theorem sc_M_302 {l : Launch} {R : Room} {ad : Nat → Nat} {D : va_G} {cA : Nat → ClassId} {cc : ByteArray} {nL : Nat} {WW : Nat → qP} (S : qSnd l R ad D cA R_M cc nL WW) (hR : rm_M_mail.frames + 1 ≤ R.frames ∧ 8 + (3 + 11) + rm_M_mail.locals ≤ R.locals) {K : qP} {pc : Nat} (d : decode cc pc = .ok (.invokevirtual 302, 3)) (h : qle K WW (pc + 3)) : qle (oc_M_mail K) WW pc := by
  intro st ls σ k
  refine S.callV (o := 900) (ci := 0) (N := 82) (base := 0) (C := R_M) (T := F_M) (n := 1) (pre := pre_M_mail) (post := post_M_mail) (Or.inl ⟨rfl, rfl, rfl, rfl, rfl, rfl⟩) ⟨lw_at 576 (by decide +kernel) rfl, lw_at 573 (by decide +kernel) rfl, lw_at 59 (by decide +kernel) rfl, by decide, by decide, by decide +kernel⟩ ⟨lw_at 575 (by decide +kernel) rfl, lw_at 12 (by decide +kernel) rfl⟩ ⟨rfl, rfl⟩ hR (c_M_mail l ad D cA) ?_ d h st ls σ ?_
  · intro av σ h; unfold pre_M_mail at h; split at h
    · obtain ⟨rfl, h⟩ := h; exact ⟨_, rfl⟩
    · exact h.elim
  · unfold oc_M_mail at k
    split at k
    next a1 o st =>
      obtain ⟨rfl, hs, hp, k⟩ := k
      refine ⟨[.inr (.inr 900), .inl a1], st, rfl, rfl, hs, ⟨rfl, hp⟩, fun r σ' hq => ?_⟩
      unfold post_M_mail at hq
      split at hq
      next h1 =>
        cases h1
        exact k _ _ hq
      next => exact hq.elim
    next => exact k.elim
def k_M_opens_115 (QR : Option qA → qS → Prop) (H : Nat → qP) : qP :=
  o_rz QR
def k_M_opens_114 (QR : Option qA → qS → Prop) (H : Nat → qP) : qP :=
  o_c (.inl 0) <| k_M_opens_115 QR H
def k_M_opens_110 (QR : Option qA → qS → Prop) (H : Nat → qP) : qP :=
  o_c (.inl 1) <| k_M_opens_115 QR H
def k_M_opens_92 (QR : Option qA → qS → Prop) (H : Nat → qP) : qP :=
  o_al 0 <| o_il 2 <| oc_M_take <| o_al 0 <| o_gA 900 51 <| o_c (.inl 1) <| o_iak 51 6 <| o_al 0 <| o_gI 900 31 <| o_i2 (fun a b => ¬ a = b) (k_M_opens_114 QR H) (k_M_opens_110 QR H)
def k_M_opens_52 (QR : Option qA → qS → Prop) (H : Nat → qP) : qP :=
  o_al 0 <| o_gA 900 52 <| o_il 3 <| o_al 0 <| o_gA 900 46 <| o_il 2 <| o_c (.inl 8) <| o_bi z_mul <| o_il 3 <| o_bi z_add <| o_jak 46 768 <| o_jsk 52 8 <| o_al 0 <| o_gA 900 53 <| o_il 3 <| o_al 0 <| o_gA 900 47 <| o_il 2 <| o_c (.inl 8) <| o_bi z_mul <| o_il 3 <| o_bi z_add <| o_jak 47 768 <| o_jsk 53 8 <| o_inc 3 1 <| H 46
def k_M_opens_46 (QR : Option qA → qS → Prop) (H : Nat → qP) : qP :=
  o_il 3 <| o_c (.inl 8) <| o_i2 (fun a b => b ≤ a) (k_M_opens_92 QR H) (k_M_opens_52 QR H)
def k_M_opens_44 (QR : Option qA → qS → Prop) (H : Nat → qP) : qP :=
  o_c (.inl 0) <| o_is 3 <| H 46
def k_M_opens_21 (QR : Option qA → qS → Prop) (H : Nat → qP) : qP :=
  o_al 0 <| o_gA 900 51 <| o_il 3 <| o_al 0 <| o_gA 900 45 <| o_il 2 <| o_c (.inl 6) <| o_bi z_mul <| o_il 3 <| o_bi z_add <| o_iak 45 576 <| o_isk 51 6 <| o_inc 3 1 <| H 15
def k_M_opens_15 (QR : Option qA → qS → Prop) (H : Nat → qP) : qP :=
  o_il 3 <| o_c (.inl 6) <| o_i2 (fun a b => b ≤ a) (k_M_opens_44 QR H) (k_M_opens_21 QR H)
def k_M_opens_13 (QR : Option qA → qS → Prop) (H : Nat → qP) : qP :=
  o_c (.inl 0) <| o_is 3 <| H 15
def k_M_opens_11 (QR : Option qA → qS → Prop) (H : Nat → qP) : qP :=
  o_c (.inl 0) <| o_rz QR
def k_M_opens_0 (QR : Option qA → qS → Prop) (H : Nat → qP) : qP :=
  o_al 0 <| o_il 1 <| oc_M_mail <| o_is 2 <| o_il 2 <| o_c (.inl (-1)) <| o_i2 (fun a b => ¬ a = b) (k_M_opens_13 QR H) (k_M_opens_11 QR H)
set_option maxRecDepth 8000 in
theorem s_M_opens_115 {l : Launch} {ad : Nat → Nat} {D : va_G} {cA : Nat → ClassId} {WW : Nat → qP} {QR : Option qA → qS → Prop} (S : qSnd l rm_M_opens ad D cA R_M b_M_opens 4 WW) (Q : qRet (some .boolean) b_M_opens WW QR) : qle (k_M_opens_115 QR WW) WW 115 :=
  Q.2.1 rfl _ d_M_opens_115
set_option maxRecDepth 8000 in
theorem s_M_opens_114 {l : Launch} {ad : Nat → Nat} {D : va_G} {cA : Nat → ClassId} {WW : Nat → qP} {QR : Option qA → qS → Prop} (S : qSnd l rm_M_opens ad D cA R_M b_M_opens 4 WW) (Q : qRet (some .boolean) b_M_opens WW QR) : qle (k_M_opens_114 QR WW) WW 114 :=
  S.iconst d_M_opens_114 (by decide) <| (s_M_opens_115 S Q)
set_option maxRecDepth 8000 in
theorem s_M_opens_110 {l : Launch} {ad : Nat → Nat} {D : va_G} {cA : Nat → ClassId} {WW : Nat → qP} {QR : Option qA → qS → Prop} (S : qSnd l rm_M_opens ad D cA R_M b_M_opens 4 WW) (Q : qRet (some .boolean) b_M_opens WW QR) : qle (k_M_opens_110 QR WW) WW 110 :=
  S.iconst d_M_opens_110 (by decide) <| S.goto d_M_opens_111 (by decide) (s_M_opens_115 S Q)
set_option maxRecDepth 8000 in
theorem s_M_opens_92 {l : Launch} {ad : Nat → Nat} {D : va_G} {cA : Nat → ClassId} {WW : Nat → qP} {QR : Option qA → qS → Prop} (S : qSnd l rm_M_opens ad D cA R_M b_M_opens 4 WW) (Q : qRet (some .boolean) b_M_opens WW QR) : qle (k_M_opens_92 QR WW) WW 92 :=
  S.aload_n d_M_opens_92 rfl <| S.iload_n d_M_opens_93 rfl <| sc_M_282 S (by decide) d_M_opens_94 <| S.aload_n d_M_opens_97 rfl <| S.gA fl_M_105 (by decide) d_M_opens_98 <| S.iconst d_M_opens_101 (by decide) <| S.iak (by decide) d_M_opens_102 <| S.aload_n d_M_opens_103 rfl <| S.gI fl_M_270 (by decide) d_M_opens_104 <| S.icmp_ne d_M_opens_107 (by decide) (s_M_opens_114 S Q) (s_M_opens_110 S Q)
set_option maxRecDepth 8000 in
theorem s_M_opens_52 {l : Launch} {ad : Nat → Nat} {D : va_G} {cA : Nat → ClassId} {WW : Nat → qP} {QR : Option qA → qS → Prop} (S : qSnd l rm_M_opens ad D cA R_M b_M_opens 4 WW) (Q : qRet (some .boolean) b_M_opens WW QR) : qle (k_M_opens_52 QR WW) WW 52 :=
  S.aload_n d_M_opens_52 rfl <| S.gA fl_M_108 (by decide) d_M_opens_53 <| S.iload_n d_M_opens_56 rfl <| S.aload_n d_M_opens_57 rfl <| S.gA fl_M_99 (by decide) d_M_opens_58 <| S.iload_n d_M_opens_61 rfl <| S.bipush d_M_opens_62 (by decide) <| S.imul d_M_opens_64 <| S.iload_n d_M_opens_65 rfl <| S.iadd d_M_opens_66 <| S.jak (by decide) d_M_opens_67 <| S.jsk (by decide) d_M_opens_68 <| S.aload_n d_M_opens_69 rfl <| S.gA fl_M_111 (by decide) d_M_opens_70 <| S.iload_n d_M_opens_73 rfl <| S.aload_n d_M_opens_74 rfl <| S.gA fl_M_102 (by decide) d_M_opens_75 <| S.iload_n d_M_opens_78 rfl <| S.bipush d_M_opens_79 (by decide) <| S.imul d_M_opens_81 <| S.iload_n d_M_opens_82 rfl <| S.iadd d_M_opens_83 <| S.jak (by decide) d_M_opens_84 <| S.jsk (by decide) d_M_opens_85 <| S.iinc d_M_opens_86 (by decide) <| S.goto d_M_opens_89 (by decide) (fun _ _ _ h => h)
set_option maxRecDepth 8000 in
theorem s_M_opens_46 {l : Launch} {ad : Nat → Nat} {D : va_G} {cA : Nat → ClassId} {WW : Nat → qP} {QR : Option qA → qS → Prop} (S : qSnd l rm_M_opens ad D cA R_M b_M_opens 4 WW) (Q : qRet (some .boolean) b_M_opens WW QR) : qle (k_M_opens_46 QR WW) WW 46 :=
  S.iload_n d_M_opens_46 rfl <| S.bipush d_M_opens_47 (by decide) <| S.icmp_ge d_M_opens_49 (by decide) (s_M_opens_92 S Q) (s_M_opens_52 S Q)
set_option maxRecDepth 8000 in
theorem s_M_opens_44 {l : Launch} {ad : Nat → Nat} {D : va_G} {cA : Nat → ClassId} {WW : Nat → qP} {QR : Option qA → qS → Prop} (S : qSnd l rm_M_opens ad D cA R_M b_M_opens 4 WW) (Q : qRet (some .boolean) b_M_opens WW QR) : qle (k_M_opens_44 QR WW) WW 44 :=
  S.iconst d_M_opens_44 (by decide) <| S.istore_n d_M_opens_45 rfl (by decide) <| (fun _ _ _ h => h)
set_option maxRecDepth 8000 in
theorem s_M_opens_21 {l : Launch} {ad : Nat → Nat} {D : va_G} {cA : Nat → ClassId} {WW : Nat → qP} {QR : Option qA → qS → Prop} (S : qSnd l rm_M_opens ad D cA R_M b_M_opens 4 WW) (Q : qRet (some .boolean) b_M_opens WW QR) : qle (k_M_opens_21 QR WW) WW 21 :=
  S.aload_n d_M_opens_21 rfl <| S.gA fl_M_105 (by decide) d_M_opens_22 <| S.iload_n d_M_opens_25 rfl <| S.aload_n d_M_opens_26 rfl <| S.gA fl_M_96 (by decide) d_M_opens_27 <| S.iload_n d_M_opens_30 rfl <| S.bipush d_M_opens_31 (by decide) <| S.imul d_M_opens_33 <| S.iload_n d_M_opens_34 rfl <| S.iadd d_M_opens_35 <| S.iak (by decide) d_M_opens_36 <| S.isk (by decide) d_M_opens_37 <| S.iinc d_M_opens_38 (by decide) <| S.goto d_M_opens_41 (by decide) (fun _ _ _ h => h)
set_option maxRecDepth 8000 in
theorem s_M_opens_15 {l : Launch} {ad : Nat → Nat} {D : va_G} {cA : Nat → ClassId} {WW : Nat → qP} {QR : Option qA → qS → Prop} (S : qSnd l rm_M_opens ad D cA R_M b_M_opens 4 WW) (Q : qRet (some .boolean) b_M_opens WW QR) : qle (k_M_opens_15 QR WW) WW 15 :=
  S.iload_n d_M_opens_15 rfl <| S.bipush d_M_opens_16 (by decide) <| S.icmp_ge d_M_opens_18 (by decide) (s_M_opens_44 S Q) (s_M_opens_21 S Q)
set_option maxRecDepth 8000 in
theorem s_M_opens_13 {l : Launch} {ad : Nat → Nat} {D : va_G} {cA : Nat → ClassId} {WW : Nat → qP} {QR : Option qA → qS → Prop} (S : qSnd l rm_M_opens ad D cA R_M b_M_opens 4 WW) (Q : qRet (some .boolean) b_M_opens WW QR) : qle (k_M_opens_13 QR WW) WW 13 :=
  S.iconst d_M_opens_13 (by decide) <| S.istore_n d_M_opens_14 rfl (by decide) <| (fun _ _ _ h => h)
set_option maxRecDepth 8000 in
theorem s_M_opens_11 {l : Launch} {ad : Nat → Nat} {D : va_G} {cA : Nat → ClassId} {WW : Nat → qP} {QR : Option qA → qS → Prop} (S : qSnd l rm_M_opens ad D cA R_M b_M_opens 4 WW) (Q : qRet (some .boolean) b_M_opens WW QR) : qle (k_M_opens_11 QR WW) WW 11 :=
  S.iconst d_M_opens_11 (by decide) <| Q.2.1 rfl _ d_M_opens_12
set_option maxRecDepth 8000 in
theorem s_M_opens_0 {l : Launch} {ad : Nat → Nat} {D : va_G} {cA : Nat → ClassId} {WW : Nat → qP} {QR : Option qA → qS → Prop} (S : qSnd l rm_M_opens ad D cA R_M b_M_opens 4 WW) (Q : qRet (some .boolean) b_M_opens WW QR) : qle (k_M_opens_0 QR WW) WW 0 :=
  S.aload_n d_M_opens_0 rfl <| S.iload_n d_M_opens_1 rfl <| sc_M_302 S (by decide) d_M_opens_2 <| S.istore_n d_M_opens_5 rfl (by decide) <| S.iload_n d_M_opens_6 rfl <| S.iconst d_M_opens_7 (by decide) <| S.icmp_ne d_M_opens_8 (by decide) (s_M_opens_13 S Q) (s_M_opens_11 S Q)
def op1 (σ : qS) (m k : Int) : qS := ra σ 51 0 k (fun i => σ 45 (m * 6 + i))
def op2 (σ : qS) (m k : Int) : qS := ra (ra (op1 σ m 6) 52 0 k (fun i => σ 46 (m * 8 + i))) 53 0 k (fun i => σ 47 (m * 8 + i))
theorem op2_F (σ : qS) (m : Int) (k : Nat) (hk : k ∉ [51, 52, 53]) : op2 σ m 8 k = σ k := by
  unfold op2 op1
  rw [ra_k (by intro e; subst e; exact hk (by decide)), ra_k (by intro e; subst e; exact hk (by decide)), ra_k (by intro e; subst e; exact hk (by decide))]
theorem op2_ln (σ : qS) (m : Int) : ln (op2 σ m 8) = ln σ := by
  refine ln_same (by rw [op2_F _ _ _ (by decide)]) (fun j => mg_of (by rw [op2_F _ _ _ (by decide)]) (fun _ _ _ => by rw [op2_F _ _ _ (by decide)]) (fun _ _ _ => by rw [op2_F _ _ _ (by decide), op2_F _ _ _ (by decide)]; exact ⟨rfl, rfl⟩))
theorem v_M_opens_46 {l : Launch} {ad : Nat → Nat} {D : va_G} {cA : Nat → ClassId} {WW : Nat → qP} {QR : Option qA → qS → Prop} (S : qSnd l rm_M_opens ad D cA R_M b_M_opens 4 WW) (Q : qRet (some .boolean) b_M_opens WW QR) (σ : qS) (who : Int) (m : Nat) (hp : lok σ) (hm : (m : Int) < σ 48 0) (hf : (ln σ).findIdx? (fun x => x.1 == who) = some m) (hq : ∀ r σ', Q_M_opens who σ r σ' → QR (some (.inl r)) σ') : ∀ (n k : Nat), k + n = 8 → WW 46 [] [some (.inr (.inr 900)), some (.inl who), some (.inl (m : Int)), some (.inl k)] (op2 σ m k) := by
  obtain ⟨h1, h2⟩ := hp
  intro n
  induction n with
  | zero =>
    intro k hk
    refine s_M_opens_46 S Q _ _ _ ?_
    simp only [k_M_opens_0, k_M_opens_11, k_M_opens_13, k_M_opens_15, k_M_opens_21, k_M_opens_44, k_M_opens_46, k_M_opens_52, k_M_opens_92, k_M_opens_110, k_M_opens_114, k_M_opens_115, oc_M_mail, oc_M_take, o_c, o_il, o_ll, o_al, o_is, o_as, o_ls, o_inc, o_bi, o_bid, o_bl, o_bld, o_sl, o_i2l, o_l2i, o_dup, o_dup2, o_pop, o_pop2, o_if, o_i2, o_l2, swg, o_sw, o_gI, o_gZ, o_gJ, o_gA, o_gR, o_pI, o_pZ, o_pJ, o_pR, o_ia, o_iak, o_zak, o_ja, o_jak, o_is_, o_isk, o_zsk, o_js_, o_jsk, o_len, o_ri, o_rz, o_rl, o_rv, ls1, ls2, lks, lkj, List.getD_cons_zero, List.getD_cons_succ, List.set_cons_zero, List.set_cons_succ, qcat, true_and, and_true, List.map_nil, List.map_cons, List.sum_nil, List.sum_cons, Nat.reduceAdd, Nat.reduceLeDiff, Nat.zero_le, Int.reduceAdd, Int.reduceNeg, Int.reduceEq, or_true, true_or, Decidable.not_not, false_implies, not_false_eq_true, true_implies, not_true_eq_false, Int.reduceLT, Int.reduceLE]
    have : (k : Int) = 8 := by omega
    rw [this]
    refine ⟨fun _ => ⟨⟨by omega, by rw [op2_F _ _ _ (by decide)]; exact hm, by rw [op2_F _ _ _ (by decide)]; exact h2⟩, fun σ1 q1 => ?_⟩, fun h => by omega⟩
    obtain ⟨c1, c2, c3⟩ := q1
    have eL : σ1 51 = op2 σ m 8 51 := c1 _ (by decide)
    have eK : σ1 52 = op2 σ m 8 52 := c1 _ (by decide)
    have eV : σ1 53 = op2 σ m 8 53 := c1 _ (by decide)
    have eE : σ1 31 = σ 31 := by rw [c1 _ (by decide), op2_F _ _ _ (by decide)]
    have fin : ∀ r, (r = if σ1 51 1 = σ 31 0 then 1 else 0) → QR (some (.inl r)) σ1 := by
      intro r hr
      refine hq _ _ (Or.inr ⟨m, mg σ m, hf, ln_at hm, fun q hq' => ?_, ?_, ?_, ?_, ?_, hr⟩)
      · rw [c1 q (fun e => hq' (by simp only [List.mem_cons, List.not_mem_nil, or_false] at e ⊢; omega)), op2_F _ _ _ (fun e => hq' (by simp only [List.mem_cons, List.not_mem_nil, or_false] at e ⊢; omega))]
      · rw [op2_F _ _ _ (by decide)] at c2; unfold lok; omega
      · rw [c3, op2_ln]; rfl
      · unfold lt6; rw [eL]
        show _ = (List.range 6).map (fun j : Nat => σ 45 (m * 6 + j))
        apply List.map_congr_left
        intro j hj
        have := List.mem_range.mp hj
        unfold op2 op1
        rw [ra_k (by decide), ra_k (by decide), ra_e, if_pos (by omega)]
      · unfold lt8; rw [eK, eV]
        show _ = (List.range 8).map (fun j : Nat => (σ 46 (m * 8 + j), σ 47 (m * 8 + j)))
        apply List.map_congr_left
        intro j hj
        have := List.mem_range.mp hj
        unfold op2 op1
        rw [ra_k (by decide), ra_e, ra_e, if_pos (by omega), if_pos (by omega)]
    rw [eE]
    refine ⟨fun e => fin 0 ?_, fun e => fin 1 ?_⟩
    · rw [if_neg e]
    · rw [if_pos e]
  | succ n ih =>
    intro k hk
    refine s_M_opens_46 S Q _ _ _ ?_
    simp only [k_M_opens_0, k_M_opens_11, k_M_opens_13, k_M_opens_15, k_M_opens_21, k_M_opens_44, k_M_opens_46, k_M_opens_52, k_M_opens_92, k_M_opens_110, k_M_opens_114, k_M_opens_115, oc_M_mail, oc_M_take, o_c, o_il, o_ll, o_al, o_is, o_as, o_ls, o_inc, o_bi, o_bid, o_bl, o_bld, o_sl, o_i2l, o_l2i, o_dup, o_dup2, o_pop, o_pop2, o_if, o_i2, o_l2, swg, o_sw, o_gI, o_gZ, o_gJ, o_gA, o_gR, o_pI, o_pZ, o_pJ, o_pR, o_ia, o_iak, o_zak, o_ja, o_jak, o_is_, o_isk, o_zsk, o_js_, o_jsk, o_len, o_ri, o_rz, o_rl, o_rv, ls1, ls2, lks, lkj, List.getD_cons_zero, List.getD_cons_succ, List.set_cons_zero, List.set_cons_succ, qcat, true_and, and_true, List.map_nil, List.map_cons, List.sum_nil, List.sum_cons, Nat.reduceAdd, Nat.reduceLeDiff, Nat.zero_le, Int.reduceAdd, Int.reduceNeg, Int.reduceEq, or_true, true_or, Decidable.not_not, false_implies, not_false_eq_true, true_implies, not_true_eq_false, Int.reduceLT, Int.reduceLE]
    rw [z_m8 ⟨by omega, by omega⟩ (by omega), w32_i _ (by omega) (by omega)]
    refine ⟨fun h => by omega, fun h => ⟨by omega, by omega, by omega, by omega, ?_⟩⟩
    have e1 : op2 σ m k 46 = σ 46 := by unfold op2 op1; simp (disch := omega) only [ra_k]
    have e2 : op2 σ m k 47 = σ 47 := by unfold op2 op1; simp (disch := omega) only [ra_k]
    rw [su_k (by decide), e1, e2]
    have e3 : su (su (op2 σ m k) 52 k (σ 46 (m * 8 + k))) 53 k (σ 47 (m * 8 + k)) = op2 σ m ((k + 1 : Nat) : Int) := by
      unfold op2
      rw [su_ra (by decide), ra_s (by omega) rfl, ra_s (by omega) rfl]
      rfl
    rw [e3]
    exact ih (k + 1) (by omega)
theorem v_M_opens_15 {l : Launch} {ad : Nat → Nat} {D : va_G} {cA : Nat → ClassId} {WW : Nat → qP} {QR : Option qA → qS → Prop} (S : qSnd l rm_M_opens ad D cA R_M b_M_opens 4 WW) (Q : qRet (some .boolean) b_M_opens WW QR) (σ : qS) (who : Int) (m : Nat) (hp : lok σ) (hm : (m : Int) < σ 48 0) (hf : (ln σ).findIdx? (fun x => x.1 == who) = some m) (hq : ∀ r σ', Q_M_opens who σ r σ' → QR (some (.inl r)) σ') : ∀ (n k : Nat), k + n = 6 → WW 15 [] [some (.inr (.inr 900)), some (.inl who), some (.inl (m : Int)), some (.inl k)] (op1 σ m k) := by
  have hp' := hp
  obtain ⟨h1, h2⟩ := hp
  intro n
  induction n with
  | zero =>
    intro k hk
    refine s_M_opens_15 S Q _ _ _ ?_
    simp only [k_M_opens_0, k_M_opens_11, k_M_opens_13, k_M_opens_15, k_M_opens_21, k_M_opens_44, k_M_opens_46, k_M_opens_52, k_M_opens_92, k_M_opens_110, k_M_opens_114, k_M_opens_115, oc_M_mail, oc_M_take, o_c, o_il, o_ll, o_al, o_is, o_as, o_ls, o_inc, o_bi, o_bid, o_bl, o_bld, o_sl, o_i2l, o_l2i, o_dup, o_dup2, o_pop, o_pop2, o_if, o_i2, o_l2, swg, o_sw, o_gI, o_gZ, o_gJ, o_gA, o_gR, o_pI, o_pZ, o_pJ, o_pR, o_ia, o_iak, o_zak, o_ja, o_jak, o_is_, o_isk, o_zsk, o_js_, o_jsk, o_len, o_ri, o_rz, o_rl, o_rv, ls1, ls2, lks, lkj, List.getD_cons_zero, List.getD_cons_succ, List.set_cons_zero, List.set_cons_succ, qcat, true_and, and_true, List.map_nil, List.map_cons, List.sum_nil, List.sum_cons, Nat.reduceAdd, Nat.reduceLeDiff, Nat.zero_le, Int.reduceAdd, Int.reduceNeg, Int.reduceEq, or_true, true_or, Decidable.not_not, false_implies, not_false_eq_true, true_implies, not_true_eq_false, Int.reduceLT, Int.reduceLE]
    have : (k : Int) = 6 := by omega
    rw [this]
    refine ⟨fun _ => ?_, fun h => by omega⟩
    have := v_M_opens_46 S Q σ who m hp' hm hf hq 8 0 rfl
    have e : op2 σ m ((0 : Nat) : Int) = op1 σ m 6 := by unfold op2; rw [ra_0 (by simp), ra_0 (by simp)]
    rw [e] at this
    exact this
  | succ n ih =>
    intro k hk
    refine s_M_opens_15 S Q _ _ _ ?_
    simp only [k_M_opens_0, k_M_opens_11, k_M_opens_13, k_M_opens_15, k_M_opens_21, k_M_opens_44, k_M_opens_46, k_M_opens_52, k_M_opens_92, k_M_opens_110, k_M_opens_114, k_M_opens_115, oc_M_mail, oc_M_take, o_c, o_il, o_ll, o_al, o_is, o_as, o_ls, o_inc, o_bi, o_bid, o_bl, o_bld, o_sl, o_i2l, o_l2i, o_dup, o_dup2, o_pop, o_pop2, o_if, o_i2, o_l2, swg, o_sw, o_gI, o_gZ, o_gJ, o_gA, o_gR, o_pI, o_pZ, o_pJ, o_pR, o_ia, o_iak, o_zak, o_ja, o_jak, o_is_, o_isk, o_zsk, o_js_, o_jsk, o_len, o_ri, o_rz, o_rl, o_rv, ls1, ls2, lks, lkj, List.getD_cons_zero, List.getD_cons_succ, List.set_cons_zero, List.set_cons_succ, qcat, true_and, and_true, List.map_nil, List.map_cons, List.sum_nil, List.sum_cons, Nat.reduceAdd, Nat.reduceLeDiff, Nat.zero_le, Int.reduceAdd, Int.reduceNeg, Int.reduceEq, or_true, true_or, Decidable.not_not, false_implies, not_false_eq_true, true_implies, not_true_eq_false, Int.reduceLT, Int.reduceLE]
    rw [z_m6 ⟨by omega, by omega⟩ (by omega), w32_i _ (by omega) (by omega)]
    refine ⟨fun h => by omega, fun h => ⟨by omega, by omega, ?_⟩⟩
    have e1 : op1 σ m k 45 = σ 45 := by unfold op1; simp (disch := omega) only [ra_k]
    rw [e1]
    have e3 : su (op1 σ m k) 51 k (σ 45 (m * 6 + k)) = op1 σ m ((k + 1 : Nat) : Int) := by
      unfold op1
      rw [ra_s (by omega) rfl]; rfl
    rw [e3]
    exact ih (k + 1) (by omega)
theorem w_M_opens {l : Launch} {ad : Nat → Nat} {D : va_G} {cA : Nat → ClassId} {WW : Nat → qP} {QR : Option qA → qS → Prop} (S : qSnd l rm_M_opens ad D cA R_M b_M_opens 4 WW) (Q : qRet (some .boolean) b_M_opens WW QR) (a1 : Int) (σ : qS) (ha1 : r32 a1) (hσ : qoS σ) (h : P_M_opens a1 σ) (hq : ∀ (r : Int) σ', Q_M_opens a1 σ r σ' → QR (some (.inl r)) σ') : WW 0 [] [some (.inr (.inr 900)), some (.inl a1), none, none] σ := by
  refine s_M_opens_0 S Q _ _ _ ?_
  simp only [k_M_opens_0, k_M_opens_11, k_M_opens_13, k_M_opens_15, k_M_opens_21, k_M_opens_44, k_M_opens_46, k_M_opens_52, k_M_opens_92, k_M_opens_110, k_M_opens_114, k_M_opens_115, oc_M_mail, oc_M_take, o_c, o_il, o_ll, o_al, o_is, o_as, o_ls, o_inc, o_bi, o_bid, o_bl, o_bld, o_sl, o_i2l, o_l2i, o_dup, o_dup2, o_pop, o_pop2, o_if, o_i2, o_l2, swg, o_sw, o_gI, o_gZ, o_gJ, o_gA, o_gR, o_pI, o_pZ, o_pJ, o_pR, o_ia, o_iak, o_zak, o_ja, o_jak, o_is_, o_isk, o_zsk, o_js_, o_jsk, o_len, o_ri, o_rz, o_rl, o_rv, ls1, ls2, lks, lkj, List.getD_cons_zero, List.getD_cons_succ, List.set_cons_zero, List.set_cons_succ, qcat, true_and, and_true, List.map_nil, List.map_cons, List.sum_nil, List.sum_cons, Nat.reduceAdd, Nat.reduceLeDiff, Nat.zero_le, Int.reduceAdd, Int.reduceNeg, Int.reduceEq, or_true, true_or, Decidable.not_not, false_implies, not_false_eq_true, true_implies, not_true_eq_false, Int.reduceLT, Int.reduceLE]
  refine ⟨h, fun r σ1 q1 => ?_⟩
  obtain ⟨rfl, q1⟩ := q1
  rcases q1 with ⟨rfl, hn⟩ | ⟨i, rfl, hi, hf⟩
  · exact ⟨fun h => absurd rfl h, fun _ => hq _ _ (Or.inl ⟨rfl, rfl, hn⟩)⟩
  · refine ⟨fun _ => ?_, fun h => by omega⟩
    have := v_M_opens_15 S Q σ1 a1 i h hi hf hq 6 0 rfl
    have e : op1 σ1 i ((0 : Nat) : Int) = σ1 := by unfold op1; rw [ra_0 (by simp)]
    rw [e] at this
    exact this
theorem c_M_opens (l : Launch) (ad : Nat → Nat) (D : va_G) (cA : Nat → ClassId) : qC l ad D cA y_M_opens (Cond.code y_M_opens b_M_opens 4 (some .boolean) :: lw_g) rm_M_opens pre_M_opens post_M_opens := by
  refine qC_of (own := R_M) (by decide) rfl ⟨rfl, rfl⟩ ?_ ?_
  · intro av σ h; unfold pre_M_opens at h; split at h
    · simp [qen]
    · exact h.elim
  · intro WW QR S Q av σ hav hσ h hq; unfold pre_M_opens at h; split at h
    next o a1 =>
      obtain ⟨rfl, h⟩ := h
      exact w_M_opens S Q a1 σ (hav _ (List.mem_of_getElem? (i := 1) rfl)) hσ h (fun r σ' h' => hq _ σ' h')
    next => exact h.elim

