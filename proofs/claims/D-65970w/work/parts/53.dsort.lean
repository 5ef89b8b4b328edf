def P_D_sort (rk rv : Nat) (fr to : Int) (_σ : qS) : Prop := (rk ∈ qar ∧ qty rk = 1 ∧ rv ∈ qar ∧ qty rv = 1 ∧ rk ≠ rv) ∧ (0 ≤ fr ∧ fr ≤ to) ∧ (to ≤ qln rk ∧ to ≤ qln rv)
def Q_D_sort (rk rv : Nat) (fr to : Int) (σ σ' : qS) : Prop := (∀ q, q ≠ rk → q ≠ rv → σ' q = σ q) ∧ (∀ j, (j < fr ∨ to ≤ j) → σ' rk j = σ rk j ∧ σ' rv j = σ rv j) ∧ row σ' rk rv fr (to - fr).toNat = srt (row σ rk rv fr (to - fr).toNat)
def pre_D_sort (av : List qA) (σ : qS) : Prop := match av with
  | [.inr (.inr a1), .inr (.inr a2), .inl a3, .inl a4] => P_D_sort a1 a2 a3 a4 σ
  | _ => False
def post_D_sort (av : List qA) (σ : qS) (r : Option qA) (σ' : qS) : Prop := match av, r with
  | [.inr (.inr a1), .inr (.inr a2), .inl a3, .inl a4], none => Q_D_sort a1 a2 a3 a4 σ σ'
  | _, _ => False
def oc_D_sort (K : qP) : qP := fun st ls σ => match st with
  | .inl a4 :: .inl a3 :: .inr (.inr a2) :: .inr (.inr a1) :: st => (st.map qcat).sum ≤ 8 ∧ P_D_sort a1 a2 a3 a4 σ ∧ ∀ (σ' : qS), Q_D_sort a1 a2 a3 a4 σ σ' → K st ls σ'
  | _ => False
def rm_D_sort : Room := { frames := 0, cells := 0, slots := 0, locals := 0 }
def k_D_sort_89 (QR : Option qA → qS → Prop) (H : Nat → qP) : qP :=
  o_rv QR
def k_D_sort_71 (QR : Option qA → qS → Prop) (H : Nat → qP) : qP :=
  o_al 0 <| o_il 9 <| o_ll 5 <| o_js_ <| o_al 1 <| o_il 9 <| o_ll 7 <| o_js_ <| o_inc 4 1 <| H 5
def k_D_sort_45 (QR : Option qA → qS → Prop) (H : Nat → qP) : qP :=
  o_al 0 <| o_il 9 <| o_al 0 <| o_il 9 <| o_c (.inl 1) <| o_bi z_sub <| o_ja <| o_js_ <| o_al 1 <| o_il 9 <| o_al 1 <| o_il 9 <| o_c (.inl 1) <| o_bi z_sub <| o_ja <| o_js_ <| o_inc 9 (-1) <| H 27
def k_D_sort_33 (QR : Option qA → qS → Prop) (H : Nat → qP) : qP :=
  o_al 0 <| o_il 9 <| o_c (.inl 1) <| o_bi z_sub <| o_ja <| o_ll 5 <| o_l2 (fun a b => a ≤ b) (k_D_sort_71 QR H) (k_D_sort_45 QR H)
def k_D_sort_27 (QR : Option qA → qS → Prop) (H : Nat → qP) : qP :=
  o_il 9 <| o_il 2 <| o_i2 (fun a b => a ≤ b) (k_D_sort_71 QR H) (k_D_sort_33 QR H)
def k_D_sort_11 (QR : Option qA → qS → Prop) (H : Nat → qP) : qP :=
  o_al 0 <| o_il 4 <| o_ja <| o_ls 5 <| o_al 1 <| o_il 4 <| o_ja <| o_ls 7 <| o_il 4 <| o_is 9 <| H 27
def k_D_sort_5 (QR : Option qA → qS → Prop) (H : Nat → qP) : qP :=
  o_il 4 <| o_il 3 <| o_i2 (fun a b => b ≤ a) (k_D_sort_89 QR H) (k_D_sort_11 QR H)
def k_D_sort_0 (QR : Option qA → qS → Prop) (H : Nat → qP) : qP :=
  o_il 2 <| o_c (.inl 1) <| o_bi z_add <| o_is 4 <| H 5
set_option maxRecDepth 8000 in
theorem s_D_sort_89 {l : Launch} {ad : Nat → Nat} {D : va_G} {cA : Nat → ClassId} {WW : Nat → qP} {QR : Option qA → qS → Prop} (S : qSnd l rm_D_sort ad D cA R_D b_D_sort 10 WW) (Q : qRet (none) b_D_sort WW QR) : qle (k_D_sort_89 QR WW) WW 89 :=
  Q.2.2.2 rfl _ d_D_sort_89
set_option maxRecDepth 8000 in
theorem s_D_sort_71 {l : Launch} {ad : Nat → Nat} {D : va_G} {cA : Nat → ClassId} {WW : Nat → qP} {QR : Option qA → qS → Prop} (S : qSnd l rm_D_sort ad D cA R_D b_D_sort 10 WW) (Q : qRet (none) b_D_sort WW QR) : qle (k_D_sort_71 QR WW) WW 71 :=
  S.aload_n d_D_sort_71 rfl <| S.iload d_D_sort_72 <| S.lload d_D_sort_74 <| S.jast d_D_sort_76 <| S.aload_n d_D_sort_77 rfl <| S.iload d_D_sort_78 <| S.lload d_D_sort_80 <| S.jast d_D_sort_82 <| S.iinc d_D_sort_83 (by decide) <| S.goto d_D_sort_86 (by decide) (fun _ _ _ h => h)
set_option maxRecDepth 8000 in
theorem s_D_sort_45 {l : Launch} {ad : Nat → Nat} {D : va_G} {cA : Nat → ClassId} {WW : Nat → qP} {QR : Option qA → qS → Prop} (S : qSnd l rm_D_sort ad D cA R_D b_D_sort 10 WW) (Q : qRet (none) b_D_sort WW QR) : qle (k_D_sort_45 QR WW) WW 45 :=
  S.aload_n d_D_sort_45 rfl <| S.iload d_D_sort_46 <| S.aload_n d_D_sort_48 rfl <| S.iload d_D_sort_49 <| S.iconst d_D_sort_51 (by decide) <| S.isub d_D_sort_52 <| S.jald d_D_sort_53 <| S.jast d_D_sort_54 <| S.aload_n d_D_sort_55 rfl <| S.iload d_D_sort_56 <| S.aload_n d_D_sort_58 rfl <| S.iload d_D_sort_59 <| S.iconst d_D_sort_61 (by decide) <| S.isub d_D_sort_62 <| S.jald d_D_sort_63 <| S.jast d_D_sort_64 <| S.iinc d_D_sort_65 (by decide) <| S.goto d_D_sort_68 (by decide) (fun _ _ _ h => h)
set_option maxRecDepth 8000 in
theorem s_D_sort_33 {l : Launch} {ad : Nat → Nat} {D : va_G} {cA : Nat → ClassId} {WW : Nat → qP} {QR : Option qA → qS → Prop} (S : qSnd l rm_D_sort ad D cA R_D b_D_sort 10 WW) (Q : qRet (none) b_D_sort WW QR) : qle (k_D_sort_33 QR WW) WW 33 :=
  S.aload_n d_D_sort_33 rfl <| S.iload d_D_sort_34 <| S.iconst d_D_sort_36 (by decide) <| S.isub d_D_sort_37 <| S.jald d_D_sort_38 <| S.lload d_D_sort_39 <| S.lcmp_le d_D_sort_41 d_D_sort_42 (by decide) (s_D_sort_71 S Q) (s_D_sort_45 S Q)
set_option maxRecDepth 8000 in
theorem s_D_sort_27 {l : Launch} {ad : Nat → Nat} {D : va_G} {cA : Nat → ClassId} {WW : Nat → qP} {QR : Option qA → qS → Prop} (S : qSnd l rm_D_sort ad D cA R_D b_D_sort 10 WW) (Q : qRet (none) b_D_sort WW QR) : qle (k_D_sort_27 QR WW) WW 27 :=
  S.iload d_D_sort_27 <| S.iload_n d_D_sort_29 rfl <| S.icmp_le d_D_sort_30 (by decide) (s_D_sort_71 S Q) (s_D_sort_33 S Q)
set_option maxRecDepth 8000 in
theorem s_D_sort_11 {l : Launch} {ad : Nat → Nat} {D : va_G} {cA : Nat → ClassId} {WW : Nat → qP} {QR : Option qA → qS → Prop} (S : qSnd l rm_D_sort ad D cA R_D b_D_sort 10 WW) (Q : qRet (none) b_D_sort WW QR) : qle (k_D_sort_11 QR WW) WW 11 :=
  S.aload_n d_D_sort_11 rfl <| S.iload d_D_sort_12 <| S.jald d_D_sort_14 <| S.lstore d_D_sort_15 (by decide) <| S.aload_n d_D_sort_17 rfl <| S.iload d_D_sort_18 <| S.jald d_D_sort_20 <| S.lstore d_D_sort_21 (by decide) <| S.iload d_D_sort_23 <| S.istore d_D_sort_25 (by decide) <| (fun _ _ _ h => h)
set_option maxRecDepth 8000 in
theorem s_D_sort_5 {l : Launch} {ad : Nat → Nat} {D : va_G} {cA : Nat → ClassId} {WW : Nat → qP} {QR : Option qA → qS → Prop} (S : qSnd l rm_D_sort ad D cA R_D b_D_sort 10 WW) (Q : qRet (none) b_D_sort WW QR) : qle (k_D_sort_5 QR WW) WW 5 :=
  S.iload d_D_sort_5 <| S.iload_n d_D_sort_7 rfl <| S.icmp_ge d_D_sort_8 (by decide) (s_D_sort_89 S Q) (s_D_sort_11 S Q)
set_option maxRecDepth 8000 in
theorem s_D_sort_0 {l : Launch} {ad : Nat → Nat} {D : va_G} {cA : Nat → ClassId} {WW : Nat → qP} {QR : Option qA → qS → Prop} (S : qSnd l rm_D_sort ad D cA R_D b_D_sort 10 WW) (Q : qRet (none) b_D_sort WW QR) : qle (k_D_sort_0 QR WW) WW 0 :=
  S.iload_n d_D_sort_0 rfl <| S.iconst d_D_sort_1 (by decide) <| S.iadd d_D_sort_2 <| S.istore d_D_sort_3 (by decide) <| (fun _ _ _ h => h)
theorem v_D_sort_27 {l : Launch} {ad : Nat → Nat} {D : va_G} {cA : Nat → ClassId} {WW : Nat → qP} {QR : Option qA → qS → Prop} (S : qSnd l rm_D_sort ad D cA R_D b_D_sort 10 WW) (Q : qRet (none) b_D_sort WW QR) (σk : qS) (rk rv : Nat) (fr to : Int) (k : Nat) (x : Pr) (hp : P_D_sort rk rv fr to σk) (hk : fr + k < to) (hs : srtd (row σk rk rv fr k)) (hq : ∀ (σ' : qS) (i : Nat), i ≤ k → (∀ q, q ≠ rk → q ≠ rv → σ' q = σk q) → (∀ j, (j < fr ∨ fr + k < j) → σ' rk j = σk rk j ∧ σ' rv j = σk rv j) → row σ' rk rv fr (k + 1) = (row σk rk rv fr k).take i ++ x :: (row σk rk rv fr k).drop i → (∀ y ∈ (row σk rk rv fr k).drop i, x.1 < y.1) → (∀ y ∈ (row σk rk rv fr k).take i, y.1 ≤ x.1) → WW 5 [] [some (.inr (.inr rk)), some (.inr (.inr rv)), some (.inl fr), some (.inl to), some (.inl (fr + ((k + 1 : Nat) : Int))), none, none, none, none, none] σ') :
    ∀ (i : Nat) (σ : qS), i ≤ k → Hol σk σ rk rv fr k i → (∀ j : Int, i ≤ j → j < k → x.1 < σk rk (fr + j)) → WW 27 [] [some (.inr (.inr rk)), some (.inr (.inr rv)), some (.inl fr), some (.inl to), some (.inl (fr + (k : Int))), some (.inr (.inl x.1)), none, some (.inr (.inl x.2)), none, some (.inl (fr + (i : Int)))] σ := by
  obtain ⟨⟨q1, q2, q3, q4, q5⟩, hf, hl⟩ := hp
  have qbk := qar_bd rk q1
  have qbv := qar_bd rv q3
  have fin : ∀ (i : Nat) (σ : qS), i ≤ k → Hol σk σ rk rv fr k i → (∀ j : Int, i ≤ j → j < k → x.1 < σk rk (fr + j)) → (i = 0 ∨ σk rk (fr + i - 1) ≤ x.1) → WW 5 [] [some (.inr (.inr rk)), some (.inr (.inr rv)), some (.inl fr), some (.inl to), some (.inl (fr + ((k + 1 : Nat) : Int))), some (.inr (.inl x.1)), none, some (.inr (.inl x.2)), none, some (.inl (fr + (i : Int)))] (su (su σ rk (fr + i) x.1) rv (fr + i) x.2) := by
    intro i σ hi hH hgt hle
    refine S.fg (ls' := [some (.inr (.inr rk)), some (.inr (.inr rv)), some (.inl fr), some (.inl to), some (.inl (fr + ((k + 1 : Nat) : Int))), none, none, none, none, none]) ⟨rfl, rfl, rfl, rfl, rfl, trivial⟩ ?_
    refine hq _ i hi (fun q h1 h2 => ?_) (fun j hj => ?_) (Hol_end q5 hH hi) (drop_ext fun j y hj hy => ?_) (take_ext fun j y hj hy => ?_)
    · rw [su_k h2, su_k h1]; exact hH.1 q h1 h2
    · rw [su_k q5, su_e, su_e, if_neg (by omega), if_neg (by omega), su_k (Ne.symm q5)]
      exact hH.2.1 j (by omega)
    · by_cases hjk : j < k
      · rw [row_at hjk] at hy; cases hy; exact hgt j (by omega) (by omega)
      · rw [row_no hjk] at hy; cases hy
    · by_cases hjk : j < k
      · rcases hle with h0 | hle
        · omega
        · have h1 := srtd_at hs (i := j) (j := i - 1) (by omega) hy (row_at (by omega))
          have h2 : fr + ((i - 1 : Nat) : Int) = fr + (i : Int) - 1 := by omega
          simp only at h1
          rw [h2] at h1
          omega
      · rw [row_no hjk] at hy; cases hy
  have e5 : w32 (fr + (k : Int) + 1) = fr + ((k + 1 : Nat) : Int) := by rw [w32_i _ (by omega) (by omega)]; omega
  intro i
  induction i with
  | zero =>
    intro σ hi hH hgt
    refine s_D_sort_27 S Q _ _ _ ?_
    simp only [k_D_sort_0, k_D_sort_5, k_D_sort_11, k_D_sort_27, k_D_sort_33, k_D_sort_45, k_D_sort_71, k_D_sort_89, o_c, o_il, o_ll, o_al, o_is, o_as, o_ls, o_inc, o_bi, o_bid, o_bl, o_bld, o_sl, o_i2l, o_l2i, o_dup, o_dup2, o_pop, o_pop2, o_if, o_i2, o_l2, swg, o_sw, o_gI, o_gZ, o_gJ, o_gA, o_gR, o_pI, o_pZ, o_pJ, o_pR, o_ia, o_iak, o_zak, o_ja, o_jak, o_is_, o_isk, o_zsk, o_js_, o_jsk, o_len, o_ri, o_rz, o_rl, o_rv, ls1, ls2, lks, lkj, List.getD_cons_zero, List.getD_cons_succ, List.set_cons_zero, List.set_cons_succ, qcat, true_and, and_true, List.map_nil, List.map_cons, List.sum_nil, List.sum_cons, Nat.reduceAdd, Nat.reduceLeDiff, Nat.zero_le, Int.reduceAdd, Int.reduceNeg, Int.reduceEq, or_true, true_or, Decidable.not_not, false_implies, not_false_eq_true, true_implies, not_true_eq_false, Int.reduceLT, Int.reduceLE]
    rw [e5]
    refine ⟨fun _ => ⟨⟨q1, q2⟩, by omega, ⟨q3, q4⟩, by omega, ?_⟩, fun h => by omega⟩
    exact fin 0 σ hi hH hgt (Or.inl rfl)
  | succ i ih =>
    intro σ hi hH hgt
    refine s_D_sort_27 S Q _ _ _ ?_
    simp only [k_D_sort_0, k_D_sort_5, k_D_sort_11, k_D_sort_27, k_D_sort_33, k_D_sort_45, k_D_sort_71, k_D_sort_89, o_c, o_il, o_ll, o_al, o_is, o_as, o_ls, o_inc, o_bi, o_bid, o_bl, o_bld, o_sl, o_i2l, o_l2i, o_dup, o_dup2, o_pop, o_pop2, o_if, o_i2, o_l2, swg, o_sw, o_gI, o_gZ, o_gJ, o_gA, o_gR, o_pI, o_pZ, o_pJ, o_pR, o_ia, o_iak, o_zak, o_ja, o_jak, o_is_, o_isk, o_zsk, o_js_, o_jsk, o_len, o_ri, o_rz, o_rl, o_rv, ls1, ls2, lks, lkj, List.getD_cons_zero, List.getD_cons_succ, List.set_cons_zero, List.set_cons_succ, qcat, true_and, and_true, List.map_nil, List.map_cons, List.sum_nil, List.sum_cons, Nat.reduceAdd, Nat.reduceLeDiff, Nat.zero_le, Int.reduceAdd, Int.reduceNeg, Int.reduceEq, or_true, true_or, Decidable.not_not, false_implies, not_false_eq_true, true_implies, not_true_eq_false, Int.reduceLT, Int.reduceLE]
    have e2 : z_sub (fr + ((i + 1 : Nat) : Int)) 1 = fr + ((i + 1 : Nat) : Int) - 1 := by unfold z_sub; exact w32_i _ (by omega) (by omega)
    have e3 : w32 (fr + ((i + 1 : Nat) : Int) + -1) = fr + (i : Int) := by rw [w32_i _ (by omega) (by omega)]; omega
    have e4 := hH.2.1 (fr + ((i + 1 : Nat) : Int) - 1) (by omega)
    rw [e2, e3, e5]
    refine ⟨fun h => by omega, fun _ => ⟨⟨q1, q2⟩, by omega, fun hle => ⟨⟨q1, q2⟩, by omega, ⟨q3, q4⟩, by omega, ?_⟩, fun hle => ⟨⟨q1, q2⟩, by omega, ⟨q1, q2⟩, by omega, ⟨q3, q4⟩, by omega, ⟨q3, q4⟩, by omega, ?_⟩⟩⟩
    · rw [e4.1] at hle
      exact fin (i + 1) σ hi hH hgt (Or.inr hle)
    · have := Hol_s q5 hH (by omega) (by omega)
      refine ih _ (by omega) ?_ (fun j j1 j2 => ?_)
      · rw [show ((i + 1 : Nat) : Int) - 1 = (i : Int) by omega] at this
        exact this
      · by_cases ej : j = i
        · subst ej; rw [e4.1] at hle; rw [show fr + ((i + 1 : Nat) : Int) - 1 = fr + (i : Int) by omega] at hle; omega
        · exact hgt j (by omega) j2
theorem v_D_sort_5 {l : Launch} {ad : Nat → Nat} {D : va_G} {cA : Nat → ClassId} {WW : Nat → qP} {QR : Option qA → qS → Prop} (S : qSnd l rm_D_sort ad D cA R_D b_D_sort 10 WW) (Q : qRet (none) b_D_sort WW QR) (σ0 : qS) (rk rv : Nat) (fr to : Int) (hp : P_D_sort rk rv fr to σ0) (hq : ∀ σ', Q_D_sort rk rv fr to σ0 σ' → QR none σ') :
    ∀ (m k : Nat) (σ : qS), 1 ≤ k → (fr + k ≤ to ∨ (fr = to ∧ k = 1)) → (k : Int) + m = max (to - fr) 1 → (∀ q, q ≠ rk → q ≠ rv → σ q = σ0 q) → (∀ j, (j < fr ∨ fr + k ≤ j) → σ rk j = σ0 rk j ∧ σ rv j = σ0 rv j) → (fr < to → SS (row σ0 rk rv fr k) (row σ rk rv fr k)) → (fr = to → σ = σ0) →
      WW 5 [] [some (.inr (.inr rk)), some (.inr (.inr rv)), some (.inl fr), some (.inl to), some (.inl (fr + (k : Int))), none, none, none, none, none] σ := by
  have hp' := hp
  obtain ⟨⟨q1, q2, q3, q4, q5⟩, hf, hl⟩ := hp
  intro m
  induction m with
  | zero =>
    intro k σ hk0 hk1 hk hF hB hSS h00
    refine s_D_sort_5 S Q _ _ _ ?_
    simp only [k_D_sort_0, k_D_sort_5, k_D_sort_11, k_D_sort_27, k_D_sort_33, k_D_sort_45, k_D_sort_71, k_D_sort_89, o_c, o_il, o_ll, o_al, o_is, o_as, o_ls, o_inc, o_bi, o_bid, o_bl, o_bld, o_sl, o_i2l, o_l2i, o_dup, o_dup2, o_pop, o_pop2, o_if, o_i2, o_l2, swg, o_sw, o_gI, o_gZ, o_gJ, o_gA, o_gR, o_pI, o_pZ, o_pJ, o_pR, o_ia, o_iak, o_zak, o_ja, o_jak, o_is_, o_isk, o_zsk, o_js_, o_jsk, o_len, o_ri, o_rz, o_rl, o_rv, ls1, ls2, lks, lkj, List.getD_cons_zero, List.getD_cons_succ, List.set_cons_zero, List.set_cons_succ, qcat, true_and, and_true, List.map_nil, List.map_cons, List.sum_nil, List.sum_cons, Nat.reduceAdd, Nat.reduceLeDiff, Nat.zero_le, Int.reduceAdd, Int.reduceNeg, Int.reduceEq, or_true, true_or, Decidable.not_not, false_implies, not_false_eq_true, true_implies, not_true_eq_false, Int.reduceLT, Int.reduceLE]
    refine ⟨fun _ => hq _ ⟨hF, fun j hj => ?_, ?_⟩, fun h => by omega⟩
    · by_cases h0 : fr = to
      · rw [h00 h0]; exact ⟨rfl, rfl⟩
      · exact hB j (by omega)
    · by_cases h0 : fr = to
      · rw [show (to - fr).toNat = 0 by omega]; rfl
      · rw [show (to - fr).toNat = k by omega]
        exact srt_eq (hSS (by omega))
  | succ m ih =>
    intro k σ hk0 hk1 hk hF hB hSS h00
    have hSS := hSS (by omega)
    refine s_D_sort_5 S Q _ _ _ ?_
    simp only [k_D_sort_0, k_D_sort_5, k_D_sort_11, k_D_sort_27, k_D_sort_33, k_D_sort_45, k_D_sort_71, k_D_sort_89, o_c, o_il, o_ll, o_al, o_is, o_as, o_ls, o_inc, o_bi, o_bid, o_bl, o_bld, o_sl, o_i2l, o_l2i, o_dup, o_dup2, o_pop, o_pop2, o_if, o_i2, o_l2, swg, o_sw, o_gI, o_gZ, o_gJ, o_gA, o_gR, o_pI, o_pZ, o_pJ, o_pR, o_ia, o_iak, o_zak, o_ja, o_jak, o_is_, o_isk, o_zsk, o_js_, o_jsk, o_len, o_ri, o_rz, o_rl, o_rv, ls1, ls2, lks, lkj, List.getD_cons_zero, List.getD_cons_succ, List.set_cons_zero, List.set_cons_succ, qcat, true_and, and_true, List.map_nil, List.map_cons, List.sum_nil, List.sum_cons, Nat.reduceAdd, Nat.reduceLeDiff, Nat.zero_le, Int.reduceAdd, Int.reduceNeg, Int.reduceEq, or_true, true_or, Decidable.not_not, false_implies, not_false_eq_true, true_implies, not_true_eq_false, Int.reduceLT, Int.reduceLE]
    refine ⟨fun h => by omega, fun _ => ⟨⟨q1, q2⟩, by omega, ⟨q3, q4⟩, by omega, ?_⟩⟩
    refine v_D_sort_27 S Q σ rk rv fr to k (σ rk (fr + k), σ rv (fr + k)) hp' (by omega) hSS.1 (fun σ' i hi hF' hB' hrow hd ht => ?_) k σ (Nat.le_refl _) Hol_0 (fun j j1 j2 => by omega)
    refine ih (k + 1) σ' (by omega) (by omega) (by omega) (fun q h1 h2 => (hF' q h1 h2).trans (hF q h1 h2)) (fun j hj => ?_) (fun _ => ?_) (fun h => by omega)
    · obtain ⟨a1, a2⟩ := hB' j (by omega)
      obtain ⟨b1, b2⟩ := hB j (by omega)
      exact ⟨a1.trans b1, a2.trans b2⟩
    · rw [hrow, row_s σ0]
      have := SS_ins hSS hd ht
      obtain ⟨b1, b2⟩ := hB (fr + k) (by omega)
      rw [b1, b2] at this
      rw [b1, b2]
      exact this
theorem w_D_sort {l : Launch} {ad : Nat → Nat} {D : va_G} {cA : Nat → ClassId} {WW : Nat → qP} {QR : Option qA → qS → Prop} (S : qSnd l rm_D_sort ad D cA R_D b_D_sort 10 WW) (Q : qRet (none) b_D_sort WW QR) (a1 : Nat) (a2 : Nat) (a3 : Int) (a4 : Int) (σ : qS) (ha3 : r32 a3) (ha4 : r32 a4) (hσ : qoS σ) (h : P_D_sort a1 a2 a3 a4 σ) (hq : ∀ σ', Q_D_sort a1 a2 a3 a4 σ σ' → QR none σ') : WW 0 [] [some (.inr (.inr a1)), some (.inr (.inr a2)), some (.inl a3), some (.inl a4), none, none, none, none, none, none] σ := by
  refine s_D_sort_0 S Q _ _ _ ?_
  simp only [k_D_sort_0, k_D_sort_5, k_D_sort_11, k_D_sort_27, k_D_sort_33, k_D_sort_45, k_D_sort_71, k_D_sort_89, o_c, o_il, o_ll, o_al, o_is, o_as, o_ls, o_inc, o_bi, o_bid, o_bl, o_bld, o_sl, o_i2l, o_l2i, o_dup, o_dup2, o_pop, o_pop2, o_if, o_i2, o_l2, swg, o_sw, o_gI, o_gZ, o_gJ, o_gA, o_gR, o_pI, o_pZ, o_pJ, o_pR, o_ia, o_iak, o_zak, o_ja, o_jak, o_is_, o_isk, o_zsk, o_js_, o_jsk, o_len, o_ri, o_rz, o_rl, o_rv, ls1, ls2, lks, lkj, List.getD_cons_zero, List.getD_cons_succ, List.set_cons_zero, List.set_cons_succ, qcat, true_and, and_true, List.map_nil, List.map_cons, List.sum_nil, List.sum_cons, Nat.reduceAdd, Nat.reduceLeDiff, Nat.zero_le, Int.reduceAdd, Int.reduceNeg, Int.reduceEq, or_true, true_or, Decidable.not_not, false_implies, not_false_eq_true, true_implies, not_true_eq_false, Int.reduceLT, Int.reduceLE]
  have hp := h
  obtain ⟨⟨q1, q2, q3, q4, q5⟩, hf, hl⟩ := h
  have qbk := qar_bd a1 q1
  have e1 : z_add a3 1 = a3 + ((1 : Nat) : Int) := by unfold z_add; exact w32_i _ (by omega) (by omega)
  rw [e1]
  refine v_D_sort_5 S Q σ a1 a2 a3 a4 hp hq ((max (a4 - a3) 1).toNat - 1) 1 σ (Nat.le_refl _) (by omega) (by omega) (fun _ _ _ => rfl) (fun _ _ => ⟨rfl, rfl⟩) (fun _ => ⟨?_, fun _ => rfl⟩) (fun _ => rfl)
  unfold srtd row
  simp [List.range_succ]
theorem c_D_sort (l : Launch) (ad : Nat → Nat) (D : va_G) (cA : Nat → ClassId) : qC l ad D cA y_D_sort (Cond.code y_D_sort b_D_sort 10 (none) :: lw_g) rm_D_sort pre_D_sort post_D_sort := by
  refine qC_of (own := R_D) (by decide) rfl ⟨rfl, rfl⟩ ?_ ?_
  · intro av σ h; unfold pre_D_sort at h; split at h
    · simp [qen]
    · exact h.elim
  · intro WW QR S Q av σ hav hσ h hq; unfold pre_D_sort at h; split at h
    next a1 a2 a3 a4 =>
      exact w_D_sort S Q a1 a2 a3 a4 σ (hav _ (List.mem_of_getElem? (i := 2) rfl)) (hav _ (List.mem_of_getElem? (i := 3) rfl)) hσ h (fun σ' h' => hq _ σ' h')
    next => exact h.elim

