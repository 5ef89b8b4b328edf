def lsb : qL → qL → Prop
  | [], [] => True
  | none :: a, _ :: b => lsb a b
  | some v :: a, w :: b => w = some v ∧ lsb a b
  | _, _ => False
theorem lsb_at : ∀ (a b : qL), lsb a b → a.length = b.length ∧ ∀ (i : Nat) v, a[i]? = some (some v) → b[i]? = some (some v)
  | [], [], _ => ⟨rfl, fun i v h => by simp at h⟩
  | none :: a, w :: b, h => by
    obtain ⟨h1, h2⟩ := lsb_at a b h
    refine ⟨by simp [h1], fun i v hi => ?_⟩
    cases i with
    | zero => simp at hi
    | succ i => simp only [List.getElem?_cons_succ] at hi ⊢; exact h2 i v hi
  | some u :: a, w :: b, h => by
    obtain ⟨h0, h⟩ := h
    obtain ⟨h1, h2⟩ := lsb_at a b h
    refine ⟨by simp [h1], fun i v hi => ?_⟩
    cases i with
    | zero => simp at hi; subst hi; simp [h0]
    | succ i => simp only [List.getElem?_cons_succ] at hi ⊢; exact h2 i v hi
  | [], w :: b, h => h.elim
  | none :: a, [], h => h.elim
  | some u :: a, [], h => h.elim
theorem qSnd.fg {l : Launch} {R : Room} {ad : Nat → Nat} {D : va_G} {cA : Nat → ClassId} {own : String} {cc : ByteArray} {nL : Nat} {WW : Nat → qP} (S : qSnd l R ad D cA own cc nL WW) {pc : Nat} {st : List qA} {ls ls' : qL} {σ : qS} (hs : lsb ls' ls) (h : WW pc st ls' σ) : WW pc st ls σ :=
  S.fgt pc st ls ls' σ (lsb_at ls' ls hs).2 (Nat.le_of_eq (lsb_at ls' ls hs).1) h
theorem su_k {σ : qS} {k k' : Nat} {i v : Int} (h : k' ≠ k) : su σ k i v k' = σ k' := by funext i'; simp [su, h]
theorem su_e {σ : qS} {k : Nat} {i v i' : Int} : su σ k i v k i' = if i' = i then v else σ k i' := by simp [su]
theorem su_s {σ : qS} {k : Nat} {i v : Int} : su σ k i v k i = v := by simp [su]
theorem su_n {σ : qS} {k k' : Nat} {i v i' : Int} (h : i' ≠ i) : su σ k i v k' i' = σ k' i' := by simp [su, h]
def psh (v : Int) (σ : qS) : qS := if σ 16 0 = 12 then su σ 21 0 1 else su (su σ 15 (σ 16 0) v) 16 0 (σ 16 0 + 1)
def P_M_push (_v : Int) (σ : qS) : Prop := 0 ≤ σ 16 0 ∧ σ 16 0 ≤ 12
def Q_M_push (v : Int) (σ σ' : qS) : Prop := σ' = psh v σ
def pre_M_push (av : List qA) (σ : qS) : Prop := match av with
  | [.inr (.inr o), .inr (.inl a1)] => o = 900 ∧ P_M_push a1 σ
  | _ => False
def post_M_push (av : List qA) (σ : qS) (r : Option qA) (σ' : qS) : Prop := match av, r with
  | [_, .inr (.inl a1)], none => Q_M_push a1 σ σ'
  | _, _ => False
def oc_M_push (K : qP) : qP := fun st ls σ => match st with
  | .inr (.inl a1) :: .inr (.inr o) :: st => o = 900 ∧ (st.map qcat).sum ≤ 8 ∧ P_M_push a1 σ ∧ ∀ (σ' : qS), Q_M_push a1 σ σ' → K st ls σ'
  | _ => False
def rm_M_push : Room := { frames := 0, cells := 0, slots := 0, locals := 0 }
theorem fl_M_51 : qF R_M 900 0 82 0 R_M F_M 51 15 := ⟨Or.inl ⟨rfl, rfl, rfl, rfl, rfl, rfl⟩, by decide, lw_at 93 (by decide +kernel) rfl⟩
theorem fl_M_207 : qF R_M 900 0 82 0 R_M F_M 207 16 := ⟨Or.inl ⟨rfl, rfl, rfl, rfl, rfl, rfl⟩, by decide, lw_at 94 (by decide +kernel) rfl⟩
theorem fl_M_211 : qF R_M 900 0 82 0 R_M F_M 211 21 := ⟨Or.inl ⟨rfl, rfl, rfl, rfl, rfl, rfl⟩, by decide, lw_at 99 (by decide +kernel) rfl⟩
def k_M_push_15 (QR : Option qA → qS → Prop) (H : Nat → qP) : qP :=
  o_al 0 <| o_gA 900 15 <| o_al 0 <| o_gI 900 16 <| o_ll 1 <| o_jsk 15 12 <| o_al 0 <| o_dup <| o_gI 900 16 <| o_c (.inl 1) <| o_bi z_add <| o_pI 900 16 <| o_rv QR
def k_M_push_9 (QR : Option qA → qS → Prop) (H : Nat → qP) : qP :=
  o_al 0 <| o_c (.inl 1) <| o_pZ 900 21 <| o_rv QR
def k_M_push_0 (QR : Option qA → qS → Prop) (H : Nat → qP) : qP :=
  o_al 0 <| o_gI 900 16 <| o_c (.inl 12) <| o_i2 (fun a b => ¬ a = b) (k_M_push_15 QR H) (k_M_push_9 QR H)
set_option maxRecDepth 8000 in
theorem s_M_push_15 {l : Launch} {ad : Nat → Nat} {D : va_G} {cA : Nat → ClassId} {WW : Nat → qP} {QR : Option qA → qS → Prop} (S : qSnd l rm_M_push ad D cA R_M b_M_push 3 WW) (Q : qRet (none) b_M_push WW QR) : qle (k_M_push_15 QR WW) WW 15 :=
  S.aload_n d_M_push_15 rfl <| S.gA fl_M_51 (by decide) d_M_push_16 <| S.aload_n d_M_push_19 rfl <| S.gI fl_M_207 (by decide) d_M_push_20 <| S.lload_n d_M_push_23 rfl <| S.jsk (by decide) d_M_push_24 <| S.aload_n d_M_push_25 rfl <| S.dup d_M_push_26 <| S.gI fl_M_207 (by decide) d_M_push_27 <| S.iconst d_M_push_30 (by decide) <| S.iadd d_M_push_31 <| S.pI fl_M_207 (by decide) (by decide +kernel) d_M_push_32 <| Q.2.2.2 rfl _ d_M_push_35
set_option maxRecDepth 8000 in
theorem s_M_push_9 {l : Launch} {ad : Nat → Nat} {D : va_G} {cA : Nat → ClassId} {WW : Nat → qP} {QR : Option qA → qS → Prop} (S : qSnd l rm_M_push ad D cA R_M b_M_push 3 WW) (Q : qRet (none) b_M_push WW QR) : qle (k_M_push_9 QR WW) WW 9 :=
  S.aload_n d_M_push_9 rfl <| S.iconst d_M_push_10 (by decide) <| S.pZ fl_M_211 (by decide) (by decide +kernel) d_M_push_11 <| Q.2.2.2 rfl _ d_M_push_14
set_option maxRecDepth 8000 in
theorem s_M_push_0 {l : Launch} {ad : Nat → Nat} {D : va_G} {cA : Nat → ClassId} {WW : Nat → qP} {QR : Option qA → qS → Prop} (S : qSnd l rm_M_push ad D cA R_M b_M_push 3 WW) (Q : qRet (none) b_M_push WW QR) : qle (k_M_push_0 QR WW) WW 0 :=
  S.aload_n d_M_push_0 rfl <| S.gI fl_M_207 (by decide) d_M_push_1 <| S.bipush d_M_push_4 (by decide) <| S.icmp_ne d_M_push_6 (by decide) (s_M_push_15 S Q) (s_M_push_9 S Q)
theorem w_M_push {l : Launch} {ad : Nat → Nat} {D : va_G} {cA : Nat → ClassId} {WW : Nat → qP} {QR : Option qA → qS → Prop} (S : qSnd l rm_M_push ad D cA R_M b_M_push 3 WW) (Q : qRet (none) b_M_push WW QR) (a1 : Int) (σ : qS) (ha1 : r64 a1) (hσ : qoS σ) (h : P_M_push a1 σ) (hq : ∀ σ', Q_M_push a1 σ σ' → QR none σ') : WW 0 [] [some (.inr (.inr 900)), some (.inr (.inl a1)), none] σ := by
  refine s_M_push_0 S Q _ _ _ ?_
  simp only [k_M_push_0, k_M_push_9, k_M_push_15, o_c, o_il, o_ll, o_al, o_is, o_as, o_ls, o_inc, o_bi, o_bid, o_bl, o_bld, o_sl, o_i2l, o_l2i, o_dup, o_dup2, o_pop, o_pop2, o_if, o_i2, o_l2, swg, o_sw, o_gI, o_gZ, o_gJ, o_gA, o_gR, o_pI, o_pZ, o_pJ, o_pR, o_ia, o_iak, o_zak, o_ja, o_jak, o_is_, o_isk, o_zsk, o_js_, o_jsk, o_len, o_ri, o_rz, o_rl, o_rv, ls1, ls2, lks, lkj, List.getD_cons_zero, List.getD_cons_succ, List.set_cons_zero, List.set_cons_succ, qcat, true_and, and_true, List.map_nil, List.map_cons, List.sum_nil, List.sum_cons, Nat.reduceAdd, Nat.reduceLeDiff, Nat.zero_le, Int.reduceAdd, Int.reduceNeg, Int.reduceEq, or_true, true_or, Decidable.not_not]
  obtain ⟨h0, h1⟩ := h
  refine ⟨fun e => ⟨⟨h0, by omega⟩, hq _ ?_⟩, fun e => hq _ ?_⟩
  · unfold Q_M_push psh
    rw [if_neg e, su_k (by decide), z_add, w32_i _ (by omega) (by omega)]
  · unfold Q_M_push psh
    rw [if_pos (by omega)]
theorem c_M_push (l : Launch) (ad : Nat → Nat) (D : va_G) (cA : Nat → ClassId) : qC l ad D cA y_M_push (Cond.code y_M_push b_M_push 3 (none) :: lw_g) rm_M_push pre_M_push post_M_push := by
  refine qC_of (own := R_M) (by decide) rfl ⟨rfl, rfl⟩ ?_ ?_
  · intro av σ h; unfold pre_M_push at h; split at h
    · simp [qen]
    · exact h.elim
  · intro WW QR S Q av σ hav hσ h hq; unfold pre_M_push at h; split at h
    next o a1 =>
      obtain ⟨rfl, h⟩ := h
      exact w_M_push S Q a1 σ (hav _ (List.mem_of_getElem? (i := 1) rfl)) hσ h (fun σ' h' => hq _ σ' h')
    next => exact h.elim
def P_M_pop (σ : qS) : Prop := 0 ≤ σ 16 0 ∧ σ 16 0 ≤ 12
def Q_M_pop (σ : qS) (r : Int) (σ' : qS) : Prop := (σ 16 0 = 0 ∧ r = 0 ∧ σ' = su σ 21 0 1) ∨ (σ 16 0 ≠ 0 ∧ r = σ 15 (σ 16 0 - 1) ∧ σ' = su σ 16 0 (σ 16 0 - 1))
def pre_M_pop (av : List qA) (σ : qS) : Prop := match av with
  | [.inr (.inr o)] => o = 900 ∧ P_M_pop  σ
  | _ => False
def post_M_pop (av : List qA) (σ : qS) (r : Option qA) (σ' : qS) : Prop := match av, r with
  | [_], some (.inr (.inl r)) => Q_M_pop  σ r σ'
  | _, _ => False
def oc_M_pop (K : qP) : qP := fun st ls σ => match st with
  | .inr (.inr o) :: st => o = 900 ∧ (st.map qcat).sum ≤ 8 ∧ P_M_pop  σ ∧ ∀ (r : Int) (σ' : qS), Q_M_pop  σ r σ' → K (.inr (.inl r) :: st) ls σ'
  | _ => False
def rm_M_pop : Room := { frames := 0, cells := 0, slots := 0, locals := 0 }
def k_M_pop_14 (QR : Option qA → qS → Prop) (H : Nat → qP) : qP :=
  o_al 0 <| o_dup <| o_gI 900 16 <| o_c (.inl 1) <| o_bi z_sub <| o_pI 900 16 <| o_al 0 <| o_gA 900 15 <| o_al 0 <| o_gI 900 16 <| o_jak 15 12 <| o_rl QR
def k_M_pop_7 (QR : Option qA → qS → Prop) (H : Nat → qP) : qP :=
  o_al 0 <| o_c (.inl 1) <| o_pZ 900 21 <| o_c (.inr (.inl 0)) <| o_rl QR
def k_M_pop_0 (QR : Option qA → qS → Prop) (H : Nat → qP) : qP :=
  o_al 0 <| o_gI 900 16 <| o_if (fun a => ¬ a = 0) (k_M_pop_14 QR H) (k_M_pop_7 QR H)
set_option maxRecDepth 8000 in
theorem s_M_pop_14 {l : Launch} {ad : Nat → Nat} {D : va_G} {cA : Nat → ClassId} {WW : Nat → qP} {QR : Option qA → qS → Prop} (S : qSnd l rm_M_pop ad D cA R_M b_M_pop 1 WW) (Q : qRet (some .long) b_M_pop WW QR) : qle (k_M_pop_14 QR WW) WW 14 :=
  S.aload_n d_M_pop_14 rfl <| S.dup d_M_pop_15 <| S.gI fl_M_207 (by decide) d_M_pop_16 <| S.iconst d_M_pop_19 (by decide) <| S.isub d_M_pop_20 <| S.pI fl_M_207 (by decide) (by decide +kernel) d_M_pop_21 <| S.aload_n d_M_pop_24 rfl <| S.gA fl_M_51 (by decide) d_M_pop_25 <| S.aload_n d_M_pop_28 rfl <| S.gI fl_M_207 (by decide) d_M_pop_29 <| S.jak (by decide) d_M_pop_32 <| Q.2.2.1 rfl _ d_M_pop_33
set_option maxRecDepth 8000 in
theorem s_M_pop_7 {l : Launch} {ad : Nat → Nat} {D : va_G} {cA : Nat → ClassId} {WW : Nat → qP} {QR : Option qA → qS → Prop} (S : qSnd l rm_M_pop ad D cA R_M b_M_pop 1 WW) (Q : qRet (some .long) b_M_pop WW QR) : qle (k_M_pop_7 QR WW) WW 7 :=
  S.aload_n d_M_pop_7 rfl <| S.iconst d_M_pop_8 (by decide) <| S.pZ fl_M_211 (by decide) (by decide +kernel) d_M_pop_9 <| S.lconst d_M_pop_12 (by decide) <| Q.2.2.1 rfl _ d_M_pop_13
set_option maxRecDepth 8000 in
theorem s_M_pop_0 {l : Launch} {ad : Nat → Nat} {D : va_G} {cA : Nat → ClassId} {WW : Nat → qP} {QR : Option qA → qS → Prop} (S : qSnd l rm_M_pop ad D cA R_M b_M_pop 1 WW) (Q : qRet (some .long) b_M_pop WW QR) : qle (k_M_pop_0 QR WW) WW 0 :=
  S.aload_n d_M_pop_0 rfl <| S.gI fl_M_207 (by decide) d_M_pop_1 <| S.if_ne d_M_pop_4 (by decide) (s_M_pop_14 S Q) (s_M_pop_7 S Q)
theorem w_M_pop {l : Launch} {ad : Nat → Nat} {D : va_G} {cA : Nat → ClassId} {WW : Nat → qP} {QR : Option qA → qS → Prop} (S : qSnd l rm_M_pop ad D cA R_M b_M_pop 1 WW) (Q : qRet (some .long) b_M_pop WW QR)  (σ : qS)  (hσ : qoS σ) (h : P_M_pop  σ) (hq : ∀ (r : Int) σ', Q_M_pop  σ r σ' → QR (some (.inr (.inl r))) σ') : WW 0 [] [some (.inr (.inr 900))] σ := by
  refine s_M_pop_0 S Q _ _ _ ?_
  simp only [k_M_pop_0, k_M_pop_7, k_M_pop_14, o_c, o_il, o_ll, o_al, o_is, o_as, o_ls, o_inc, o_bi, o_bid, o_bl, o_bld, o_sl, o_i2l, o_l2i, o_dup, o_dup2, o_pop, o_pop2, o_if, o_i2, o_l2, swg, o_sw, o_gI, o_gZ, o_gJ, o_gA, o_gR, o_pI, o_pZ, o_pJ, o_pR, o_ia, o_iak, o_zak, o_ja, o_jak, o_is_, o_isk, o_zsk, o_js_, o_jsk, o_len, o_ri, o_rz, o_rl, o_rv, ls1, ls2, lks, lkj, List.getD_cons_zero, List.getD_cons_succ, List.set_cons_zero, List.set_cons_succ, qcat, true_and, and_true, List.map_nil, List.map_cons, List.sum_nil, List.sum_cons, Nat.reduceAdd, Nat.reduceLeDiff, Nat.zero_le, Int.reduceAdd, Int.reduceNeg, Int.reduceEq, or_true, true_or, Decidable.not_not]
  obtain ⟨h0, h1⟩ := h
  refine ⟨fun e => ?_, fun e => hq _ _ (Or.inl ⟨by omega, rfl, rfl⟩)⟩
  simp (disch := omega) only [su_k, su_s, z_add, z_sub, z_mul, w32_i]
  exact ⟨by omega, hq _ _ (Or.inr ⟨e, rfl, rfl⟩)⟩
theorem c_M_pop (l : Launch) (ad : Nat → Nat) (D : va_G) (cA : Nat → ClassId) : qC l ad D cA y_M_pop (Cond.code y_M_pop b_M_pop 1 (some .long) :: lw_g) rm_M_pop pre_M_pop post_M_pop := by
  refine qC_of (own := R_M) (by decide) rfl ⟨rfl, rfl⟩ ?_ ?_
  · intro av σ h; unfold pre_M_pop at h; split at h
    · simp [qen]
    · exact h.elim
  · intro WW QR S Q av σ hav hσ h hq; unfold pre_M_pop at h; split at h
    next o =>
      obtain ⟨rfl, h⟩ := h
      exact w_M_pop S Q  σ  hσ h (fun r σ' h' => hq _ σ' h')
    next => exact h.elim
def stk (f : Int → Int) : List Int → Prop
  | [] => True
  | v :: t => f t.length = v ∧ stk f t
def Stk (σ : qS) (l : List Int) : Prop := σ 16 0 = l.length ∧ l.length ≤ 12 ∧ stk (σ 15) l
theorem stk_up {f g : Int → Int} {n : Int} : ∀ {l : List Int}, (l.length : Int) ≤ n → (∀ i, i < n → g i = f i) → stk f l → stk g l
  | [], _, _, _ => trivial
  | v :: t, h, hf, hs => by
    simp only [List.length_cons] at h
    exact ⟨by rw [hf _ (by omega)]; exact hs.1, stk_up (by omega) hf hs.2⟩
theorem Stk_push {σ : qS} {l : List Int} (v : Int) (h : Stk σ l) (hl : l.length < 12) : psh v σ = su (su σ 15 l.length v) 16 0 (l.length + 1) ∧ Stk (psh v σ) (v :: l) := by
  obtain ⟨h1, h2, h3⟩ := h
  have e : psh v σ = su (su σ 15 l.length v) 16 0 (l.length + 1) := by unfold psh; rw [h1, if_neg (by omega)]
  refine ⟨e, ?_⟩
  rw [e]
  refine ⟨by rw [su_s]; simp, by simp; omega, ?_⟩
  rw [su_k (by decide)]
  refine ⟨su_s, stk_up (n := l.length) (Int.le_refl _) (fun i hi => ?_) h3⟩
  rw [su_e, if_neg (by omega)]
theorem Stk_pop {σ : qS} {v : Int} {l : List Int} (h : Stk σ (v :: l)) : σ 16 0 = l.length + 1 ∧ σ 15 (σ 16 0 - 1) = v ∧ Stk (su σ 16 0 (σ 16 0 - 1)) l := by
  obtain ⟨h1, h2, h3, h4⟩ := h
  simp only [List.length_cons] at h1 h2
  refine ⟨by omega, by rw [h1, show ((l.length + 1 : Nat) : Int) - 1 = l.length by omega]; exact h3, by rw [su_s]; omega, by omega, ?_⟩
  rw [su_k (by decide)]
  exact h4
theorem Stk_keep {σ σ' : qS} {l : List Int} (h : Stk σ l) (h1 : σ' 16 0 = σ 16 0) (h2 : σ' 15 = σ 15) : Stk σ' l := by
  unfold Stk; rw [h1, h2]; exact h
theorem Stk_ex {σ : qS} (h0 : 0 ≤ σ 16 0) (h1 : σ 16 0 ≤ 12) : ∃ l, Stk σ l := by
  have key : ∀ n : Nat, ∃ l : List Int, l.length = n ∧ stk (σ 15) l := by
    intro n
    induction n with
    | zero => exact ⟨[], rfl, trivial⟩
    | succ n ih => obtain ⟨l, e, h⟩ := ih; exact ⟨σ 15 l.length :: l, by simp [e], rfl, h⟩
  obtain ⟨l, e, h⟩ := key (σ 16 0).toNat
  exact ⟨l, by omega, by omega, h⟩
def mcomp (o : Int) (l : List Int) : Option (List Int) := match l with
  | b :: a :: t => if o = 6 then some (y_add a b :: t) else if o = 7 then some (y_sub a b :: t) else if o = 8 then some (y_mul a b :: t) else if o = 9 then (if b = 0 then none else some (y_div a b :: t)) else if o = 10 then some ((if a < b then 1 else 0) :: t) else some ((if a = b then 1 else 0) :: t)
  | _ => none
def F_mac (σ σ' : qS) : Prop := ∀ k, k ∉ [15, 16, 17, 18, 19, 20, 21, 24] → σ' k = σ k
def F_stk (σ σ' : qS) : Prop := ∀ k, k ∉ [15, 16, 21] → σ' k = σ k
theorem F_stk.rf (σ : qS) : F_stk σ σ := fun _ _ => rfl
theorem F_stk.tr {σ σ1 σ2 : qS} (h : F_stk σ σ1) (h' : F_stk σ1 σ2) : F_stk σ σ2 := fun k hk => (h' k hk).trans (h k hk)
theorem F_stk.tp (σ : qS) (v : Int) : F_stk σ (su σ 16 0 v) := fun k hk => su_k (by intro e; subst e; exact hk (by decide))
theorem F_stk.td (σ : qS) (v : Int) : F_stk σ (su σ 21 0 v) := fun k hk => su_k (by intro e; subst e; exact hk (by decide))
theorem F_stk.sk (σ : qS) (i v : Int) : F_stk σ (su σ 15 i v) := fun k hk => su_k (by intro e; subst e; exact hk (by decide))
theorem F_stk.ps (σ : qS) (v : Int) : F_stk σ (psh v σ) := by
  unfold psh; split
  · exact F_stk.td _ _
  · exact (F_stk.sk _ _ _).tr (F_stk.tp _ _)
theorem pop_ok {σ σ' : qS} {r v : Int} {l : List Int} (h : Q_M_pop σ r σ') (hs : Stk σ (v :: l)) : r = v ∧ Stk σ' l ∧ σ' 21 0 = σ 21 0 ∧ F_stk σ σ' := by
  obtain ⟨h1, h2, h3⟩ := Stk_pop hs
  rcases h with ⟨e, -⟩ | ⟨-, rfl, rfl⟩
  · omega
  · exact ⟨h2, h3, by rw [su_k (by decide)], F_stk.tp _ _⟩
theorem pop_no {σ σ' : qS} {r : Int} (h : Q_M_pop σ r σ') (hs : Stk σ []) : Stk σ' [] ∧ σ' 21 0 = 1 ∧ F_stk σ σ' := by
  rcases h with ⟨e, rfl, rfl⟩ | ⟨e, -⟩
  · exact ⟨Stk_keep hs (by rw [su_k (by decide)]) (su_k (by decide)), su_s, F_stk.td _ _⟩
  · exact absurd hs.1 e
theorem psh_ok {σ σ' : qS} {v : Int} {l : List Int} (h : Q_M_push v σ σ') (hs : Stk σ l) (hl : l.length < 12) : Stk σ' (v :: l) ∧ σ' 21 0 = σ 21 0 ∧ F_stk σ σ' := by
  cases h
  obtain ⟨e, h2⟩ := Stk_push v hs hl
  exact ⟨h2, by rw [e, su_k (by decide), su_k (by decide)], F_stk.ps _ _⟩
theorem psh_no {σ σ' : qS} {v : Int} {l : List Int} (h : Q_M_push v σ σ') (hs : Stk σ l) (hl : ¬ l.length < 12) : Stk σ' l ∧ σ' 21 0 = 1 ∧ F_stk σ σ' := by
  cases h
  have e : psh v σ = su σ 21 0 1 := by unfold psh; rw [hs.1, if_pos (by have := hs.2.1; omega)]
  rw [e]
  exact ⟨Stk_keep hs (by rw [su_k (by decide)]) (su_k (by decide)), su_s, F_stk.td _ _⟩
theorem psh_tr {σ σ' : qS} {v : Int} {l : List Int} (h : Q_M_push v σ σ') (hs : Stk σ l) (ht : σ 21 0 = 1) : (∃ l', Stk σ' l') ∧ σ' 21 0 = 1 ∧ F_stk σ σ' := by
  by_cases hl : l.length < 12
  · obtain ⟨a, b, c⟩ := psh_ok h hs hl; exact ⟨⟨_, a⟩, by rw [b, ht], c⟩
  · obtain ⟨a, b, c⟩ := psh_no h hs hl; exact ⟨⟨_, a⟩, b, c⟩
theorem pop_tr {σ σ' : qS} {r : Int} {l : List Int} (h : Q_M_pop σ r σ') (hs : Stk σ l) (ht : σ 21 0 = 1) : (∃ l', Stk σ' l') ∧ σ' 21 0 = 1 ∧ F_stk σ σ' := by
  cases l with
  | nil => obtain ⟨a, b, c⟩ := pop_no h hs; exact ⟨⟨_, a⟩, b, c⟩
  | cons v t => obtain ⟨-, a, b, c⟩ := pop_ok h hs; exact ⟨⟨_, a⟩, by rw [b, ht], c⟩
theorem stk_un {f : Int → Int} : ∀ {l l' : List Int}, l.length = l'.length → stk f l → stk f l' → l = l'
  | [], [], _, _, _ => rfl
  | v :: t, v' :: t', e, h, h' => by
    simp only [List.length_cons, Nat.add_right_cancel_iff] at e
    rw [stk_un e h.2 h'.2, ← h.1, ← h'.1, e]
theorem Stk_un {σ : qS} {l l' : List Int} (h : Stk σ l) (h' : Stk σ l') : l = l' := stk_un (by have := h.1; have := h'.1; omega) h.2.2 h'.2.2
theorem Stk_p {σ : qS} {l : List Int} (h : Stk σ l) : 0 ≤ σ 16 0 ∧ σ 16 0 ≤ 12 := by have := h.1; have := h.2.1; omega
def P_M_compute (o : Int) (σ : qS) : Prop := (6 ≤ o ∧ o ≤ 11) ∧ 0 ≤ σ 16 0 ∧ σ 16 0 ≤ 12
def Q_M_compute (o : Int) (σ σ' : qS) : Prop := F_stk σ σ' ∧ (∀ l, Stk σ l → (∃ l', Stk σ' l') ∧ (match mcomp o l with
  | none => σ' 21 0 = 1
  | some l2 => Stk σ' l2 ∧ σ' 21 0 = σ 21 0))
def pre_M_compute (av : List qA) (σ : qS) : Prop := match av with
  | [.inr (.inr o), .inl a1] => o = 900 ∧ P_M_compute a1 σ
  | _ => False
def post_M_compute (av : List qA) (σ : qS) (r : Option qA) (σ' : qS) : Prop := match av, r with
  | [_, .inl a1], none => Q_M_compute a1 σ σ'
  | _, _ => False
def oc_M_compute (K : qP) : qP := fun st ls σ => match st with
  | .inl a1 :: .inr (.inr o) :: st => o = 900 ∧ (st.map qcat).sum ≤ 8 ∧ P_M_compute a1 σ ∧ ∀ (σ' : qS), Q_M_compute a1 σ σ' → K st ls σ'
  | _ => False
def rm_M_compute : Room := { frames := 1, cells := 0, slots := 0, locals := 22 }
theorem sc_M_218 {l : Launch} {R : Room} {ad : Nat → Nat} {D : va_G} {cA : Nat → ClassId} {cc : ByteArray} {nL : Nat} {WW : Nat → qP} (S : qSnd l R ad D cA R_M cc nL WW) (hR : rm_M_pop.frames + 1 ≤ R.frames ∧ 8 + (1 + 11) + rm_M_pop.locals ≤ R.locals) {K : qP} {pc : Nat} (d : decode cc pc = .ok (.invokevirtual 218, 3)) (h : qle K WW (pc + 3)) : qle (oc_M_pop K) WW pc := by
  intro st ls σ k
  refine S.callV (o := 900) (ci := 0) (N := 82) (base := 0) (C := R_M) (T := F_M) (n := 0) (pre := pre_M_pop) (post := post_M_pop) (Or.inl ⟨rfl, rfl, rfl, rfl, rfl, rfl⟩) ⟨lw_at 700 (by decide +kernel) rfl, lw_at 697 (by decide +kernel) rfl, lw_at 59 (by decide +kernel) rfl, by decide, by decide, by decide +kernel⟩ ⟨lw_at 699 (by decide +kernel) rfl, lw_at 43 (by decide +kernel) rfl⟩ ⟨rfl, rfl⟩ hR (c_M_pop l ad D cA) ?_ d h st ls σ ?_
  · intro av σ h; unfold pre_M_pop at h; split at h
    · obtain ⟨rfl, h⟩ := h; exact ⟨_, rfl⟩
    · exact h.elim
  · unfold oc_M_pop at k
    split at k
    next o st =>
      obtain ⟨rfl, hs, hp, k⟩ := k
      refine ⟨[.inr (.inr 900)], st, rfl, rfl, hs, ⟨rfl, hp⟩, fun r σ' hq => ?_⟩
      unfold post_M_pop at hq
      split at hq
      next h1 =>
        cases h1
        exact k _ _ hq
      next => exact hq.elim
    next => exact k.elim
theorem sc_M_230 {l : Launch} {R : Room} {ad : Nat → Nat} {D : va_G} {cA : Nat → ClassId} {cc : ByteArray} {nL : Nat} {WW : Nat → qP} (S : qSnd l R ad D cA R_M cc nL WW) (hR : rm_M_push.frames + 1 ≤ R.frames ∧ 8 + (3 + 11) + rm_M_push.locals ≤ R.locals) {K : qP} {pc : Nat} (d : decode cc pc = .ok (.invokevirtual 230, 3)) (h : qle K WW (pc + 3)) : qle (oc_M_push K) WW pc := by
  intro st ls σ k
  refine S.callV (o := 900) (ci := 0) (N := 82) (base := 0) (C := R_M) (T := F_M) (n := 1) (pre := pre_M_push) (post := post_M_push) (Or.inl ⟨rfl, rfl, rfl, rfl, rfl, rfl⟩) ⟨lw_at 708 (by decide +kernel) rfl, lw_at 705 (by decide +kernel) rfl, lw_at 59 (by decide +kernel) rfl, by decide, by decide, by decide +kernel⟩ ⟨lw_at 707 (by decide +kernel) rfl, lw_at 45 (by decide +kernel) rfl⟩ ⟨rfl, rfl⟩ hR (c_M_push l ad D cA) ?_ d h st ls σ ?_
  · intro av σ h; unfold pre_M_push at h; split at h
    · obtain ⟨rfl, h⟩ := h; exact ⟨_, rfl⟩
    · exact h.elim
  · unfold oc_M_push at k
    split at k
    next a1 o st =>
      obtain ⟨rfl, hs, hp, k⟩ := k
      refine ⟨[.inr (.inr 900), .inr (.inl a1)], st, rfl, rfl, hs, ⟨rfl, hp⟩, fun r σ' hq => ?_⟩
      unfold post_M_push at hq
      split at hq
      next h1 =>
        cases h1
        exact k _ hq
      next => exact hq.elim
    next => exact k.elim
def k_M_compute_141 (QR : Option qA → qS → Prop) (H : Nat → qP) : qP :=
  o_rv QR
def k_M_compute_138 (QR : Option qA → qS → Prop) (H : Nat → qP) : qP :=
  oc_M_push <| k_M_compute_141 QR H
def k_M_compute_137 (QR : Option qA → qS → Prop) (H : Nat → qP) : qP :=
  o_c (.inr (.inl 0)) <| k_M_compute_138 QR H
def k_M_compute_133 (QR : Option qA → qS → Prop) (H : Nat → qP) : qP :=
  o_c (.inr (.inl 1)) <| k_M_compute_138 QR H
def k_M_compute_125 (QR : Option qA → qS → Prop) (H : Nat → qP) : qP :=
  o_al 0 <| o_ll 4 <| o_ll 2 <| o_l2 (fun a b => ¬ a = b) (k_M_compute_137 QR H) (k_M_compute_133 QR H)
def k_M_compute_119 (QR : Option qA → qS → Prop) (H : Nat → qP) : qP :=
  oc_M_push <| k_M_compute_141 QR H
def k_M_compute_118 (QR : Option qA → qS → Prop) (H : Nat → qP) : qP :=
  o_c (.inr (.inl 0)) <| k_M_compute_119 QR H
def k_M_compute_114 (QR : Option qA → qS → Prop) (H : Nat → qP) : qP :=
  o_c (.inr (.inl 1)) <| k_M_compute_119 QR H
def k_M_compute_106 (QR : Option qA → qS → Prop) (H : Nat → qP) : qP :=
  o_al 0 <| o_ll 4 <| o_ll 2 <| o_l2 (fun a b => b ≤ a) (k_M_compute_118 QR H) (k_M_compute_114 QR H)
def k_M_compute_95 (QR : Option qA → qS → Prop) (H : Nat → qP) : qP :=
  o_al 0 <| o_ll 4 <| o_ll 2 <| o_bld y_div <| oc_M_push <| k_M_compute_141 QR H
def k_M_compute_87 (QR : Option qA → qS → Prop) (H : Nat → qP) : qP :=
  o_al 0 <| o_c (.inl 1) <| o_pZ 900 21 <| k_M_compute_141 QR H
def k_M_compute_81 (QR : Option qA → qS → Prop) (H : Nat → qP) : qP :=
  o_ll 2 <| o_c (.inr (.inl 0)) <| o_l2 (fun a b => ¬ a = b) (k_M_compute_95 QR H) (k_M_compute_87 QR H)
def k_M_compute_70 (QR : Option qA → qS → Prop) (H : Nat → qP) : qP :=
  o_al 0 <| o_ll 4 <| o_ll 2 <| o_bl y_mul <| oc_M_push <| k_M_compute_141 QR H
def k_M_compute_59 (QR : Option qA → qS → Prop) (H : Nat → qP) : qP :=
  o_al 0 <| o_ll 4 <| o_ll 2 <| o_bl y_sub <| oc_M_push <| k_M_compute_141 QR H
def k_M_compute_48 (QR : Option qA → qS → Prop) (H : Nat → qP) : qP :=
  o_al 0 <| o_ll 4 <| o_ll 2 <| o_bl y_add <| oc_M_push <| k_M_compute_141 QR H
def k_M_compute_0 (QR : Option qA → qS → Prop) (H : Nat → qP) : qP :=
  o_al 0 <| oc_M_pop <| o_ls 2 <| o_al 0 <| oc_M_pop <| o_ls 4 <| o_il 1 <| o_sw 6 [k_M_compute_48 QR H, k_M_compute_59 QR H, k_M_compute_70 QR H, k_M_compute_81 QR H, k_M_compute_106 QR H] (k_M_compute_125 QR H)
set_option maxRecDepth 8000 in
theorem s_M_compute_141 {l : Launch} {ad : Nat → Nat} {D : va_G} {cA : Nat → ClassId} {WW : Nat → qP} {QR : Option qA → qS → Prop} (S : qSnd l rm_M_compute ad D cA R_M b_M_compute 6 WW) (Q : qRet (none) b_M_compute WW QR) : qle (k_M_compute_141 QR WW) WW 141 :=
  Q.2.2.2 rfl _ d_M_compute_141
set_option maxRecDepth 8000 in
theorem s_M_compute_138 {l : Launch} {ad : Nat → Nat} {D : va_G} {cA : Nat → ClassId} {WW : Nat → qP} {QR : Option qA → qS → Prop} (S : qSnd l rm_M_compute ad D cA R_M b_M_compute 6 WW) (Q : qRet (none) b_M_compute WW QR) : qle (k_M_compute_138 QR WW) WW 138 :=
  sc_M_230 S (by decide) d_M_compute_138 <| (s_M_compute_141 S Q)
set_option maxRecDepth 8000 in
theorem s_M_compute_137 {l : Launch} {ad : Nat → Nat} {D : va_G} {cA : Nat → ClassId} {WW : Nat → qP} {QR : Option qA → qS → Prop} (S : qSnd l rm_M_compute ad D cA R_M b_M_compute 6 WW) (Q : qRet (none) b_M_compute WW QR) : qle (k_M_compute_137 QR WW) WW 137 :=
  S.lconst d_M_compute_137 (by decide) <| (s_M_compute_138 S Q)
set_option maxRecDepth 8000 in
theorem s_M_compute_133 {l : Launch} {ad : Nat → Nat} {D : va_G} {cA : Nat → ClassId} {WW : Nat → qP} {QR : Option qA → qS → Prop} (S : qSnd l rm_M_compute ad D cA R_M b_M_compute 6 WW) (Q : qRet (none) b_M_compute WW QR) : qle (k_M_compute_133 QR WW) WW 133 :=
  S.lconst d_M_compute_133 (by decide) <| S.goto d_M_compute_134 (by decide) (s_M_compute_138 S Q)
set_option maxRecDepth 8000 in
theorem s_M_compute_125 {l : Launch} {ad : Nat → Nat} {D : va_G} {cA : Nat → ClassId} {WW : Nat → qP} {QR : Option qA → qS → Prop} (S : qSnd l rm_M_compute ad D cA R_M b_M_compute 6 WW) (Q : qRet (none) b_M_compute WW QR) : qle (k_M_compute_125 QR WW) WW 125 :=
  S.aload_n d_M_compute_125 rfl <| S.lload d_M_compute_126 <| S.lload_n d_M_compute_128 rfl <| S.lcmp_ne d_M_compute_129 d_M_compute_130 (by decide) (s_M_compute_137 S Q) (s_M_compute_133 S Q)
set_option maxRecDepth 8000 in
theorem s_M_compute_119 {l : Launch} {ad : Nat → Nat} {D : va_G} {cA : Nat → ClassId} {WW : Nat → qP} {QR : Option qA → qS → Prop} (S : qSnd l rm_M_compute ad D cA R_M b_M_compute 6 WW) (Q : qRet (none) b_M_compute WW QR) : qle (k_M_compute_119 QR WW) WW 119 :=
  sc_M_230 S (by decide) d_M_compute_119 <| S.goto d_M_compute_122 (by decide) (s_M_compute_141 S Q)
set_option maxRecDepth 8000 in
theorem s_M_compute_118 {l : Launch} {ad : Nat → Nat} {D : va_G} {cA : Nat → ClassId} {WW : Nat → qP} {QR : Option qA → qS → Prop} (S : qSnd l rm_M_compute ad D cA R_M b_M_compute 6 WW) (Q : qRet (none) b_M_compute WW QR) : qle (k_M_compute_118 QR WW) WW 118 :=
  S.lconst d_M_compute_118 (by decide) <| (s_M_compute_119 S Q)
set_option maxRecDepth 8000 in
theorem s_M_compute_114 {l : Launch} {ad : Nat → Nat} {D : va_G} {cA : Nat → ClassId} {WW : Nat → qP} {QR : Option qA → qS → Prop} (S : qSnd l rm_M_compute ad D cA R_M b_M_compute 6 WW) (Q : qRet (none) b_M_compute WW QR) : qle (k_M_compute_114 QR WW) WW 114 :=
  S.lconst d_M_compute_114 (by decide) <| S.goto d_M_compute_115 (by decide) (s_M_compute_119 S Q)
set_option maxRecDepth 8000 in
theorem s_M_compute_106 {l : Launch} {ad : Nat → Nat} {D : va_G} {cA : Nat → ClassId} {WW : Nat → qP} {QR : Option qA → qS → Prop} (S : qSnd l rm_M_compute ad D cA R_M b_M_compute 6 WW) (Q : qRet (none) b_M_compute WW QR) : qle (k_M_compute_106 QR WW) WW 106 :=
  S.aload_n d_M_compute_106 rfl <| S.lload d_M_compute_107 <| S.lload_n d_M_compute_109 rfl <| S.lcmp_ge d_M_compute_110 d_M_compute_111 (by decide) (s_M_compute_118 S Q) (s_M_compute_114 S Q)
set_option maxRecDepth 8000 in
theorem s_M_compute_95 {l : Launch} {ad : Nat → Nat} {D : va_G} {cA : Nat → ClassId} {WW : Nat → qP} {QR : Option qA → qS → Prop} (S : qSnd l rm_M_compute ad D cA R_M b_M_compute 6 WW) (Q : qRet (none) b_M_compute WW QR) : qle (k_M_compute_95 QR WW) WW 95 :=
  S.aload_n d_M_compute_95 rfl <| S.lload d_M_compute_96 <| S.lload_n d_M_compute_98 rfl <| S.ldiv d_M_compute_99 <| sc_M_230 S (by decide) d_M_compute_100 <| S.goto d_M_compute_103 (by decide) (s_M_compute_141 S Q)
set_option maxRecDepth 8000 in
theorem s_M_compute_87 {l : Launch} {ad : Nat → Nat} {D : va_G} {cA : Nat → ClassId} {WW : Nat → qP} {QR : Option qA → qS → Prop} (S : qSnd l rm_M_compute ad D cA R_M b_M_compute 6 WW) (Q : qRet (none) b_M_compute WW QR) : qle (k_M_compute_87 QR WW) WW 87 :=
  S.aload_n d_M_compute_87 rfl <| S.iconst d_M_compute_88 (by decide) <| S.pZ fl_M_211 (by decide) (by decide +kernel) d_M_compute_89 <| S.goto d_M_compute_92 (by decide) (s_M_compute_141 S Q)
set_option maxRecDepth 8000 in
theorem s_M_compute_81 {l : Launch} {ad : Nat → Nat} {D : va_G} {cA : Nat → ClassId} {WW : Nat → qP} {QR : Option qA → qS → Prop} (S : qSnd l rm_M_compute ad D cA R_M b_M_compute 6 WW) (Q : qRet (none) b_M_compute WW QR) : qle (k_M_compute_81 QR WW) WW 81 :=
  S.lload_n d_M_compute_81 rfl <| S.lconst d_M_compute_82 (by decide) <| S.lcmp_ne d_M_compute_83 d_M_compute_84 (by decide) (s_M_compute_95 S Q) (s_M_compute_87 S Q)
set_option maxRecDepth 8000 in
theorem s_M_compute_70 {l : Launch} {ad : Nat → Nat} {D : va_G} {cA : Nat → ClassId} {WW : Nat → qP} {QR : Option qA → qS → Prop} (S : qSnd l rm_M_compute ad D cA R_M b_M_compute 6 WW) (Q : qRet (none) b_M_compute WW QR) : qle (k_M_compute_70 QR WW) WW 70 :=
  S.aload_n d_M_compute_70 rfl <| S.lload d_M_compute_71 <| S.lload_n d_M_compute_73 rfl <| S.lmul d_M_compute_74 <| sc_M_230 S (by decide) d_M_compute_75 <| S.goto d_M_compute_78 (by decide) (s_M_compute_141 S Q)
set_option maxRecDepth 8000 in
theorem s_M_compute_59 {l : Launch} {ad : Nat → Nat} {D : va_G} {cA : Nat → ClassId} {WW : Nat → qP} {QR : Option qA → qS → Prop} (S : qSnd l rm_M_compute ad D cA R_M b_M_compute 6 WW) (Q : qRet (none) b_M_compute WW QR) : qle (k_M_compute_59 QR WW) WW 59 :=
  S.aload_n d_M_compute_59 rfl <| S.lload d_M_compute_60 <| S.lload_n d_M_compute_62 rfl <| S.lsub d_M_compute_63 <| sc_M_230 S (by decide) d_M_compute_64 <| S.goto d_M_compute_67 (by decide) (s_M_compute_141 S Q)
set_option maxRecDepth 8000 in
theorem s_M_compute_48 {l : Launch} {ad : Nat → Nat} {D : va_G} {cA : Nat → ClassId} {WW : Nat → qP} {QR : Option qA → qS → Prop} (S : qSnd l rm_M_compute ad D cA R_M b_M_compute 6 WW) (Q : qRet (none) b_M_compute WW QR) : qle (k_M_compute_48 QR WW) WW 48 :=
  S.aload_n d_M_compute_48 rfl <| S.lload d_M_compute_49 <| S.lload_n d_M_compute_51 rfl <| S.ladd d_M_compute_52 <| sc_M_230 S (by decide) d_M_compute_53 <| S.goto d_M_compute_56 (by decide) (s_M_compute_141 S Q)
set_option maxRecDepth 8000 in
theorem s_M_compute_0 {l : Launch} {ad : Nat → Nat} {D : va_G} {cA : Nat → ClassId} {WW : Nat → qP} {QR : Option qA → qS → Prop} (S : qSnd l rm_M_compute ad D cA R_M b_M_compute 6 WW) (Q : qRet (none) b_M_compute WW QR) : qle (k_M_compute_0 QR WW) WW 0 :=
  S.aload_n d_M_compute_0 rfl <| sc_M_218 S (by decide) d_M_compute_1 <| S.lstore_n d_M_compute_4 rfl (by decide) <| S.aload_n d_M_compute_5 rfl <| sc_M_218 S (by decide) d_M_compute_6 <| S.lstore d_M_compute_9 (by decide) <| S.iload_n d_M_compute_11 rfl <| S.sw d_M_compute_12 (by decide) (⟨⟨48, by decide, (s_M_compute_48 S Q)⟩, ⟨⟨59, by decide, (s_M_compute_59 S Q)⟩, ⟨⟨70, by decide, (s_M_compute_70 S Q)⟩, ⟨⟨81, by decide, (s_M_compute_81 S Q)⟩, ⟨⟨106, by decide, (s_M_compute_106 S Q)⟩, trivial⟩⟩⟩⟩⟩) (by decide) (s_M_compute_125 S Q)
theorem comp_end {o : Int} {σ σ' : qS} {l : List Int} (hs : Stk σ l) (hF : F_stk σ σ') (hx : ∃ l', Stk σ' l') (h : match mcomp o l with
  | none => σ' 21 0 = 1
  | some l2 => Stk σ' l2 ∧ σ' 21 0 = σ 21 0) : Q_M_compute o σ σ' := by
  refine ⟨hF, fun l' h' => ⟨hx, ?_⟩⟩
  have := Stk_un hs h'
  subst this
  exact h
theorem w_M_compute {l : Launch} {ad : Nat → Nat} {D : va_G} {cA : Nat → ClassId} {WW : Nat → qP} {QR : Option qA → qS → Prop} (S : qSnd l rm_M_compute ad D cA R_M b_M_compute 6 WW) (Q : qRet (none) b_M_compute WW QR) (a1 : Int) (σ : qS) (ha1 : r32 a1) (hσ : qoS σ) (h : P_M_compute a1 σ) (hq : ∀ σ', Q_M_compute a1 σ σ' → QR none σ') : WW 0 [] [some (.inr (.inr 900)), some (.inl a1), none, none, none, none] σ := by
  refine s_M_compute_0 S Q _ _ _ ?_
  simp only [k_M_compute_0, k_M_compute_48, k_M_compute_59, k_M_compute_70, k_M_compute_81, k_M_compute_87, k_M_compute_95, k_M_compute_106, k_M_compute_114, k_M_compute_118, k_M_compute_119, k_M_compute_125, k_M_compute_133, k_M_compute_137, k_M_compute_138, k_M_compute_141, oc_M_pop, oc_M_push, o_c, o_il, o_ll, o_al, o_is, o_as, o_ls, o_inc, o_bi, o_bid, o_bl, o_bld, o_sl, o_i2l, o_l2i, o_dup, o_dup2, o_pop, o_pop2, o_if, o_i2, o_l2, swg, o_sw, o_gI, o_gZ, o_gJ, o_gA, o_gR, o_pI, o_pZ, o_pJ, o_pR, o_ia, o_iak, o_zak, o_ja, o_jak, o_is_, o_isk, o_zsk, o_js_, o_jsk, o_len, o_ri, o_rz, o_rl, o_rv, ls1, ls2, lks, lkj, List.getD_cons_zero, List.getD_cons_succ, List.set_cons_zero, List.set_cons_succ, qcat, true_and, and_true, List.map_nil, List.map_cons, List.sum_nil, List.sum_cons, Nat.reduceAdd, Nat.reduceLeDiff, Nat.zero_le, Int.reduceAdd, Int.reduceNeg, Int.reduceEq, or_true, true_or, Decidable.not_not]
  obtain ⟨ho, h0⟩ := h
  obtain ⟨l0, hl⟩ := Stk_ex h0.1 h0.2
  refine ⟨h0, fun b σ1 p1 => ?_⟩
  obtain ⟨l1, hl1⟩ : ∃ l1, Stk σ1 l1 := by
    cases l0 with
    | nil => exact ⟨_, (pop_no p1 hl).1⟩
    | cons v t => exact ⟨_, (pop_ok p1 hl).2.1⟩
  refine ⟨Stk_p hl1, fun a σ2 p2 => ?_⟩
  obtain ⟨l2, hl2⟩ : ∃ l2, Stk σ2 l2 := by
    cases l1 with
    | nil => exact ⟨_, (pop_no p2 hl1).1⟩
    | cons v t => exact ⟨_, (pop_ok p2 hl1).2.1⟩
  have hp := Stk_p hl2
  have H2 : (∃ t, l0 = b :: a :: t ∧ Stk σ2 t ∧ σ2 21 0 = σ 21 0 ∧ F_stk σ σ2 ∧ t.length ≤ 10) ∨ (mcomp a1 l0 = none ∧ σ2 21 0 = 1 ∧ F_stk σ σ2) := by
    match l0, hl with
    | [], hl =>
      obtain ⟨g1, g2, g3⟩ := pop_no p1 hl
      obtain ⟨-, g4, g5⟩ := pop_tr p2 g1 g2
      exact Or.inr ⟨rfl, g4, g3.tr g5⟩
    | [x], hl =>
      obtain ⟨-, g1, g2, g3⟩ := pop_ok p1 hl
      obtain ⟨-, g4, g5⟩ := pop_no p2 g1
      exact Or.inr ⟨rfl, g4, g3.tr g5⟩
    | x :: y :: t, hl =>
      obtain ⟨e1, g1, g2, g3⟩ := pop_ok p1 hl
      obtain ⟨e2, g4, g5, g6⟩ := pop_ok p2 g1
      have := hl.2.1
      simp only [List.length_cons] at this
      exact Or.inl ⟨t, by rw [e1, e2], g4, by rw [g5, g2], g3.tr g6, by omega⟩
  have fin : ∀ v σ3, Q_M_push v σ2 σ3 → (∀ t, l0 = b :: a :: t → mcomp a1 l0 = some (v :: t)) → QR none σ3 := by
    intro v σ3 hp3 hm
    apply hq
    rcases H2 with ⟨t, e, g1, g2, g3, g4⟩ | ⟨e, g1, g2⟩
    · obtain ⟨k1, k2, k3⟩ := psh_ok hp3 g1 (by omega)
      refine comp_end hl (g3.tr k3) ⟨_, k1⟩ ?_
      rw [hm t e]
      exact ⟨k1, by rw [k2, g2]⟩
    · obtain ⟨k1, k2, k3⟩ := psh_tr hp3 hl2 g1
      refine comp_end hl (g2.tr k3) k1 ?_
      rw [e]; exact k2
  refine ⟨fun e => ⟨hp, fun σ3 p3 => fin _ _ p3 (fun t e' => ?_)⟩, fun n6 => ⟨fun e => ⟨hp, fun σ3 p3 => fin _ _ p3 (fun t e' => ?_)⟩, fun n7 => ⟨fun e => ⟨hp, fun σ3 p3 => fin _ _ p3 (fun t e' => ?_)⟩, fun n8 => ⟨fun e => ⟨fun z => ⟨z, hp, fun σ3 p3 => fin _ _ p3 (fun t e' => ?_)⟩, fun z => ?_⟩, fun n9 => ⟨fun e => ⟨fun z => ⟨hp, fun σ3 p3 => fin _ _ p3 (fun t e' => ?_)⟩, fun z => ⟨hp, fun σ3 p3 => fin _ _ p3 (fun t e' => ?_)⟩⟩, fun n10 => ⟨fun z => ⟨hp, fun σ3 p3 => fin _ _ p3 (fun t e' => ?_)⟩, fun z => ⟨hp, fun σ3 p3 => fin _ _ p3 (fun t e' => ?_)⟩⟩⟩⟩⟩⟩⟩
  · rw [e', e]; rfl
  · rw [e', e]; rfl
  · rw [e', e]; rfl
  · rw [e', e]; simp [mcomp, z]
  · apply hq
    rcases H2 with ⟨t, e', g1, g2, g3, g4⟩ | ⟨e', g1, g2⟩
    · refine comp_end hl (g3.tr (F_stk.td _ _)) ⟨_, Stk_keep g1 (by rw [su_k (by decide)]) (su_k (by decide))⟩ ?_
      have : mcomp a1 l0 = none := by rw [e', e]; simp [mcomp, z]
      rw [this]
      exact su_s
    · refine comp_end hl (g2.tr (F_stk.td _ _)) ⟨_, Stk_keep hl2 (by rw [su_k (by decide)]) (su_k (by decide))⟩ ?_
      rw [e']; exact su_s
  · rw [e', e]; simp [mcomp]; omega
  · rw [e', e]; simp [mcomp]; omega
  · rw [e']; simp [mcomp, n6, n7, n8, n9, n10, z]
  · rw [e']; simp [mcomp, n6, n7, n8, n9, n10, z]
theorem c_M_compute (l : Launch) (ad : Nat → Nat) (D : va_G) (cA : Nat → ClassId) : qC l ad D cA y_M_compute (Cond.code y_M_compute b_M_compute 6 (none) :: lw_g) rm_M_compute pre_M_compute post_M_compute := by
  refine qC_of (own := R_M) (by decide) rfl ⟨rfl, rfl⟩ ?_ ?_
  · intro av σ h; unfold pre_M_compute at h; split at h
    · simp [qen]
    · exact h.elim
  · intro WW QR S Q av σ hav hσ h hq; unfold pre_M_compute at h; split at h
    next o a1 =>
      obtain ⟨rfl, h⟩ := h
      exact w_M_compute S Q a1 σ (hav _ (List.mem_of_getElem? (i := 1) rfl)) hσ h (fun σ' h' => hq _ σ' h')
    next => exact h.elim
def rowok (σ : qS) : Prop := (σ 23 0 = 1 ∧ σ 25 0 ≤ 4800) ∨ (σ 23 0 = 80 ∧ σ 25 0 ≤ 1000)
def crow (σ : qS) : Int → Int := σ (σ 23 0).toNat
def P_M_value (_what : Int) (σ : qS) : Prop := rowok σ ∧ (0 ≤ σ 24 0 ∧ σ 24 0 ≤ σ 25 0) ∧ 0 ≤ σ 16 0 ∧ σ 16 0 ≤ 12
def Q_M_value (what : Int) (σ σ' : qS) : Prop := (σ 24 0 = σ 25 0 ∧ σ' = su σ 21 0 1) ∨ (σ 24 0 ≠ σ 25 0 ∧ σ' = if what = 0 then psh (crow σ (σ 24 0)) σ else su (psh (crow σ (σ 24 0)) σ) 24 0 (σ 24 0 + 1))
def pre_M_value (av : List qA) (σ : qS) : Prop := match av with
  | [.inr (.inr o), .inl a1] => o = 900 ∧ P_M_value a1 σ
  | _ => False
def post_M_value (av : List qA) (σ : qS) (r : Option qA) (σ' : qS) : Prop := match av, r with
  | [_, .inl a1], none => Q_M_value a1 σ σ'
  | _, _ => False
def oc_M_value (K : qP) : qP := fun st ls σ => match st with
  | .inl a1 :: .inr (.inr o) :: st => o = 900 ∧ (st.map qcat).sum ≤ 8 ∧ P_M_value a1 σ ∧ ∀ (σ' : qS), Q_M_value a1 σ σ' → K st ls σ'
  | _ => False
def rm_M_value : Room := { frames := 1, cells := 0, slots := 0, locals := 22 }
theorem fl_M_241 : qF R_M 900 0 82 0 R_M F_M 241 24 := ⟨Or.inl ⟨rfl, rfl, rfl, rfl, rfl, rfl⟩, by decide, lw_at 102 (by decide +kernel) rfl⟩
theorem fl_M_244 : qF R_M 900 0 82 0 R_M F_M 244 25 := ⟨Or.inl ⟨rfl, rfl, rfl, rfl, rfl, rfl⟩, by decide, lw_at 103 (by decide +kernel) rfl⟩
theorem fl_M_250 : qF R_M 900 0 82 0 R_M F_M 250 23 := ⟨Or.inl ⟨rfl, rfl, rfl, rfl, rfl, rfl⟩, by decide, lw_at 101 (by decide +kernel) rfl⟩
def k_M_value_44 (QR : Option qA → qS → Prop) (H : Nat → qP) : qP :=
  o_rv QR
def k_M_value_34 (QR : Option qA → qS → Prop) (H : Nat → qP) : qP :=
  o_al 0 <| o_dup <| o_gI 900 24 <| o_c (.inl 1) <| o_bi z_add <| o_pI 900 24 <| k_M_value_44 QR H
def k_M_value_17 (QR : Option qA → qS → Prop) (H : Nat → qP) : qP :=
  o_al 0 <| o_al 0 <| o_gR 900 23 <| o_al 0 <| o_gI 900 24 <| o_ja <| oc_M_push <| o_il 1 <| o_if (fun a => a = 0) (k_M_value_44 QR H) (k_M_value_34 QR H)
def k_M_value_11 (QR : Option qA → qS → Prop) (H : Nat → qP) : qP :=
  o_al 0 <| o_c (.inl 1) <| o_pZ 900 21 <| o_rv QR
def k_M_value_0 (QR : Option qA → qS → Prop) (H : Nat → qP) : qP :=
  o_al 0 <| o_gI 900 24 <| o_al 0 <| o_gI 900 25 <| o_i2 (fun a b => ¬ a = b) (k_M_value_17 QR H) (k_M_value_11 QR H)
set_option maxRecDepth 8000 in
theorem s_M_value_44 {l : Launch} {ad : Nat → Nat} {D : va_G} {cA : Nat → ClassId} {WW : Nat → qP} {QR : Option qA → qS → Prop} (S : qSnd l rm_M_value ad D cA R_M b_M_value 2 WW) (Q : qRet (none) b_M_value WW QR) : qle (k_M_value_44 QR WW) WW 44 :=
  Q.2.2.2 rfl _ d_M_value_44
set_option maxRecDepth 8000 in
theorem s_M_value_34 {l : Launch} {ad : Nat → Nat} {D : va_G} {cA : Nat → ClassId} {WW : Nat → qP} {QR : Option qA → qS → Prop} (S : qSnd l rm_M_value ad D cA R_M b_M_value 2 WW) (Q : qRet (none) b_M_value WW QR) : qle (k_M_value_34 QR WW) WW 34 :=
  S.aload_n d_M_value_34 rfl <| S.dup d_M_value_35 <| S.gI fl_M_241 (by decide) d_M_value_36 <| S.iconst d_M_value_39 (by decide) <| S.iadd d_M_value_40 <| S.pI fl_M_241 (by decide) (by decide +kernel) d_M_value_41 <| (s_M_value_44 S Q)
set_option maxRecDepth 8000 in
theorem s_M_value_17 {l : Launch} {ad : Nat → Nat} {D : va_G} {cA : Nat → ClassId} {WW : Nat → qP} {QR : Option qA → qS → Prop} (S : qSnd l rm_M_value ad D cA R_M b_M_value 2 WW) (Q : qRet (none) b_M_value WW QR) : qle (k_M_value_17 QR WW) WW 17 :=
  S.aload_n d_M_value_17 rfl <| S.aload_n d_M_value_18 rfl <| S.gR fl_M_250 (by decide) d_M_value_19 <| S.aload_n d_M_value_22 rfl <| S.gI fl_M_241 (by decide) d_M_value_23 <| S.jald d_M_value_26 <| sc_M_230 S (by decide) d_M_value_27 <| S.iload_n d_M_value_30 rfl <| S.if_eq d_M_value_31 (by decide) (s_M_value_44 S Q) (s_M_value_34 S Q)
set_option maxRecDepth 8000 in
theorem s_M_value_11 {l : Launch} {ad : Nat → Nat} {D : va_G} {cA : Nat → ClassId} {WW : Nat → qP} {QR : Option qA → qS → Prop} (S : qSnd l rm_M_value ad D cA R_M b_M_value 2 WW) (Q : qRet (none) b_M_value WW QR) : qle (k_M_value_11 QR WW) WW 11 :=
  S.aload_n d_M_value_11 rfl <| S.iconst d_M_value_12 (by decide) <| S.pZ fl_M_211 (by decide) (by decide +kernel) d_M_value_13 <| Q.2.2.2 rfl _ d_M_value_16
set_option maxRecDepth 8000 in
theorem s_M_value_0 {l : Launch} {ad : Nat → Nat} {D : va_G} {cA : Nat → ClassId} {WW : Nat → qP} {QR : Option qA → qS → Prop} (S : qSnd l rm_M_value ad D cA R_M b_M_value 2 WW) (Q : qRet (none) b_M_value WW QR) : qle (k_M_value_0 QR WW) WW 0 :=
  S.aload_n d_M_value_0 rfl <| S.gI fl_M_241 (by decide) d_M_value_1 <| S.aload_n d_M_value_4 rfl <| S.gI fl_M_244 (by decide) d_M_value_5 <| S.icmp_ne d_M_value_8 (by decide) (s_M_value_17 S Q) (s_M_value_11 S Q)
theorem w_M_value {l : Launch} {ad : Nat → Nat} {D : va_G} {cA : Nat → ClassId} {WW : Nat → qP} {QR : Option qA → qS → Prop} (S : qSnd l rm_M_value ad D cA R_M b_M_value 2 WW) (Q : qRet (none) b_M_value WW QR) (a1 : Int) (σ : qS) (ha1 : r32 a1) (hσ : qoS σ) (h : P_M_value a1 σ) (hq : ∀ σ', Q_M_value a1 σ σ' → QR none σ') : WW 0 [] [some (.inr (.inr 900)), some (.inl a1)] σ := by
  refine s_M_value_0 S Q _ _ _ ?_
  simp only [k_M_value_0, k_M_value_11, k_M_value_17, k_M_value_34, k_M_value_44, oc_M_push, o_c, o_il, o_ll, o_al, o_is, o_as, o_ls, o_inc, o_bi, o_bid, o_bl, o_bld, o_sl, o_i2l, o_l2i, o_dup, o_dup2, o_pop, o_pop2, o_if, o_i2, o_l2, swg, o_sw, o_gI, o_gZ, o_gJ, o_gA, o_gR, o_pI, o_pZ, o_pJ, o_pR, o_ia, o_iak, o_zak, o_ja, o_jak, o_is_, o_isk, o_zsk, o_js_, o_jsk, o_len, o_ri, o_rz, o_rl, o_rv, ls1, ls2, lks, lkj, List.getD_cons_zero, List.getD_cons_succ, List.set_cons_zero, List.set_cons_succ, qcat, true_and, and_true, List.map_nil, List.map_cons, List.sum_nil, List.sum_cons, Nat.reduceAdd, Nat.reduceLeDiff, Nat.zero_le, Int.reduceAdd, Int.reduceNeg, Int.reduceEq, or_true, true_or, Decidable.not_not]
  obtain ⟨h1, h2, h3⟩ := h
  refine ⟨fun e => ?_, fun e => hq _ (Or.inl ⟨e, rfl⟩)⟩
  have hr : 0 ≤ σ 23 0 ∧ ((σ 23 0).toNat ∈ qar ∧ qty (σ 23 0).toNat = 1) ∧ (0 ≤ σ 24 0 ∧ σ 24 0 < ↑(qln (σ 23 0).toNat)) := by
    rcases h1 with ⟨e1, e2⟩ | ⟨e1, e2⟩
    · rw [e1]; exact ⟨by omega, by decide, h2.1, by show _ < (4800 : Int); omega⟩
    · rw [e1]; exact ⟨by omega, by decide, h2.1, by show _ < (1000 : Int); omega⟩
  refine ⟨hr.1, hr.2.1, hr.2.2, h3, fun σ1 p1 => ?_⟩
  cases p1
  refine ⟨fun z => hq _ (Or.inr ⟨e, by rw [if_pos z]; rfl⟩), fun z => hq _ (Or.inr ⟨e, ?_⟩)⟩
  have e4 : psh (σ (σ 23 0).toNat (σ 24 0)) σ 24 0 = σ 24 0 := by rw [F_stk.ps σ _ 24 (by decide)]
  have e5 : σ 25 0 ≤ 4800 := by rcases h1 with ⟨-, e2⟩ | ⟨-, e2⟩ <;> omega
  rw [if_neg z, e4, z_add, w32_i _ (by omega) (by omega)]; rfl
theorem c_M_value (l : Launch) (ad : Nat → Nat) (D : va_G) (cA : Nat → ClassId) : qC l ad D cA y_M_value (Cond.code y_M_value b_M_value 2 (none) :: lw_g) rm_M_value pre_M_value post_M_value := by
  refine qC_of (own := R_M) (by decide) rfl ⟨rfl, rfl⟩ ?_ ?_
  · intro av σ h; unfold pre_M_value at h; split at h
    · simp [qen]
    · exact h.elim
  · intro WW QR S Q av σ hav hσ h hq; unfold pre_M_value at h; split at h
    next o a1 =>
      obtain ⟨rfl, h⟩ := h
      exact w_M_value S Q a1 σ (hav _ (List.mem_of_getElem? (i := 1) rfl)) hσ h (fun σ' h' => hq _ σ' h')
    next => exact h.elim
def P_M_emit (_what : Int) (σ : qS) : Prop := (0 ≤ σ 20 0 ∧ σ 20 0 ≤ 4) ∧ 0 ≤ σ 16 0 ∧ σ 16 0 ≤ 12
def memit (what key : Int) (l : List Int) : Option (List Int × (Int × Int)) := if what = 1 then (match l with
  | v :: t => some (t, (key, v))
  | _ => none) else (match l with
  | v :: k :: t => some (t, (k, v))
  | _ => none)
def F_emt (σ σ' : qS) : Prop := ∀ k, k ∉ [15, 16, 21, 20, 18, 19] → σ' k = σ k
def Q_M_emit (what : Int) (σ σ' : qS) : Prop := F_emt σ σ' ∧ (0 ≤ σ' 20 0 ∧ σ' 20 0 ≤ 4) ∧ ∀ l, Stk σ l → (∃ l', Stk σ' l') ∧ (σ 21 0 = 0 → match memit what (σ 22 0) l with
  | none => σ' 21 0 = 1
  | some x => (σ 20 0 = 4 → σ' 21 0 = 1) ∧ (σ 20 0 ≠ 4 → Stk σ' x.1 ∧ σ' 21 0 = 0 ∧ σ' 20 0 = σ 20 0 + 1 ∧ (∀ i, σ' 18 i = if i = σ 20 0 then x.2.1 else σ 18 i) ∧ (∀ i, σ' 19 i = if i = σ 20 0 then x.2.2 else σ 19 i)))
def pre_M_emit (av : List qA) (σ : qS) : Prop := match av with
  | [.inr (.inr o), .inl a1] => o = 900 ∧ P_M_emit a1 σ
  | _ => False
def post_M_emit (av : List qA) (σ : qS) (r : Option qA) (σ' : qS) : Prop := match av, r with
  | [_, .inl a1], none => Q_M_emit a1 σ σ'
  | _, _ => False
def oc_M_emit (K : qP) : qP := fun st ls σ => match st with
  | .inl a1 :: .inr (.inr o) :: st => o = 900 ∧ (st.map qcat).sum ≤ 8 ∧ P_M_emit a1 σ ∧ ∀ (σ' : qS), Q_M_emit a1 σ σ' → K st ls σ'
  | _ => False
def rm_M_emit : Room := { frames := 1, cells := 0, slots := 0, locals := 20 }
theorem fl_M_57 : qF R_M 900 0 82 0 R_M F_M 57 18 := ⟨Or.inl ⟨rfl, rfl, rfl, rfl, rfl, rfl⟩, by decide, lw_at 96 (by decide +kernel) rfl⟩
theorem fl_M_60 : qF R_M 900 0 82 0 R_M F_M 60 19 := ⟨Or.inl ⟨rfl, rfl, rfl, rfl, rfl, rfl⟩, by decide, lw_at 97 (by decide +kernel) rfl⟩
theorem fl_M_215 : qF R_M 900 0 82 0 R_M F_M 215 20 := ⟨Or.inl ⟨rfl, rfl, rfl, rfl, rfl, rfl⟩, by decide, lw_at 98 (by decide +kernel) rfl⟩
theorem fl_M_234 : qF R_M 900 0 82 0 R_M F_M 234 22 := ⟨Or.inl ⟨rfl, rfl, rfl, rfl, rfl, rfl⟩, by decide, lw_at 100 (by decide +kernel) rfl⟩
def k_M_emit_44 (QR : Option qA → qS → Prop) (H : Nat → qP) : qP :=
  o_al 0 <| o_gA 900 18 <| o_al 0 <| o_gI 900 20 <| o_ll 4 <| o_jsk 18 4 <| o_al 0 <| o_gA 900 19 <| o_al 0 <| o_gI 900 20 <| o_ll 2 <| o_jsk 19 4 <| o_al 0 <| o_dup <| o_gI 900 20 <| o_c (.inl 1) <| o_bi z_add <| o_pI 900 20 <| o_rv QR
def k_M_emit_38 (QR : Option qA → qS → Prop) (H : Nat → qP) : qP :=
  o_al 0 <| o_c (.inl 1) <| o_pZ 900 21 <| o_rv QR
def k_M_emit_30 (QR : Option qA → qS → Prop) (H : Nat → qP) : qP :=
  o_al 0 <| o_gI 900 20 <| o_c (.inl 4) <| o_i2 (fun a b => ¬ a = b) (k_M_emit_44 QR H) (k_M_emit_38 QR H)
def k_M_emit_21 (QR : Option qA → qS → Prop) (H : Nat → qP) : qP :=
  o_ls 4 <| o_al 0 <| o_gZ 900 21 <| o_if (fun a => ¬ a = 0) (k_M_emit_38 QR H) (k_M_emit_30 QR H)
def k_M_emit_17 (QR : Option qA → qS → Prop) (H : Nat → qP) : qP :=
  o_al 0 <| oc_M_pop <| k_M_emit_21 QR H
def k_M_emit_10 (QR : Option qA → qS → Prop) (H : Nat → qP) : qP :=
  o_al 0 <| o_gJ 900 22 <| k_M_emit_21 QR H
def k_M_emit_0 (QR : Option qA → qS → Prop) (H : Nat → qP) : qP :=
  o_al 0 <| oc_M_pop <| o_ls 2 <| o_il 1 <| o_c (.inl 1) <| o_i2 (fun a b => ¬ a = b) (k_M_emit_17 QR H) (k_M_emit_10 QR H)
set_option maxRecDepth 8000 in
theorem s_M_emit_44 {l : Launch} {ad : Nat → Nat} {D : va_G} {cA : Nat → ClassId} {WW : Nat → qP} {QR : Option qA → qS → Prop} (S : qSnd l rm_M_emit ad D cA R_M b_M_emit 6 WW) (Q : qRet (none) b_M_emit WW QR) : qle (k_M_emit_44 QR WW) WW 44 :=
  S.aload_n d_M_emit_44 rfl <| S.gA fl_M_57 (by decide) d_M_emit_45 <| S.aload_n d_M_emit_48 rfl <| S.gI fl_M_215 (by decide) d_M_emit_49 <| S.lload d_M_emit_52 <| S.jsk (by decide) d_M_emit_54 <| S.aload_n d_M_emit_55 rfl <| S.gA fl_M_60 (by decide) d_M_emit_56 <| S.aload_n d_M_emit_59 rfl <| S.gI fl_M_215 (by decide) d_M_emit_60 <| S.lload_n d_M_emit_63 rfl <| S.jsk (by decide) d_M_emit_64 <| S.aload_n d_M_emit_65 rfl <| S.dup d_M_emit_66 <| S.gI fl_M_215 (by decide) d_M_emit_67 <| S.iconst d_M_emit_70 (by decide) <| S.iadd d_M_emit_71 <| S.pI fl_M_215 (by decide) (by decide +kernel) d_M_emit_72 <| Q.2.2.2 rfl _ d_M_emit_75
set_option maxRecDepth 8000 in
theorem s_M_emit_38 {l : Launch} {ad : Nat → Nat} {D : va_G} {cA : Nat → ClassId} {WW : Nat → qP} {QR : Option qA → qS → Prop} (S : qSnd l rm_M_emit ad D cA R_M b_M_emit 6 WW) (Q : qRet (none) b_M_emit WW QR) : qle (k_M_emit_38 QR WW) WW 38 :=
  S.aload_n d_M_emit_38 rfl <| S.iconst d_M_emit_39 (by decide) <| S.pZ fl_M_211 (by decide) (by decide +kernel) d_M_emit_40 <| Q.2.2.2 rfl _ d_M_emit_43
set_option maxRecDepth 8000 in
theorem s_M_emit_30 {l : Launch} {ad : Nat → Nat} {D : va_G} {cA : Nat → ClassId} {WW : Nat → qP} {QR : Option qA → qS → Prop} (S : qSnd l rm_M_emit ad D cA R_M b_M_emit 6 WW) (Q : qRet (none) b_M_emit WW QR) : qle (k_M_emit_30 QR WW) WW 30 :=
  S.aload_n d_M_emit_30 rfl <| S.gI fl_M_215 (by decide) d_M_emit_31 <| S.iconst d_M_emit_34 (by decide) <| S.icmp_ne d_M_emit_35 (by decide) (s_M_emit_44 S Q) (s_M_emit_38 S Q)
set_option maxRecDepth 8000 in
theorem s_M_emit_21 {l : Launch} {ad : Nat → Nat} {D : va_G} {cA : Nat → ClassId} {WW : Nat → qP} {QR : Option qA → qS → Prop} (S : qSnd l rm_M_emit ad D cA R_M b_M_emit 6 WW) (Q : qRet (none) b_M_emit WW QR) : qle (k_M_emit_21 QR WW) WW 21 :=
  S.lstore d_M_emit_21 (by decide) <| S.aload_n d_M_emit_23 rfl <| S.gZ fl_M_211 (by decide) d_M_emit_24 <| S.if_ne d_M_emit_27 (by decide) (s_M_emit_38 S Q) (s_M_emit_30 S Q)
set_option maxRecDepth 8000 in
theorem s_M_emit_17 {l : Launch} {ad : Nat → Nat} {D : va_G} {cA : Nat → ClassId} {WW : Nat → qP} {QR : Option qA → qS → Prop} (S : qSnd l rm_M_emit ad D cA R_M b_M_emit 6 WW) (Q : qRet (none) b_M_emit WW QR) : qle (k_M_emit_17 QR WW) WW 17 :=
  S.aload_n d_M_emit_17 rfl <| sc_M_218 S (by decide) d_M_emit_18 <| (s_M_emit_21 S Q)
set_option maxRecDepth 8000 in
theorem s_M_emit_10 {l : Launch} {ad : Nat → Nat} {D : va_G} {cA : Nat → ClassId} {WW : Nat → qP} {QR : Option qA → qS → Prop} (S : qSnd l rm_M_emit ad D cA R_M b_M_emit 6 WW) (Q : qRet (none) b_M_emit WW QR) : qle (k_M_emit_10 QR WW) WW 10 :=
  S.aload_n d_M_emit_10 rfl <| S.gJ fl_M_234 (by decide) d_M_emit_11 <| S.goto d_M_emit_14 (by decide) (s_M_emit_21 S Q)
set_option maxRecDepth 8000 in
theorem s_M_emit_0 {l : Launch} {ad : Nat → Nat} {D : va_G} {cA : Nat → ClassId} {WW : Nat → qP} {QR : Option qA → qS → Prop} (S : qSnd l rm_M_emit ad D cA R_M b_M_emit 6 WW) (Q : qRet (none) b_M_emit WW QR) : qle (k_M_emit_0 QR WW) WW 0 :=
  S.aload_n d_M_emit_0 rfl <| sc_M_218 S (by decide) d_M_emit_1 <| S.lstore_n d_M_emit_4 rfl (by decide) <| S.iload_n d_M_emit_5 rfl <| S.iconst d_M_emit_6 (by decide) <| S.icmp_ne d_M_emit_7 (by decide) (s_M_emit_17 S Q) (s_M_emit_10 S Q)
theorem w_M_emit {l : Launch} {ad : Nat → Nat} {D : va_G} {cA : Nat → ClassId} {WW : Nat → qP} {QR : Option qA → qS → Prop} (S : qSnd l rm_M_emit ad D cA R_M b_M_emit 6 WW) (Q : qRet (none) b_M_emit WW QR) (a1 : Int) (σ : qS) (ha1 : r32 a1) (hσ : qoS σ) (h : P_M_emit a1 σ) (hq : ∀ σ', Q_M_emit a1 σ σ' → QR none σ') : WW 0 [] [some (.inr (.inr 900)), some (.inl a1), none, none, none, none] σ := by
  refine s_M_emit_0 S Q _ _ _ ?_
  simp only [k_M_emit_0, k_M_emit_10, k_M_emit_17, k_M_emit_21, k_M_emit_30, k_M_emit_38, k_M_emit_44, oc_M_pop, o_c, o_il, o_ll, o_al, o_is, o_as, o_ls, o_inc, o_bi, o_bid, o_bl, o_bld, o_sl, o_i2l, o_l2i, o_dup, o_dup2, o_pop, o_pop2, o_if, o_i2, o_l2, swg, o_sw, o_gI, o_gZ, o_gJ, o_gA, o_gR, o_pI, o_pZ, o_pJ, o_pR, o_ia, o_iak, o_zak, o_ja, o_jak, o_is_, o_isk, o_zsk, o_js_, o_jsk, o_len, o_ri, o_rz, o_rl, o_rv, ls1, ls2, lks, lkj, List.getD_cons_zero, List.getD_cons_succ, List.set_cons_zero, List.set_cons_succ, qcat, true_and, and_true, List.map_nil, List.map_cons, List.sum_nil, List.sum_cons, Nat.reduceAdd, Nat.reduceLeDiff, Nat.zero_le, Int.reduceAdd, Int.reduceNeg, Int.reduceEq, or_true, true_or, Decidable.not_not]
  obtain ⟨h1, h0⟩ := h
  obtain ⟨l, hl⟩ := Stk_ex h0.1 h0.2
  have tail : ∀ (k v : Int) (σ1 : qS), F_stk σ σ1 → (∃ l', Stk σ1 l') → (σ 21 0 = 0 → ¬ σ1 21 0 = 0 → memit a1 (σ 22 0) l = none) → (σ 21 0 = 0 → σ1 21 0 = 0 → ∃ t, memit a1 (σ 22 0) l = some (t, (k, v)) ∧ Stk σ1 t) → σ1 21 0 = 0 ∨ σ1 21 0 = 1 →
      (¬ σ1 21 0 = 0 → QR none (su σ1 21 0 1)) ∧ (σ1 21 0 = 0 → (¬ σ1 20 0 = 4 → (0 ≤ σ1 20 0 ∧ σ1 20 0 < 4) ∧ (0 ≤ su σ1 18 (σ1 20 0) k 20 0 ∧ su σ1 18 (σ1 20 0) k 20 0 < 4) ∧
        QR none (su (su (su σ1 18 (σ1 20 0) k) 19 (su σ1 18 (σ1 20 0) k 20 0) v) 20 0 (z_add (su (su σ1 18 (σ1 20 0) k) 19 (su σ1 18 (σ1 20 0) k 20 0) v 20 0) 1))) ∧ (σ1 20 0 = 4 → QR none (su σ1 21 0 1))) := by
    intro k v σ1 hF hx g1 g2 htr
    have ee : σ1 20 = σ 20 := hF _ (by decide)
    have ek : σ1 18 = σ 18 := hF _ (by decide)
    have ev : σ1 19 = σ 19 := hF _ (by decide)
    obtain ⟨l1, hl1⟩ := hx
    have trap : QR none (su σ1 21 0 1) ∨ ¬ (¬ σ1 21 0 = 0 ∨ σ1 20 0 = 4) := by
      by_cases hc : ¬ σ1 21 0 = 0 ∨ σ1 20 0 = 4
      · refine Or.inl (hq _ ⟨fun q hk => ?_, ?_, fun l' hl' => ?_⟩)
        · rw [su_k (by intro e; subst e; exact hk (by decide)), hF q (fun e => hk (by simp only [List.mem_cons, List.not_mem_nil, or_false] at e ⊢; omega))]
        · rw [su_k (by decide), ee]; exact h1
        · have := Stk_un hl hl'
          subst this
          refine ⟨⟨l1, Stk_keep hl1 (by rw [su_k (by decide)]) (su_k (by decide))⟩, fun t0 => ?_⟩
          by_cases t1 : σ1 21 0 = 0
          · obtain ⟨t, e, -⟩ := g2 t0 t1
            rw [e]
            have e4 : σ 20 0 = 4 := by rw [← ee]; rcases hc with h | h; exact absurd t1 h; exact h
            exact ⟨fun _ => su_s, fun h => absurd e4 h⟩
          · rw [g1 t0 t1]; exact su_s
      · exact Or.inr hc
    refine ⟨fun t1 => ?_, fun t1 => ⟨fun e4 => ?_, fun e4 => ?_⟩⟩
    · rcases trap with h | h
      · exact h
      · exact absurd (Or.inl t1) h
    · have h1' : 0 ≤ σ1 20 0 ∧ σ1 20 0 ≤ 4 := by rw [ee]; exact h1
      simp (disch := omega) only [su_k, su_s, z_add, z_sub, z_mul, w32_i]
      refine ⟨by omega, by omega, hq _ ⟨fun q hk => ?_, ?_, fun l' hl' => ?_⟩⟩
      · rw [su_k (by intro e; subst e; exact hk (by decide)), su_k (by intro e; subst e; exact hk (by decide)), su_k (by intro e; subst e; exact hk (by decide)), hF q (fun e => hk (by simp only [List.mem_cons, List.not_mem_nil, or_false] at e ⊢; omega))]
      · rw [su_s]; omega
      · have := Stk_un hl hl'
        subst this
        refine ⟨⟨l1, Stk_keep hl1 (by simp (disch := omega) only [su_k, su_s, z_add, z_sub, z_mul, w32_i]) (by simp (disch := omega) only [su_k, su_s, z_add, z_sub, z_mul, w32_i])⟩, fun t0 => ?_⟩
        obtain ⟨t, e, hst⟩ := g2 t0 t1
        rw [e]
        refine ⟨fun h => absurd (by rw [ee]; exact h) e4, fun _ => ⟨Stk_keep hst (by simp (disch := omega) only [su_k, su_s, z_add, z_sub, z_mul, w32_i]) (by simp (disch := omega) only [su_k, su_s, z_add, z_sub, z_mul, w32_i]), by simp (disch := omega) only [su_k, su_s, z_add, z_sub, z_mul, w32_i]; exact t1, by rw [su_s, ee], fun i => ?_, fun i => ?_⟩⟩
        · simp (disch := omega) only [su_k, su_s, z_add, z_sub, z_mul, w32_i]; rw [su_e, ee, ek]
        · simp (disch := omega) only [su_k, su_s, z_add, z_sub, z_mul, w32_i]; rw [su_e, su_k (by decide), ee, ev]
    · rcases trap with h | h
      · exact h
      · exact absurd (Or.inr e4) h
  refine ⟨h0, fun v σ1 p1 => ⟨fun n1 => ?_, fun e1 => ?_⟩⟩
  · obtain ⟨l1, hl1⟩ : ∃ l1, Stk σ1 l1 := by
      cases l with
      | nil => exact ⟨_, (pop_no p1 hl).1⟩
      | cons v t => exact ⟨_, (pop_ok p1 hl).2.1⟩
    refine ⟨Stk_p hl1, fun k σ2 p2 => ?_⟩
    match l, hl, tail with
    | [], hl, tail =>
      obtain ⟨g1, g2, g3⟩ := pop_no p1 hl
      obtain ⟨g4, g5, g6⟩ := pop_tr p2 g1 g2
      exact tail k v σ2 (g3.tr g6) g4 (fun _ _ => by simp [memit, n1]) (fun _ h => by omega)
    | [x], hl, tail =>
      obtain ⟨-, g1, g2, g3⟩ := pop_ok p1 hl
      obtain ⟨g4, g5, g6⟩ := pop_no p2 g1
      exact tail k v σ2 (g3.tr g6) ⟨_, g4⟩ (fun _ _ => by simp [memit, n1]) (fun _ h => by omega)
    | x :: y :: t, hl, tail =>
      obtain ⟨e1, g1, g2, g3⟩ := pop_ok p1 hl
      obtain ⟨e2, g4, g5, g6⟩ := pop_ok p2 g1
      exact tail k v σ2 (g3.tr g6) ⟨_, g4⟩ (fun h h' => by omega) (fun _ _ => ⟨t, by simp [memit, n1, e1, e2], g4⟩)
  · match l, hl, tail with
    | [], hl, tail =>
      obtain ⟨g1, g2, g3⟩ := pop_no p1 hl
      have ek : σ1 22 = σ 22 := g3 _ (by decide)
      exact tail _ v σ1 g3 ⟨_, g1⟩ (fun _ _ => by simp [memit, e1]) (fun _ h => by omega)
    | x :: t, hl, tail =>
      obtain ⟨e2, g1, g2, g3⟩ := pop_ok p1 hl
      have ek : σ1 22 = σ 22 := g3 _ (by decide)
      exact tail _ v σ1 g3 ⟨_, g1⟩ (fun h h' => by omega) (fun _ _ => ⟨t, by simp [memit, e1, e2, ek], g1⟩)
theorem c_M_emit (l : Launch) (ad : Nat → Nat) (D : va_G) (cA : Nat → ClassId) : qC l ad D cA y_M_emit (Cond.code y_M_emit b_M_emit 6 (none) :: lw_g) rm_M_emit pre_M_emit post_M_emit := by
  refine qC_of (own := R_M) (by decide) rfl ⟨rfl, rfl⟩ ?_ ?_
  · intro av σ h; unfold pre_M_emit at h; split at h
    · simp [qen]
    · exact h.elim
  · intro WW QR S Q av σ hav hσ h hq; unfold pre_M_emit at h; split at h
    next o a1 =>
      obtain ⟨rfl, h⟩ := h
      exact w_M_emit S Q a1 σ (hav _ (List.mem_of_getElem? (i := 1) rfl)) hσ h (fun σ' h' => hq _ σ' h')
    next => exact h.elim

