def ocat : List (Option (List Pr)) → Option (List Pr)
  | [] => some []
  | none :: _ => none
  | some a :: t => (ocat t).map (fun b => a ++ b)
theorem ocat_app : ∀ (a b : List (Option (List Pr))), ocat (a ++ b) = (ocat a).bind (fun x => (ocat b).map (fun y => x ++ y))
  | [], b => by simp [ocat]
  | none :: t, b => by simp [ocat]
  | some x :: t, b => by
    rw [List.cons_append, ocat, ocat, ocat_app t b]
    cases ocat t <;> cases ocat b <;> simp
def gmap (f : Int → List Int → Option (List Pr)) : Nat → List Pr → Option (List Pr)
  | 0, _ => some []
  | _ + 1, [] => some []
  | n + 1, x :: t => match f x.1 (x.2 :: (t.takeWhile (fun p => p.1 == x.1)).map (fun p => p.2)) with
    | none => none
    | some e => (gmap f n (t.dropWhile (fun p => p.1 == x.1))).map (fun b => e ++ b)
theorem gmap_fuel {f : Int → List Int → Option (List Pr)} : ∀ (n m : Nat) (l : List Pr), l.length ≤ n → l.length ≤ m → gmap f n l = gmap f m l
  | 0, 0, l, _, _ => rfl
  | 0, m + 1, l, h, _ => by have : l = [] := List.eq_nil_of_length_eq_zero (by omega); subst this; rfl
  | n + 1, 0, l, _, h => by have : l = [] := List.eq_nil_of_length_eq_zero (by omega); subst this; rfl
  | n + 1, m + 1, [], _, _ => rfl
  | n + 1, m + 1, x :: t, h1, h2 => by
    simp only [List.length_cons] at h1 h2
    have hd : (t.dropWhile (fun p => p.1 == x.1)).length ≤ t.length := List.Sublist.length_le (List.dropWhile_sublist _)
    unfold gmap
    rw [gmap_fuel n m _ (by omega) (by omega)]
def splo (mp cp : Prg) (recs : List Pr) : Option (List Pr) := match ocat (recs.map (fun r => lcall mp 0 r.1 [r.2])) with
  | none => none
  | some E => if cp.2.2 = 0 then some (srt E) else gmap (fun k vs => lcall cp 1 k vs) E.length (srt E)
theorem eok_tw {σ : qS} {kk kv : Nat} {v : Int} : ∀ (m : Nat) (k : Int), eok (σ kk) m k v = k + ((row σ kk kv k m).takeWhile (fun p => p.1 == v)).length
  | 0, k => by simp [eok, row]
  | m + 1, k => by
    rw [eok, row_c, List.takeWhile_cons]
    by_cases e : σ kk k = v
    · rw [if_pos e, eok_tw (kv := kv) m (k + 1)]; simp [e]; omega
    · rw [if_neg e]; simp [e]
theorem tw_take {α : Type} (p : α → Bool) : ∀ (l : List α), l.takeWhile p = l.take (l.takeWhile p).length
  | [] => rfl
  | x :: t => by
    rw [List.takeWhile_cons]
    by_cases h : p x = true
    · rw [if_pos h]; simp; exact tw_take p t
    · rw [if_neg h]; simp
theorem dw_drop {α : Type} (p : α → Bool) : ∀ (l : List α), l.dropWhile p = l.drop (l.takeWhile p).length
  | [] => rfl
  | x :: t => by
    rw [List.takeWhile_cons, List.dropWhile_cons]
    by_cases h : p x = true
    · rw [if_pos h, if_pos h]; simp; exact dw_drop p t
    · rw [if_neg h, if_neg h]; simp
theorem row_take {σ : qS} {kk kv : Nat} {b : Int} {n i : Nat} (h : i ≤ n) : (row σ kk kv b n).take i = row σ kk kv b i := by
  have := row_app σ kk kv b i (n - i)
  rw [show i + (n - i) = n by omega] at this
  rw [this, List.take_append_of_le_length (by rw [row_len]; omega), List.take_of_length_le (by rw [row_len]; omega)]
theorem row_snd {σ : qS} {kk kv : Nat} {b : Int} {n : Nat} : (row σ kk kv b n).map (fun p => p.2) = vls (σ kv) b n := by
  unfold row vls; rw [List.map_map]; rfl
theorem grp_step {σ : qS} {kk kv : Nat} {k : Int} {n : Nat} (f : Int → List Int → Option (List Pr)) (q : Nat) (hq : q = ((row σ kk kv (k + 1) n).takeWhile (fun p => p.1 == σ kk k)).length) : q ≤ n ∧ gmap f (n + 1) (row σ kk kv k (n + 1)) = (match f (σ kk k) (vls (σ kv) k (q + 1)) with
    | none => none
    | some e => (gmap f (n - q) (row σ kk kv (k + 1 + q) (n - q))).map (fun b => e ++ b)) := by
  have hle : q ≤ n := by
    rw [hq]
    have := List.Sublist.length_le (List.takeWhile_sublist (l := row σ kk kv (k + 1) n) (fun p => p.1 == σ kk k))
    rw [row_len] at this; exact this
  refine ⟨hle, ?_⟩
  rw [row_c, gmap]
  have e1 : (row σ kk kv (k + 1) n).takeWhile (fun p => p.1 == σ kk k) = row σ kk kv (k + 1) q := by rw [tw_take, ← hq, row_take hle]
  have e2 : (row σ kk kv (k + 1) n).dropWhile (fun p => p.1 == σ kk k) = row σ kk kv (k + 1 + q) (n - q) := by rw [dw_drop, ← hq, row_drop hle]
  simp only
  rw [e1, e2, row_snd, vls_s, gmap_fuel n (n - q) _ (by rw [row_len]; omega) (by rw [row_len]; omega)]
def F_done (w : Int) : List Nat := [44, 45, 46, 47, 48, 49, 50, 62, 64, 65, 66, 67, 70, 73, 75]
def P_M_done (w t _many : Int) (σ : qS) : Prop := lok σ ∧ 0 ≤ w ∧ w < 6
def Q_M_done (w t many : Int) (σ σ' : qS) : Prop := ∃ σ1, Q_M_tell 6 3 w t many 0 σ σ1 ∧ σ' = fgt σ1 w
def pre_M_done (av : List qA) (σ : qS) : Prop := match av with
  | [.inr (.inr o), .inl a1, .inl a2, .inl a3] => o = 900 ∧ P_M_done a1 a2 a3 σ
  | _ => False
def post_M_done (av : List qA) (σ : qS) (r : Option qA) (σ' : qS) : Prop := match av, r with
  | [_, .inl a1, .inl a2, .inl a3], none => Q_M_done a1 a2 a3 σ σ'
  | _, _ => False
def oc_M_done (K : qP) : qP := fun st ls σ => match st with
  | .inl a3 :: .inl a2 :: .inl a1 :: .inr (.inr o) :: st => o = 900 ∧ (st.map qcat).sum ≤ 8 ∧ P_M_done a1 a2 a3 σ ∧ ∀ (σ' : qS), Q_M_done a1 a2 a3 σ σ' → K st ls σ'
  | _ => False
def rm_M_done : Room := { frames := 4, cells := 0, slots := 0, locals := 98 }
theorem sc_M_347 {l : Launch} {R : Room} {ad : Nat → Nat} {D : va_G} {cA : Nat → ClassId} {cc : ByteArray} {nL : Nat} {WW : Nat → qP} (S : qSnd l R ad D cA R_M cc nL WW) (hR : rm_M_forget.frames + 1 ≤ R.frames ∧ 8 + (2 + 11) + rm_M_forget.locals ≤ R.locals) {K : qP} {pc : Nat} (d : decode cc pc = .ok (.invokevirtual 347, 3)) (h : qle K WW (pc + 3)) : qle (oc_M_forget K) WW pc := by
  intro st ls σ k
  refine S.callV (o := 900) (ci := 0) (N := 82) (base := 0) (C := R_M) (T := F_M) (n := 1) (pre := pre_M_forget) (post := post_M_forget) (Or.inl ⟨rfl, rfl, rfl, rfl, rfl, rfl⟩) ⟨lw_at 632 (by decide +kernel) rfl, lw_at 629 (by decide +kernel) rfl, lw_at 59 (by decide +kernel) rfl, by decide, by decide, by decide +kernel⟩ ⟨lw_at 631 (by decide +kernel) rfl, lw_at 26 (by decide +kernel) rfl⟩ ⟨rfl, rfl⟩ hR (c_M_forget l ad D cA) ?_ d h st ls σ ?_
  · intro av σ h; unfold pre_M_forget at h; split at h
    · obtain ⟨rfl, h⟩ := h; exact ⟨_, rfl⟩
    · exact h.elim
  · unfold oc_M_forget at k
    split at k
    next a1 o st =>
      obtain ⟨rfl, hs, hp, k⟩ := k
      refine ⟨[.inr (.inr 900), .inl a1], st, rfl, rfl, hs, ⟨rfl, hp⟩, fun r σ' hq => ?_⟩
      unfold post_M_forget at hq
      split at hq
      next h1 =>
        cases h1
        exact k _ hq
      next => exact hq.elim
    next => exact k.elim
theorem sc_M_341 {l : Launch} {R : Room} {ad : Nat → Nat} {D : va_G} {cA : Nat → ClassId} {cc : ByteArray} {nL : Nat} {WW : Nat → qP} (S : qSnd l R ad D cA R_M cc nL WW) (hR : rm_M_tell.frames + 1 ≤ R.frames ∧ 8 + (7 + 11) + rm_M_tell.locals ≤ R.locals) {K : qP} {pc : Nat} (d : decode cc pc = .ok (.invokevirtual 341, 3)) (h : qle K WW (pc + 3)) : qle (oc_M_tell K) WW pc := by
  intro st ls σ k
  refine S.callV (o := 900) (ci := 0) (N := 82) (base := 0) (C := R_M) (T := F_M) (n := 6) (pre := pre_M_tell) (post := post_M_tell) (Or.inl ⟨rfl, rfl, rfl, rfl, rfl, rfl⟩) ⟨lw_at 604 (by decide +kernel) rfl, lw_at 601 (by decide +kernel) rfl, lw_at 59 (by decide +kernel) rfl, by decide, by decide, by decide +kernel⟩ ⟨lw_at 603 (by decide +kernel) rfl, lw_at 19 (by decide +kernel) rfl⟩ ⟨rfl, rfl⟩ hR (c_M_tell l ad D cA) ?_ d h st ls σ ?_
  · intro av σ h; unfold pre_M_tell at h; split at h
    · obtain ⟨rfl, h⟩ := h; exact ⟨_, rfl⟩
    · exact h.elim
  · unfold oc_M_tell at k
    split at k
    next a6 a5 a4 a3 a2 a1 o st =>
      obtain ⟨rfl, hs, hp, k⟩ := k
      refine ⟨[.inr (.inr 900), .inl a1, .inl a2, .inl a3, .inl a4, .inl a5, .inl a6], st, rfl, rfl, hs, ⟨rfl, hp⟩, fun r σ' hq => ?_⟩
      unfold post_M_tell at hq
      split at hq
      next h1 =>
        cases h1
        exact k _ hq
      next => exact hq.elim
    next => exact k.elim
def k_M_done_0 (QR : Option qA → qS → Prop) (H : Nat → qP) : qP :=
  o_al 0 <| o_c (.inl 6) <| o_c (.inl 3) <| o_il 1 <| o_il 2 <| o_il 3 <| o_c (.inl 0) <| oc_M_tell <| o_al 0 <| o_il 1 <| oc_M_forget <| o_rv QR
set_option maxRecDepth 8000 in
theorem s_M_done_0 {l : Launch} {ad : Nat → Nat} {D : va_G} {cA : Nat → ClassId} {WW : Nat → qP} {QR : Option qA → qS → Prop} (S : qSnd l rm_M_done ad D cA R_M b_M_done 4 WW) (Q : qRet (none) b_M_done WW QR) : qle (k_M_done_0 QR WW) WW 0 :=
  S.aload_n d_M_done_0 rfl <| S.bipush d_M_done_1 (by decide) <| S.iconst d_M_done_3 (by decide) <| S.iload_n d_M_done_4 rfl <| S.iload_n d_M_done_5 rfl <| S.iload_n d_M_done_6 rfl <| S.iconst d_M_done_7 (by decide) <| sc_M_341 S (by decide) d_M_done_8 <| S.aload_n d_M_done_11 rfl <| S.iload_n d_M_done_12 rfl <| sc_M_347 S (by decide) d_M_done_13 <| Q.2.2.2 rfl _ d_M_done_16
theorem w_M_done {l : Launch} {ad : Nat → Nat} {D : va_G} {cA : Nat → ClassId} {WW : Nat → qP} {QR : Option qA → qS → Prop} (S : qSnd l rm_M_done ad D cA R_M b_M_done 4 WW) (Q : qRet (none) b_M_done WW QR) (a1 : Int) (a2 : Int) (a3 : Int) (σ : qS) (ha1 : r32 a1) (ha2 : r32 a2) (ha3 : r32 a3) (hσ : qoS σ) (h : P_M_done a1 a2 a3 σ) (hq : ∀ σ', Q_M_done a1 a2 a3 σ σ' → QR none σ') : WW 0 [] [some (.inr (.inr 900)), some (.inl a1), some (.inl a2), some (.inl a3)] σ := by
  refine s_M_done_0 S Q _ _ _ ?_
  simp only [k_M_done_0, oc_M_forget, oc_M_tell, o_c, o_il, o_ll, o_al, o_is, o_as, o_ls, o_inc, o_bi, o_bid, o_bl, o_bld, o_sl, o_i2l, o_l2i, o_dup, o_dup2, o_pop, o_pop2, o_if, o_i2, o_l2, swg, o_sw, o_gI, o_gZ, o_gJ, o_gA, o_gR, o_pI, o_pZ, o_pJ, o_pR, o_ia, o_iak, o_zak, o_ja, o_jak, o_is_, o_isk, o_zsk, o_js_, o_jsk, o_len, o_ri, o_rz, o_rl, o_rv, ls1, ls2, lks, lkj, List.getD_cons_zero, List.getD_cons_succ, List.set_cons_zero, List.set_cons_succ, qcat, true_and, and_true, List.map_nil, List.map_cons, List.sum_nil, List.sum_cons, Nat.reduceAdd, Nat.reduceLeDiff, Nat.zero_le, Int.reduceAdd, Int.reduceNeg, Int.reduceEq, or_true, true_or, Decidable.not_not, false_implies, not_false_eq_true, true_implies, not_true_eq_false, Int.reduceLT, Int.reduceLE]
  obtain ⟨h1, h2⟩ := h
  exact ⟨h1, fun σ1 q1 => ⟨h2, fun σ2 q2 => hq _ ⟨σ1, q1, q2⟩⟩⟩
theorem c_M_done (l : Launch) (ad : Nat → Nat) (D : va_G) (cA : Nat → ClassId) : qC l ad D cA y_M_done (Cond.code y_M_done b_M_done 4 (none) :: lw_g) rm_M_done pre_M_done post_M_done := by
  refine qC_of (own := R_M) (by decide) rfl ⟨rfl, rfl⟩ ?_ ?_
  · intro av σ h; unfold pre_M_done at h; split at h
    · simp [qen]
    · exact h.elim
  · intro WW QR S Q av σ hav hσ h hq; unfold pre_M_done at h; split at h
    next o a1 a2 a3 =>
      obtain ⟨rfl, h⟩ := h
      exact w_M_done S Q a1 a2 a3 σ (hav _ (List.mem_of_getElem? (i := 1) rfl)) (hav _ (List.mem_of_getElem? (i := 2) rfl)) (hav _ (List.mem_of_getElem? (i := 3) rfl)) hσ h (fun σ' h' => hq _ σ' h')
    next => exact h.elim
def P_M_traps (w : Int) (σ : qS) : Prop := lok σ ∧ 0 ≤ w ∧ w < 6
def Q_M_traps (w : Int) (σ σ' : qS) : Prop := ∃ σ1, Q_M_tell 6 4 (σ 62 w) 0 0 0 σ σ1 ∧ σ' = fgt σ1 w
def pre_M_traps (av : List qA) (σ : qS) : Prop := match av with
  | [.inr (.inr o), .inl a1] => o = 900 ∧ P_M_traps a1 σ
  | _ => False
def post_M_traps (av : List qA) (σ : qS) (r : Option qA) (σ' : qS) : Prop := match av, r with
  | [_, .inl a1], none => Q_M_traps a1 σ σ'
  | _, _ => False
def oc_M_traps (K : qP) : qP := fun st ls σ => match st with
  | .inl a1 :: .inr (.inr o) :: st => o = 900 ∧ (st.map qcat).sum ≤ 8 ∧ P_M_traps a1 σ ∧ ∀ (σ' : qS), Q_M_traps a1 σ σ' → K st ls σ'
  | _ => False
def rm_M_traps : Room := { frames := 4, cells := 0, slots := 0, locals := 98 }
def k_M_traps_0 (QR : Option qA → qS → Prop) (H : Nat → qP) : qP :=
  o_al 0 <| o_c (.inl 6) <| o_c (.inl 4) <| o_al 0 <| o_gA 900 62 <| o_il 1 <| o_iak 62 6 <| o_c (.inl 0) <| o_c (.inl 0) <| o_c (.inl 0) <| oc_M_tell <| o_al 0 <| o_il 1 <| oc_M_forget <| o_rv QR
set_option maxRecDepth 8000 in
theorem s_M_traps_0 {l : Launch} {ad : Nat → Nat} {D : va_G} {cA : Nat → ClassId} {WW : Nat → qP} {QR : Option qA → qS → Prop} (S : qSnd l rm_M_traps ad D cA R_M b_M_traps 2 WW) (Q : qRet (none) b_M_traps WW QR) : qle (k_M_traps_0 QR WW) WW 0 :=
  S.aload_n d_M_traps_0 rfl <| S.bipush d_M_traps_1 (by decide) <| S.iconst d_M_traps_3 (by decide) <| S.aload_n d_M_traps_4 rfl <| S.gA fl_M_138 (by decide) d_M_traps_5 <| S.iload_n d_M_traps_8 rfl <| S.iak (by decide) d_M_traps_9 <| S.iconst d_M_traps_10 (by decide) <| S.iconst d_M_traps_11 (by decide) <| S.iconst d_M_traps_12 (by decide) <| sc_M_341 S (by decide) d_M_traps_13 <| S.aload_n d_M_traps_16 rfl <| S.iload_n d_M_traps_17 rfl <| sc_M_347 S (by decide) d_M_traps_18 <| Q.2.2.2 rfl _ d_M_traps_21
theorem w_M_traps {l : Launch} {ad : Nat → Nat} {D : va_G} {cA : Nat → ClassId} {WW : Nat → qP} {QR : Option qA → qS → Prop} (S : qSnd l rm_M_traps ad D cA R_M b_M_traps 2 WW) (Q : qRet (none) b_M_traps WW QR) (a1 : Int) (σ : qS) (ha1 : r32 a1) (hσ : qoS σ) (h : P_M_traps a1 σ) (hq : ∀ σ', Q_M_traps a1 σ σ' → QR none σ') : WW 0 [] [some (.inr (.inr 900)), some (.inl a1)] σ := by
  refine s_M_traps_0 S Q _ _ _ ?_
  simp only [k_M_traps_0, oc_M_forget, oc_M_tell, o_c, o_il, o_ll, o_al, o_is, o_as, o_ls, o_inc, o_bi, o_bid, o_bl, o_bld, o_sl, o_i2l, o_l2i, o_dup, o_dup2, o_pop, o_pop2, o_if, o_i2, o_l2, swg, o_sw, o_gI, o_gZ, o_gJ, o_gA, o_gR, o_pI, o_pZ, o_pJ, o_pR, o_ia, o_iak, o_zak, o_ja, o_jak, o_is_, o_isk, o_zsk, o_js_, o_jsk, o_len, o_ri, o_rz, o_rl, o_rv, ls1, ls2, lks, lkj, List.getD_cons_zero, List.getD_cons_succ, List.set_cons_zero, List.set_cons_succ, qcat, true_and, and_true, List.map_nil, List.map_cons, List.sum_nil, List.sum_cons, Nat.reduceAdd, Nat.reduceLeDiff, Nat.zero_le, Int.reduceAdd, Int.reduceNeg, Int.reduceEq, or_true, true_or, Decidable.not_not, false_implies, not_false_eq_true, true_implies, not_true_eq_false, Int.reduceLT, Int.reduceLE]
  obtain ⟨h1, h2⟩ := h
  exact ⟨h2, h1, fun σ1 q1 => ⟨h2, fun σ2 q2 => hq _ ⟨σ1, q1, q2⟩⟩⟩
theorem c_M_traps (l : Launch) (ad : Nat → Nat) (D : va_G) (cA : Nat → ClassId) : qC l ad D cA y_M_traps (Cond.code y_M_traps b_M_traps 2 (none) :: lw_g) rm_M_traps pre_M_traps post_M_traps := by
  refine qC_of (own := R_M) (by decide) rfl ⟨rfl, rfl⟩ ?_ ?_
  · intro av σ h; unfold pre_M_traps at h; split at h
    · simp [qen]
    · exact h.elim
  · intro WW QR S Q av σ hav hσ h hq; unfold pre_M_traps at h; split at h
    next o a1 =>
      obtain ⟨rfl, h⟩ := h
      exact w_M_traps S Q a1 σ (hav _ (List.mem_of_getElem? (i := 1) rfl)) hσ h (fun σ' h' => hq _ σ' h')
    next => exact h.elim
def P_M_asks (w : Int) (σ : qS) : Prop := lok σ ∧ (0 ≤ w ∧ w < 6) ∧ 0 ≤ σ 65 w ∧ σ 65 w ≤ 5
def Q_M_asks (w : Int) (σ σ' : qS) : Prop := ∃ σ1, (σ 65 w = 0 ∧ Q_M_tell 6 1 w 0 0 0 σ σ1 ∨ σ 65 w ≠ 0 ∧ σ1 = σ) ∧ σ' = su σ1 65 w (if σ 65 w = 5 then 0 else σ 65 w + 1)
def pre_M_asks (av : List qA) (σ : qS) : Prop := match av with
  | [.inr (.inr o), .inl a1] => o = 900 ∧ P_M_asks a1 σ
  | _ => False
def post_M_asks (av : List qA) (σ : qS) (r : Option qA) (σ' : qS) : Prop := match av, r with
  | [_, .inl a1], none => Q_M_asks a1 σ σ'
  | _, _ => False
def oc_M_asks (K : qP) : qP := fun st ls σ => match st with
  | .inl a1 :: .inr (.inr o) :: st => o = 900 ∧ (st.map qcat).sum ≤ 8 ∧ P_M_asks a1 σ ∧ ∀ (σ' : qS), Q_M_asks a1 σ σ' → K st ls σ'
  | _ => False
def rm_M_asks : Room := { frames := 4, cells := 0, slots := 0, locals := 98 }
def k_M_asks_47 (QR : Option qA → qS → Prop) (H : Nat → qP) : qP :=
  o_isk 65 6 <| o_rv QR
def k_M_asks_39 (QR : Option qA → qS → Prop) (H : Nat → qP) : qP :=
  o_al 0 <| o_gA 900 65 <| o_il 1 <| o_iak 65 6 <| o_c (.inl 1) <| o_bi z_add <| k_M_asks_47 QR H
def k_M_asks_35 (QR : Option qA → qS → Prop) (H : Nat → qP) : qP :=
  o_c (.inl 0) <| k_M_asks_47 QR H
def k_M_asks_20 (QR : Option qA → qS → Prop) (H : Nat → qP) : qP :=
  o_al 0 <| o_gA 900 65 <| o_il 1 <| o_al 0 <| o_gA 900 65 <| o_il 1 <| o_iak 65 6 <| o_c (.inl 5) <| o_i2 (fun a b => ¬ a = b) (k_M_asks_39 QR H) (k_M_asks_35 QR H)
def k_M_asks_9 (QR : Option qA → qS → Prop) (H : Nat → qP) : qP :=
  o_al 0 <| o_c (.inl 6) <| o_c (.inl 1) <| o_il 1 <| o_c (.inl 0) <| o_c (.inl 0) <| o_c (.inl 0) <| oc_M_tell <| k_M_asks_20 QR H
def k_M_asks_0 (QR : Option qA → qS → Prop) (H : Nat → qP) : qP :=
  o_al 0 <| o_gA 900 65 <| o_il 1 <| o_iak 65 6 <| o_if (fun a => ¬ a = 0) (k_M_asks_20 QR H) (k_M_asks_9 QR H)
set_option maxRecDepth 8000 in
theorem s_M_asks_47 {l : Launch} {ad : Nat → Nat} {D : va_G} {cA : Nat → ClassId} {WW : Nat → qP} {QR : Option qA → qS → Prop} (S : qSnd l rm_M_asks ad D cA R_M b_M_asks 2 WW) (Q : qRet (none) b_M_asks WW QR) : qle (k_M_asks_47 QR WW) WW 47 :=
  S.isk (by decide) d_M_asks_47 <| Q.2.2.2 rfl _ d_M_asks_48
set_option maxRecDepth 8000 in
theorem s_M_asks_39 {l : Launch} {ad : Nat → Nat} {D : va_G} {cA : Nat → ClassId} {WW : Nat → qP} {QR : Option qA → qS → Prop} (S : qSnd l rm_M_asks ad D cA R_M b_M_asks 2 WW) (Q : qRet (none) b_M_asks WW QR) : qle (k_M_asks_39 QR WW) WW 39 :=
  S.aload_n d_M_asks_39 rfl <| S.gA fl_M_147 (by decide) d_M_asks_40 <| S.iload_n d_M_asks_43 rfl <| S.iak (by decide) d_M_asks_44 <| S.iconst d_M_asks_45 (by decide) <| S.iadd d_M_asks_46 <| (s_M_asks_47 S Q)
set_option maxRecDepth 8000 in
theorem s_M_asks_35 {l : Launch} {ad : Nat → Nat} {D : va_G} {cA : Nat → ClassId} {WW : Nat → qP} {QR : Option qA → qS → Prop} (S : qSnd l rm_M_asks ad D cA R_M b_M_asks 2 WW) (Q : qRet (none) b_M_asks WW QR) : qle (k_M_asks_35 QR WW) WW 35 :=
  S.iconst d_M_asks_35 (by decide) <| S.goto d_M_asks_36 (by decide) (s_M_asks_47 S Q)
set_option maxRecDepth 8000 in
theorem s_M_asks_20 {l : Launch} {ad : Nat → Nat} {D : va_G} {cA : Nat → ClassId} {WW : Nat → qP} {QR : Option qA → qS → Prop} (S : qSnd l rm_M_asks ad D cA R_M b_M_asks 2 WW) (Q : qRet (none) b_M_asks WW QR) : qle (k_M_asks_20 QR WW) WW 20 :=
  S.aload_n d_M_asks_20 rfl <| S.gA fl_M_147 (by decide) d_M_asks_21 <| S.iload_n d_M_asks_24 rfl <| S.aload_n d_M_asks_25 rfl <| S.gA fl_M_147 (by decide) d_M_asks_26 <| S.iload_n d_M_asks_29 rfl <| S.iak (by decide) d_M_asks_30 <| S.iconst d_M_asks_31 (by decide) <| S.icmp_ne d_M_asks_32 (by decide) (s_M_asks_39 S Q) (s_M_asks_35 S Q)
set_option maxRecDepth 8000 in
theorem s_M_asks_9 {l : Launch} {ad : Nat → Nat} {D : va_G} {cA : Nat → ClassId} {WW : Nat → qP} {QR : Option qA → qS → Prop} (S : qSnd l rm_M_asks ad D cA R_M b_M_asks 2 WW) (Q : qRet (none) b_M_asks WW QR) : qle (k_M_asks_9 QR WW) WW 9 :=
  S.aload_n d_M_asks_9 rfl <| S.bipush d_M_asks_10 (by decide) <| S.iconst d_M_asks_12 (by decide) <| S.iload_n d_M_asks_13 rfl <| S.iconst d_M_asks_14 (by decide) <| S.iconst d_M_asks_15 (by decide) <| S.iconst d_M_asks_16 (by decide) <| sc_M_341 S (by decide) d_M_asks_17 <| (s_M_asks_20 S Q)
set_option maxRecDepth 8000 in
theorem s_M_asks_0 {l : Launch} {ad : Nat → Nat} {D : va_G} {cA : Nat → ClassId} {WW : Nat → qP} {QR : Option qA → qS → Prop} (S : qSnd l rm_M_asks ad D cA R_M b_M_asks 2 WW) (Q : qRet (none) b_M_asks WW QR) : qle (k_M_asks_0 QR WW) WW 0 :=
  S.aload_n d_M_asks_0 rfl <| S.gA fl_M_147 (by decide) d_M_asks_1 <| S.iload_n d_M_asks_4 rfl <| S.iak (by decide) d_M_asks_5 <| S.if_ne d_M_asks_6 (by decide) (s_M_asks_20 S Q) (s_M_asks_9 S Q)
theorem w_M_asks {l : Launch} {ad : Nat → Nat} {D : va_G} {cA : Nat → ClassId} {WW : Nat → qP} {QR : Option qA → qS → Prop} (S : qSnd l rm_M_asks ad D cA R_M b_M_asks 2 WW) (Q : qRet (none) b_M_asks WW QR) (a1 : Int) (σ : qS) (ha1 : r32 a1) (hσ : qoS σ) (h : P_M_asks a1 σ) (hq : ∀ σ', Q_M_asks a1 σ σ' → QR none σ') : WW 0 [] [some (.inr (.inr 900)), some (.inl a1)] σ := by
  refine s_M_asks_0 S Q _ _ _ ?_
  simp only [k_M_asks_0, k_M_asks_9, k_M_asks_20, k_M_asks_35, k_M_asks_39, k_M_asks_47, oc_M_tell, o_c, o_il, o_ll, o_al, o_is, o_as, o_ls, o_inc, o_bi, o_bid, o_bl, o_bld, o_sl, o_i2l, o_l2i, o_dup, o_dup2, o_pop, o_pop2, o_if, o_i2, o_l2, swg, o_sw, o_gI, o_gZ, o_gJ, o_gA, o_gR, o_pI, o_pZ, o_pJ, o_pR, o_ia, o_iak, o_zak, o_ja, o_jak, o_is_, o_isk, o_zsk, o_js_, o_jsk, o_len, o_ri, o_rz, o_rl, o_rv, ls1, ls2, lks, lkj, List.getD_cons_zero, List.getD_cons_succ, List.set_cons_zero, List.set_cons_succ, qcat, true_and, and_true, List.map_nil, List.map_cons, List.sum_nil, List.sum_cons, Nat.reduceAdd, Nat.reduceLeDiff, Nat.zero_le, Int.reduceAdd, Int.reduceNeg, Int.reduceEq, or_true, true_or, Decidable.not_not, false_implies, not_false_eq_true, true_implies, not_true_eq_false, Int.reduceLT, Int.reduceLE]
  obtain ⟨h1, h2, h3⟩ := h
  have e1 : z_add (σ 65 a1) 1 = σ 65 a1 + 1 := by unfold z_add; exact w32_i _ (by omega) (by omega)
  refine ⟨h2, fun e => ?_, fun e => ⟨h1, fun σ1 q1 => ?_⟩⟩
  · rw [e1]
    refine ⟨h2, fun n5 => ⟨h2, h2, hq _ ⟨σ, Or.inr ⟨e, rfl⟩, by rw [if_neg n5]⟩⟩, fun e5 => ⟨h2, hq _ ⟨σ, Or.inr ⟨e, rfl⟩, by rw [if_pos e5]⟩⟩⟩
  · have ea : σ1 65 = σ 65 := q1.1 _ (by decide)
    rw [ea, e1]
    exact ⟨h2, fun n5 => ⟨h2, h2, hq _ ⟨σ1, Or.inl ⟨e, q1⟩, by rw [if_neg n5]⟩⟩, fun e5 => ⟨h2, hq _ ⟨σ1, Or.inl ⟨e, q1⟩, by rw [if_pos e5]⟩⟩⟩
theorem c_M_asks (l : Launch) (ad : Nat → Nat) (D : va_G) (cA : Nat → ClassId) : qC l ad D cA y_M_asks (Cond.code y_M_asks b_M_asks 2 (none) :: lw_g) rm_M_asks pre_M_asks post_M_asks := by
  refine qC_of (own := R_M) (by decide) rfl ⟨rfl, rfl⟩ ?_ ?_
  · intro av σ h; unfold pre_M_asks at h; split at h
    · simp [qen]
    · exact h.elim
  · intro WW QR S Q av σ hav hσ h hq; unfold pre_M_asks at h; split at h
    next o a1 =>
      obtain ⟨rfl, h⟩ := h
      exact w_M_asks S Q a1 σ (hav _ (List.mem_of_getElem? (i := 1) rfl)) hσ h (fun σ' h' => hq _ σ' h')
    next => exact h.elim

