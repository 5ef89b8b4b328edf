def ra (σ : qS) (k : Nat) (lo hi : Int) (f : Int → Int) : qS := fun k' i => if k' = k ∧ lo ≤ i ∧ i < hi then f i else σ k' i
theorem ra_k {σ : qS} {k k' : Nat} {lo hi : Int} {f : Int → Int} (h : k' ≠ k) : ra σ k lo hi f k' = σ k' := by funext i; simp [ra, h]
theorem ra_0 {σ : qS} {k : Nat} {lo hi : Int} {f : Int → Int} (h : hi ≤ lo) : ra σ k lo hi f = σ := by funext k' i; unfold ra; rw [if_neg (by omega)]
theorem ra_e {σ : qS} {k : Nat} {lo hi : Int} {f : Int → Int} {i : Int} : ra σ k lo hi f k i = if lo ≤ i ∧ i < hi then f i else σ k i := by simp [ra]
theorem ra_s {σ : qS} {k : Nat} {lo j v : Int} {f : Int → Int} (h : lo ≤ j) (hv : v = f j) : su (ra σ k lo j f) k j v = ra σ k lo (j + 1) f := by
  funext k' i
  unfold su ra
  by_cases e : k' = k
  · subst e
    by_cases ei : i = j
    · subst ei; rw [if_pos ⟨rfl, rfl⟩, if_pos ⟨rfl, h, by omega⟩, hv]
    · rw [if_neg (fun q => ei q.2)]
      by_cases hb : lo ≤ i ∧ i < j
      · rw [if_pos ⟨rfl, hb⟩, if_pos ⟨rfl, hb.1, by omega⟩]
      · rw [if_neg (fun q => hb q.2), if_neg (fun q => hb ⟨q.2.1, by omega⟩)]
  · rw [if_neg (fun q => e q.1), if_neg (fun q => e q.1), if_neg (fun q => e q.1)]
def jb (σ : qS) : Int := σ 29 (σ 32 0)
def rc (σ : qS) (f : Int) : Int := if f = -1 then 0 else σ 2 f
def all_ (σ : qS) : Int := rc σ (σ 10 (jb σ)) + rc σ (σ 11 (jb σ))
def spl (σ : qS) : Int := (all_ σ + 15) / 16
def jobok (σ : qS) : Prop := (0 ≤ σ 32 0 ∧ σ 32 0 < 8) ∧ (0 ≤ jb σ ∧ jb σ < 8) ∧ (0 ≤ σ 10 (jb σ) ∧ σ 10 (jb σ) < 16) ∧ (-1 ≤ σ 11 (jb σ) ∧ σ 11 (jb σ) < 16) ∧ (0 ≤ σ 12 (jb σ) ∧ σ 12 (jb σ) < 16) ∧ (1 ≤ σ 13 (jb σ) ∧ σ 13 (jb σ) ≤ 6) ∧ ∀ f, 0 ≤ f → f < 16 → 0 ≤ σ 2 f ∧ σ 2 f ≤ 300
theorem rc_b {σ : qS} (h : ∀ f, 0 ≤ f → f < 16 → 0 ≤ σ 2 f ∧ σ 2 f ≤ 300) {f : Int} (h1 : -1 ≤ f) (h2 : f < 16) : 0 ≤ rc σ f ∧ rc σ f ≤ 300 := by
  unfold rc; split
  · omega
  · exact h f (by omega) h2
theorem all_b {σ : qS} (h : jobok σ) : 0 ≤ all_ σ ∧ all_ σ ≤ 600 := by
  obtain ⟨-, -, h1, h2, -, -, h3⟩ := h
  have := rc_b h3 (f := σ 10 (jb σ)) (by omega) h1.2
  have := rc_b h3 (f := σ 11 (jb σ)) h2.1 h2.2
  unfold all_; omega
theorem spl_b {σ : qS} (h : jobok σ) : 0 ≤ spl σ ∧ spl σ ≤ 38 := by
  have := all_b h
  unfold spl; omega
def P_M_job (σ : qS) : Prop := 0 ≤ σ 32 0 ∧ σ 32 0 < 8
def Q_M_job (σ : qS) (r : Int) (σ' : qS) : Prop := σ' = σ ∧ r = jb σ
def pre_M_job (av : List qA) (σ : qS) : Prop := match av with
  | [.inr (.inr o)] => o = 900 ∧ P_M_job  σ
  | _ => False
def post_M_job (av : List qA) (σ : qS) (r : Option qA) (σ' : qS) : Prop := match av, r with
  | [_], some (.inl r) => Q_M_job  σ r σ'
  | _, _ => False
def oc_M_job (K : qP) : qP := fun st ls σ => match st with
  | .inr (.inr o) :: st => o = 900 ∧ (st.map qcat).sum ≤ 8 ∧ P_M_job  σ ∧ ∀ (r : Int) (σ' : qS), Q_M_job  σ r σ' → K (.inl r :: st) ls σ'
  | _ => False
def rm_M_job : Room := { frames := 0, cells := 0, slots := 0, locals := 0 }
theorem fl_M_63 : qF R_M 900 0 82 0 R_M F_M 63 29 := ⟨Or.inl ⟨rfl, rfl, rfl, rfl, rfl, rfl⟩, by decide, lw_at 107 (by decide +kernel) rfl⟩
theorem fl_M_253 : qF R_M 900 0 82 0 R_M F_M 253 32 := ⟨Or.inl ⟨rfl, rfl, rfl, rfl, rfl, rfl⟩, by decide, lw_at 110 (by decide +kernel) rfl⟩
def k_M_job_0 (QR : Option qA → qS → Prop) (H : Nat → qP) : qP :=
  o_al 0 <| o_gA 900 29 <| o_al 0 <| o_gI 900 32 <| o_iak 29 8 <| o_ri QR
set_option maxRecDepth 8000 in
theorem s_M_job_0 {l : Launch} {ad : Nat → Nat} {D : va_G} {cA : Nat → ClassId} {WW : Nat → qP} {QR : Option qA → qS → Prop} (S : qSnd l rm_M_job ad D cA R_M b_M_job 1 WW) (Q : qRet (some .int) b_M_job WW QR) : qle (k_M_job_0 QR WW) WW 0 :=
  S.aload_n d_M_job_0 rfl <| S.gA fl_M_63 (by decide) d_M_job_1 <| S.aload_n d_M_job_4 rfl <| S.gI fl_M_253 (by decide) d_M_job_5 <| S.iak (by decide) d_M_job_8 <| Q.1 rfl _ d_M_job_9
theorem w_M_job {l : Launch} {ad : Nat → Nat} {D : va_G} {cA : Nat → ClassId} {WW : Nat → qP} {QR : Option qA → qS → Prop} (S : qSnd l rm_M_job ad D cA R_M b_M_job 1 WW) (Q : qRet (some .int) b_M_job WW QR)  (σ : qS)  (hσ : qoS σ) (h : P_M_job  σ) (hq : ∀ (r : Int) σ', Q_M_job  σ r σ' → QR (some (.inl r)) σ') : WW 0 [] [some (.inr (.inr 900))] σ := by
  refine s_M_job_0 S Q _ _ _ ?_
  simp only [k_M_job_0, o_c, o_il, o_ll, o_al, o_is, o_as, o_ls, o_inc, o_bi, o_bid, o_bl, o_bld, o_sl, o_i2l, o_l2i, o_dup, o_dup2, o_pop, o_pop2, o_if, o_i2, o_l2, swg, o_sw, o_gI, o_gZ, o_gJ, o_gA, o_gR, o_pI, o_pZ, o_pJ, o_pR, o_ia, o_iak, o_zak, o_ja, o_jak, o_is_, o_isk, o_zsk, o_js_, o_jsk, o_len, o_ri, o_rz, o_rl, o_rv, ls1, ls2, lks, lkj, List.getD_cons_zero, List.getD_cons_succ, List.set_cons_zero, List.set_cons_succ, qcat, true_and, and_true, List.map_nil, List.map_cons, List.sum_nil, List.sum_cons, Nat.reduceAdd, Nat.reduceLeDiff, Nat.zero_le, Int.reduceAdd, Int.reduceNeg, Int.reduceEq, or_true, true_or, Decidable.not_not]
  exact ⟨h, hq _ _ ⟨rfl, rfl⟩⟩
theorem c_M_job (l : Launch) (ad : Nat → Nat) (D : va_G) (cA : Nat → ClassId) : qC l ad D cA y_M_job (Cond.code y_M_job b_M_job 1 (some .int) :: lw_g) rm_M_job pre_M_job post_M_job := by
  refine qC_of (own := R_M) (by decide) rfl ⟨rfl, rfl⟩ ?_ ?_
  · intro av σ h; unfold pre_M_job at h; split at h
    · simp [qen]
    · exact h.elim
  · intro WW QR S Q av σ hav hσ h hq; unfold pre_M_job at h; split at h
    next o =>
      obtain ⟨rfl, h⟩ := h
      exact w_M_job S Q  σ  hσ h (fun r σ' h' => hq _ σ' h')
    next => exact h.elim
def P_M_records (f : Int) (_σ : qS) : Prop := -1 ≤ f ∧ f < 16
def Q_M_records (f : Int) (σ : qS) (r : Int) (σ' : qS) : Prop := σ' = σ ∧ r = rc σ f
def pre_M_records (av : List qA) (σ : qS) : Prop := match av with
  | [.inr (.inr o), .inl a1] => o = 900 ∧ P_M_records a1 σ
  | _ => False
def post_M_records (av : List qA) (σ : qS) (r : Option qA) (σ' : qS) : Prop := match av, r with
  | [_, .inl a1], some (.inl r) => Q_M_records a1 σ r σ'
  | _, _ => False
def oc_M_records (K : qP) : qP := fun st ls σ => match st with
  | .inl a1 :: .inr (.inr o) :: st => o = 900 ∧ (st.map qcat).sum ≤ 8 ∧ P_M_records a1 σ ∧ ∀ (r : Int) (σ' : qS), Q_M_records a1 σ r σ' → K (.inl r :: st) ls σ'
  | _ => False
def rm_M_records : Room := { frames := 0, cells := 0, slots := 0, locals := 0 }
theorem fl_M_16 : qF R_M 900 0 82 0 R_M F_M 16 2 := ⟨Or.inl ⟨rfl, rfl, rfl, rfl, rfl, rfl⟩, by decide, lw_at 80 (by decide +kernel) rfl⟩
def k_M_records_15 (QR : Option qA → qS → Prop) (H : Nat → qP) : qP :=
  o_ri QR
def k_M_records_9 (QR : Option qA → qS → Prop) (H : Nat → qP) : qP :=
  o_al 0 <| o_gA 900 2 <| o_il 1 <| o_iak 2 16 <| k_M_records_15 QR H
def k_M_records_5 (QR : Option qA → qS → Prop) (H : Nat → qP) : qP :=
  o_c (.inl 0) <| k_M_records_15 QR H
def k_M_records_0 (QR : Option qA → qS → Prop) (H : Nat → qP) : qP :=
  o_il 1 <| o_c (.inl (-1)) <| o_i2 (fun a b => ¬ a = b) (k_M_records_9 QR H) (k_M_records_5 QR H)
set_option maxRecDepth 8000 in
theorem s_M_records_15 {l : Launch} {ad : Nat → Nat} {D : va_G} {cA : Nat → ClassId} {WW : Nat → qP} {QR : Option qA → qS → Prop} (S : qSnd l rm_M_records ad D cA R_M b_M_records 2 WW) (Q : qRet (some .int) b_M_records WW QR) : qle (k_M_records_15 QR WW) WW 15 :=
  Q.1 rfl _ d_M_records_15
set_option maxRecDepth 8000 in
theorem s_M_records_9 {l : Launch} {ad : Nat → Nat} {D : va_G} {cA : Nat → ClassId} {WW : Nat → qP} {QR : Option qA → qS → Prop} (S : qSnd l rm_M_records ad D cA R_M b_M_records 2 WW) (Q : qRet (some .int) b_M_records WW QR) : qle (k_M_records_9 QR WW) WW 9 :=
  S.aload_n d_M_records_9 rfl <| S.gA fl_M_16 (by decide) d_M_records_10 <| S.iload_n d_M_records_13 rfl <| S.iak (by decide) d_M_records_14 <| (s_M_records_15 S Q)
set_option maxRecDepth 8000 in
theorem s_M_records_5 {l : Launch} {ad : Nat → Nat} {D : va_G} {cA : Nat → ClassId} {WW : Nat → qP} {QR : Option qA → qS → Prop} (S : qSnd l rm_M_records ad D cA R_M b_M_records 2 WW) (Q : qRet (some .int) b_M_records WW QR) : qle (k_M_records_5 QR WW) WW 5 :=
  S.iconst d_M_records_5 (by decide) <| S.goto d_M_records_6 (by decide) (s_M_records_15 S Q)
set_option maxRecDepth 8000 in
theorem s_M_records_0 {l : Launch} {ad : Nat → Nat} {D : va_G} {cA : Nat → ClassId} {WW : Nat → qP} {QR : Option qA → qS → Prop} (S : qSnd l rm_M_records ad D cA R_M b_M_records 2 WW) (Q : qRet (some .int) b_M_records WW QR) : qle (k_M_records_0 QR WW) WW 0 :=
  S.iload_n d_M_records_0 rfl <| S.iconst d_M_records_1 (by decide) <| S.icmp_ne d_M_records_2 (by decide) (s_M_records_9 S Q) (s_M_records_5 S Q)
theorem w_M_records {l : Launch} {ad : Nat → Nat} {D : va_G} {cA : Nat → ClassId} {WW : Nat → qP} {QR : Option qA → qS → Prop} (S : qSnd l rm_M_records ad D cA R_M b_M_records 2 WW) (Q : qRet (some .int) b_M_records WW QR) (a1 : Int) (σ : qS) (ha1 : r32 a1) (hσ : qoS σ) (h : P_M_records a1 σ) (hq : ∀ (r : Int) σ', Q_M_records a1 σ r σ' → QR (some (.inl r)) σ') : WW 0 [] [some (.inr (.inr 900)), some (.inl a1)] σ := by
  refine s_M_records_0 S Q _ _ _ ?_
  simp only [k_M_records_0, k_M_records_5, k_M_records_9, k_M_records_15, o_c, o_il, o_ll, o_al, o_is, o_as, o_ls, o_inc, o_bi, o_bid, o_bl, o_bld, o_sl, o_i2l, o_l2i, o_dup, o_dup2, o_pop, o_pop2, o_if, o_i2, o_l2, swg, o_sw, o_gI, o_gZ, o_gJ, o_gA, o_gR, o_pI, o_pZ, o_pJ, o_pR, o_ia, o_iak, o_zak, o_ja, o_jak, o_is_, o_isk, o_zsk, o_js_, o_jsk, o_len, o_ri, o_rz, o_rl, o_rv, ls1, ls2, lks, lkj, List.getD_cons_zero, List.getD_cons_succ, List.set_cons_zero, List.set_cons_succ, qcat, true_and, and_true, List.map_nil, List.map_cons, List.sum_nil, List.sum_cons, Nat.reduceAdd, Nat.reduceLeDiff, Nat.zero_le, Int.reduceAdd, Int.reduceNeg, Int.reduceEq, or_true, true_or, Decidable.not_not]
  obtain ⟨h1, h2⟩ := h
  refine ⟨fun e => ⟨⟨by omega, by omega⟩, hq _ _ ⟨rfl, ?_⟩⟩, fun e => hq _ _ ⟨rfl, ?_⟩⟩
  · unfold rc; rw [if_neg e]
  · unfold rc; rw [if_pos e]
theorem c_M_records (l : Launch) (ad : Nat → Nat) (D : va_G) (cA : Nat → ClassId) : qC l ad D cA y_M_records (Cond.code y_M_records b_M_records 2 (some .int) :: lw_g) rm_M_records pre_M_records post_M_records := by
  refine qC_of (own := R_M) (by decide) rfl ⟨rfl, rfl⟩ ?_ ?_
  · intro av σ h; unfold pre_M_records at h; split at h
    · simp [qen]
    · exact h.elim
  · intro WW QR S Q av σ hav hσ h hq; unfold pre_M_records at h; split at h
    next o a1 =>
      obtain ⟨rfl, h⟩ := h
      exact w_M_records S Q a1 σ (hav _ (List.mem_of_getElem? (i := 1) rfl)) hσ h (fun r σ' h' => hq _ σ' h')
    next => exact h.elim
def P_M_splits (σ : qS) : Prop := jobok σ
def Q_M_splits (σ : qS) (r : Int) (σ' : qS) : Prop := σ' = σ ∧ r = spl σ
def pre_M_splits (av : List qA) (σ : qS) : Prop := match av with
  | [.inr (.inr o)] => o = 900 ∧ P_M_splits  σ
  | _ => False
def post_M_splits (av : List qA) (σ : qS) (r : Option qA) (σ' : qS) : Prop := match av, r with
  | [_], some (.inl r) => Q_M_splits  σ r σ'
  | _, _ => False
def oc_M_splits (K : qP) : qP := fun st ls σ => match st with
  | .inr (.inr o) :: st => o = 900 ∧ (st.map qcat).sum ≤ 8 ∧ P_M_splits  σ ∧ ∀ (r : Int) (σ' : qS), Q_M_splits  σ r σ' → K (.inl r :: st) ls σ'
  | _ => False
def rm_M_splits : Room := { frames := 1, cells := 0, slots := 0, locals := 21 }
theorem fl_M_39 : qF R_M 900 0 82 0 R_M F_M 39 10 := ⟨Or.inl ⟨rfl, rfl, rfl, rfl, rfl, rfl⟩, by decide, lw_at 88 (by decide +kernel) rfl⟩
theorem fl_M_42 : qF R_M 900 0 82 0 R_M F_M 42 11 := ⟨Or.inl ⟨rfl, rfl, rfl, rfl, rfl, rfl⟩, by decide, lw_at 89 (by decide +kernel) rfl⟩
theorem sc_M_256 {l : Launch} {R : Room} {ad : Nat → Nat} {D : va_G} {cA : Nat → ClassId} {cc : ByteArray} {nL : Nat} {WW : Nat → qP} (S : qSnd l R ad D cA R_M cc nL WW) (hR : rm_M_job.frames + 1 ≤ R.frames ∧ 8 + (1 + 11) + rm_M_job.locals ≤ R.locals) {K : qP} {pc : Nat} (d : decode cc pc = .ok (.invokevirtual 256, 3)) (h : qle K WW (pc + 3)) : qle (oc_M_job K) WW pc := by
  intro st ls σ k
  refine S.callV (o := 900) (ci := 0) (N := 82) (base := 0) (C := R_M) (T := F_M) (n := 0) (pre := pre_M_job) (post := post_M_job) (Or.inl ⟨rfl, rfl, rfl, rfl, rfl, rfl⟩) ⟨lw_at 339 (by decide +kernel) rfl, lw_at 336 (by decide +kernel) rfl, lw_at 59 (by decide +kernel) rfl, by decide, by decide, by decide +kernel⟩ ⟨lw_at 338 (by decide +kernel) rfl, lw_at 1 (by decide +kernel) rfl⟩ ⟨rfl, rfl⟩ hR (c_M_job l ad D cA) ?_ d h st ls σ ?_
  · intro av σ h; unfold pre_M_job at h; split at h
    · obtain ⟨rfl, h⟩ := h; exact ⟨_, rfl⟩
    · exact h.elim
  · unfold oc_M_job at k
    split at k
    next o st =>
      obtain ⟨rfl, hs, hp, k⟩ := k
      refine ⟨[.inr (.inr 900)], st, rfl, rfl, hs, ⟨rfl, hp⟩, fun r σ' hq => ?_⟩
      unfold post_M_job at hq
      split at hq
      next h1 =>
        cases h1
        exact k _ _ hq
      next => exact hq.elim
    next => exact k.elim
theorem sc_M_260 {l : Launch} {R : Room} {ad : Nat → Nat} {D : va_G} {cA : Nat → ClassId} {cc : ByteArray} {nL : Nat} {WW : Nat → qP} (S : qSnd l R ad D cA R_M cc nL WW) (hR : rm_M_records.frames + 1 ≤ R.frames ∧ 8 + (2 + 11) + rm_M_records.locals ≤ R.locals) {K : qP} {pc : Nat} (d : decode cc pc = .ok (.invokevirtual 260, 3)) (h : qle K WW (pc + 3)) : qle (oc_M_records K) WW pc := by
  intro st ls σ k
  refine S.callV (o := 900) (ci := 0) (N := 82) (base := 0) (C := R_M) (T := F_M) (n := 1) (pre := pre_M_records) (post := post_M_records) (Or.inl ⟨rfl, rfl, rfl, rfl, rfl, rfl⟩) ⟨lw_at 343 (by decide +kernel) rfl, lw_at 340 (by decide +kernel) rfl, lw_at 59 (by decide +kernel) rfl, by decide, by decide, by decide +kernel⟩ ⟨lw_at 342 (by decide +kernel) rfl, lw_at 2 (by decide +kernel) rfl⟩ ⟨rfl, rfl⟩ hR (c_M_records l ad D cA) ?_ d h st ls σ ?_
  · intro av σ h; unfold pre_M_records at h; split at h
    · obtain ⟨rfl, h⟩ := h; exact ⟨_, rfl⟩
    · exact h.elim
  · unfold oc_M_records at k
    split at k
    next a1 o st =>
      obtain ⟨rfl, hs, hp, k⟩ := k
      refine ⟨[.inr (.inr 900), .inl a1], st, rfl, rfl, hs, ⟨rfl, hp⟩, fun r σ' hq => ?_⟩
      unfold post_M_records at hq
      split at hq
      next h1 =>
        cases h1
        exact k _ _ hq
      next => exact hq.elim
    next => exact k.elim
def k_M_splits_0 (QR : Option qA → qS → Prop) (H : Nat → qP) : qP :=
  o_al 0 <| o_al 0 <| o_gA 900 10 <| o_al 0 <| oc_M_job <| o_iak 10 8 <| oc_M_records <| o_al 0 <| o_al 0 <| o_gA 900 11 <| o_al 0 <| oc_M_job <| o_iak 11 8 <| oc_M_records <| o_bi z_add <| o_c (.inl 16) <| o_bi z_add <| o_c (.inl 1) <| o_bi z_sub <| o_c (.inl 16) <| o_bid z_div <| o_ri QR
set_option maxRecDepth 8000 in
theorem s_M_splits_0 {l : Launch} {ad : Nat → Nat} {D : va_G} {cA : Nat → ClassId} {WW : Nat → qP} {QR : Option qA → qS → Prop} (S : qSnd l rm_M_splits ad D cA R_M b_M_splits 1 WW) (Q : qRet (some .int) b_M_splits WW QR) : qle (k_M_splits_0 QR WW) WW 0 :=
  S.aload_n d_M_splits_0 rfl <| S.aload_n d_M_splits_1 rfl <| S.gA fl_M_39 (by decide) d_M_splits_2 <| S.aload_n d_M_splits_5 rfl <| sc_M_256 S (by decide) d_M_splits_6 <| S.iak (by decide) d_M_splits_9 <| sc_M_260 S (by decide) d_M_splits_10 <| S.aload_n d_M_splits_13 rfl <| S.aload_n d_M_splits_14 rfl <| S.gA fl_M_42 (by decide) d_M_splits_15 <| S.aload_n d_M_splits_18 rfl <| sc_M_256 S (by decide) d_M_splits_19 <| S.iak (by decide) d_M_splits_22 <| sc_M_260 S (by decide) d_M_splits_23 <| S.iadd d_M_splits_26 <| S.bipush d_M_splits_27 (by decide) <| S.iadd d_M_splits_29 <| S.iconst d_M_splits_30 (by decide) <| S.isub d_M_splits_31 <| S.bipush d_M_splits_32 (by decide) <| S.idiv d_M_splits_34 <| Q.1 rfl _ d_M_splits_35
theorem w_M_splits {l : Launch} {ad : Nat → Nat} {D : va_G} {cA : Nat → ClassId} {WW : Nat → qP} {QR : Option qA → qS → Prop} (S : qSnd l rm_M_splits ad D cA R_M b_M_splits 1 WW) (Q : qRet (some .int) b_M_splits WW QR)  (σ : qS)  (hσ : qoS σ) (h : P_M_splits  σ) (hq : ∀ (r : Int) σ', Q_M_splits  σ r σ' → QR (some (.inl r)) σ') : WW 0 [] [some (.inr (.inr 900))] σ := by
  refine s_M_splits_0 S Q _ _ _ ?_
  simp only [k_M_splits_0, oc_M_job, oc_M_records, o_c, o_il, o_ll, o_al, o_is, o_as, o_ls, o_inc, o_bi, o_bid, o_bl, o_bld, o_sl, o_i2l, o_l2i, o_dup, o_dup2, o_pop, o_pop2, o_if, o_i2, o_l2, swg, o_sw, o_gI, o_gZ, o_gJ, o_gA, o_gR, o_pI, o_pZ, o_pJ, o_pR, o_ia, o_iak, o_zak, o_ja, o_jak, o_is_, o_isk, o_zsk, o_js_, o_jsk, o_len, o_ri, o_rz, o_rl, o_rv, ls1, ls2, lks, lkj, List.getD_cons_zero, List.getD_cons_succ, List.set_cons_zero, List.set_cons_succ, qcat, true_and, and_true, List.map_nil, List.map_cons, List.sum_nil, List.sum_cons, Nat.reduceAdd, Nat.reduceLeDiff, Nat.zero_le, Int.reduceAdd, Int.reduceNeg, Int.reduceEq, or_true, true_or, Decidable.not_not]
  have hA := all_b h
  obtain ⟨h1, h2, h3, h4, h5, h6, h7⟩ := h
  refine ⟨h1, fun r σ1 q1 => ?_⟩
  obtain ⟨rfl, rfl⟩ := q1
  refine ⟨h2, ⟨by omega, h3.2⟩, fun r σ1 q1 => ?_⟩
  obtain ⟨rfl, rfl⟩ := q1
  refine ⟨h1, fun r σ1 q1 => ?_⟩
  obtain ⟨rfl, rfl⟩ := q1
  refine ⟨h2, h4, fun r σ1 q1 => ?_⟩
  obtain ⟨rfl, rfl⟩ := q1
  refine ⟨by omega, hq _ _ ⟨rfl, ?_⟩⟩
  have e : rc σ1 (σ1 10 (jb σ1)) + rc σ1 (σ1 11 (jb σ1)) = all_ σ1 := rfl
  unfold spl z_div z_sub z_add
  rw [e, w32_i (all_ σ1) (by omega) (by omega), w32_i (all_ σ1 + 16) (by omega) (by omega), w32_i (all_ σ1 + 16 - 1) (by omega) (by omega), Int.tdiv_eq_ediv_of_nonneg (by omega), w32_i _ (by omega) (by omega)]
  omega
theorem c_M_splits (l : Launch) (ad : Nat → Nat) (D : va_G) (cA : Nat → ClassId) : qC l ad D cA y_M_splits (Cond.code y_M_splits b_M_splits 1 (some .int) :: lw_g) rm_M_splits pre_M_splits post_M_splits := by
  refine qC_of (own := R_M) (by decide) rfl ⟨rfl, rfl⟩ ?_ ?_
  · intro av σ h; unfold pre_M_splits at h; split at h
    · simp [qen]
    · exact h.elim
  · intro WW QR S Q av σ hav hσ h hq; unfold pre_M_splits at h; split at h
    next o =>
      obtain ⟨rfl, h⟩ := h
      exact w_M_splits S Q  σ  hσ h (fun r σ' h' => hq _ σ' h')
    next => exact h.elim
def rat (σ : qS) (i : Int) : Int := if i < σ 2 (σ 10 (jb σ)) then σ 10 (jb σ) * 300 + i else σ 11 (jb σ) * 300 + i - σ 2 (σ 10 (jb σ))
def P_M_recordAt (i : Int) (σ : qS) : Prop := jobok σ ∧ 0 ≤ i ∧ i < all_ σ
def Q_M_recordAt (i : Int) (σ : qS) (r : Int) (σ' : qS) : Prop := σ' = σ ∧ r = rat σ i
def pre_M_recordAt (av : List qA) (σ : qS) : Prop := match av with
  | [.inr (.inr o), .inl a1] => o = 900 ∧ P_M_recordAt a1 σ
  | _ => False
def post_M_recordAt (av : List qA) (σ : qS) (r : Option qA) (σ' : qS) : Prop := match av, r with
  | [_, .inl a1], some (.inl r) => Q_M_recordAt a1 σ r σ'
  | _, _ => False
def oc_M_recordAt (K : qP) : qP := fun st ls σ => match st with
  | .inl a1 :: .inr (.inr o) :: st => o = 900 ∧ (st.map qcat).sum ≤ 8 ∧ P_M_recordAt a1 σ ∧ ∀ (r : Int) (σ' : qS), Q_M_recordAt a1 σ r σ' → K (.inl r :: st) ls σ'
  | _ => False
def rm_M_recordAt : Room := { frames := 1, cells := 0, slots := 0, locals := 20 }
def k_M_recordAt_59 (QR : Option qA → qS → Prop) (H : Nat → qP) : qP :=
  o_ri QR
def k_M_recordAt_35 (QR : Option qA → qS → Prop) (H : Nat → qP) : qP :=
  o_al 0 <| o_gA 900 11 <| o_il 2 <| o_iak 11 8 <| o_c (.inl 300) <| o_bi z_mul <| o_il 1 <| o_bi z_add <| o_al 0 <| o_gA 900 2 <| o_al 0 <| o_gA 900 10 <| o_il 2 <| o_iak 10 8 <| o_iak 2 16 <| o_bi z_sub <| k_M_recordAt_59 QR H
def k_M_recordAt_20 (QR : Option qA → qS → Prop) (H : Nat → qP) : qP :=
  o_al 0 <| o_gA 900 10 <| o_il 2 <| o_iak 10 8 <| o_c (.inl 300) <| o_bi z_mul <| o_il 1 <| o_bi z_add <| k_M_recordAt_59 QR H
def k_M_recordAt_0 (QR : Option qA → qS → Prop) (H : Nat → qP) : qP :=
  o_al 0 <| oc_M_job <| o_is 2 <| o_il 1 <| o_al 0 <| o_gA 900 2 <| o_al 0 <| o_gA 900 10 <| o_il 2 <| o_iak 10 8 <| o_iak 2 16 <| o_i2 (fun a b => b ≤ a) (k_M_recordAt_35 QR H) (k_M_recordAt_20 QR H)
set_option maxRecDepth 8000 in
theorem s_M_recordAt_59 {l : Launch} {ad : Nat → Nat} {D : va_G} {cA : Nat → ClassId} {WW : Nat → qP} {QR : Option qA → qS → Prop} (S : qSnd l rm_M_recordAt ad D cA R_M b_M_recordAt 3 WW) (Q : qRet (some .int) b_M_recordAt WW QR) : qle (k_M_recordAt_59 QR WW) WW 59 :=
  Q.1 rfl _ d_M_recordAt_59
set_option maxRecDepth 8000 in
theorem s_M_recordAt_35 {l : Launch} {ad : Nat → Nat} {D : va_G} {cA : Nat → ClassId} {WW : Nat → qP} {QR : Option qA → qS → Prop} (S : qSnd l rm_M_recordAt ad D cA R_M b_M_recordAt 3 WW) (Q : qRet (some .int) b_M_recordAt WW QR) : qle (k_M_recordAt_35 QR WW) WW 35 :=
  S.aload_n d_M_recordAt_35 rfl <| S.gA fl_M_42 (by decide) d_M_recordAt_36 <| S.iload_n d_M_recordAt_39 rfl <| S.iak (by decide) d_M_recordAt_40 <| S.sipush d_M_recordAt_41 (by decide) <| S.imul d_M_recordAt_44 <| S.iload_n d_M_recordAt_45 rfl <| S.iadd d_M_recordAt_46 <| S.aload_n d_M_recordAt_47 rfl <| S.gA fl_M_16 (by decide) d_M_recordAt_48 <| S.aload_n d_M_recordAt_51 rfl <| S.gA fl_M_39 (by decide) d_M_recordAt_52 <| S.iload_n d_M_recordAt_55 rfl <| S.iak (by decide) d_M_recordAt_56 <| S.iak (by decide) d_M_recordAt_57 <| S.isub d_M_recordAt_58 <| (s_M_recordAt_59 S Q)
set_option maxRecDepth 8000 in
theorem s_M_recordAt_20 {l : Launch} {ad : Nat → Nat} {D : va_G} {cA : Nat → ClassId} {WW : Nat → qP} {QR : Option qA → qS → Prop} (S : qSnd l rm_M_recordAt ad D cA R_M b_M_recordAt 3 WW) (Q : qRet (some .int) b_M_recordAt WW QR) : qle (k_M_recordAt_20 QR WW) WW 20 :=
  S.aload_n d_M_recordAt_20 rfl <| S.gA fl_M_39 (by decide) d_M_recordAt_21 <| S.iload_n d_M_recordAt_24 rfl <| S.iak (by decide) d_M_recordAt_25 <| S.sipush d_M_recordAt_26 (by decide) <| S.imul d_M_recordAt_29 <| S.iload_n d_M_recordAt_30 rfl <| S.iadd d_M_recordAt_31 <| S.goto d_M_recordAt_32 (by decide) (s_M_recordAt_59 S Q)
set_option maxRecDepth 8000 in
theorem s_M_recordAt_0 {l : Launch} {ad : Nat → Nat} {D : va_G} {cA : Nat → ClassId} {WW : Nat → qP} {QR : Option qA → qS → Prop} (S : qSnd l rm_M_recordAt ad D cA R_M b_M_recordAt 3 WW) (Q : qRet (some .int) b_M_recordAt WW QR) : qle (k_M_recordAt_0 QR WW) WW 0 :=
  S.aload_n d_M_recordAt_0 rfl <| sc_M_256 S (by decide) d_M_recordAt_1 <| S.istore_n d_M_recordAt_4 rfl (by decide) <| S.iload_n d_M_recordAt_5 rfl <| S.aload_n d_M_recordAt_6 rfl <| S.gA fl_M_16 (by decide) d_M_recordAt_7 <| S.aload_n d_M_recordAt_10 rfl <| S.gA fl_M_39 (by decide) d_M_recordAt_11 <| S.iload_n d_M_recordAt_14 rfl <| S.iak (by decide) d_M_recordAt_15 <| S.iak (by decide) d_M_recordAt_16 <| S.icmp_ge d_M_recordAt_17 (by decide) (s_M_recordAt_35 S Q) (s_M_recordAt_20 S Q)
theorem w_M_recordAt {l : Launch} {ad : Nat → Nat} {D : va_G} {cA : Nat → ClassId} {WW : Nat → qP} {QR : Option qA → qS → Prop} (S : qSnd l rm_M_recordAt ad D cA R_M b_M_recordAt 3 WW) (Q : qRet (some .int) b_M_recordAt WW QR) (a1 : Int) (σ : qS) (ha1 : r32 a1) (hσ : qoS σ) (h : P_M_recordAt a1 σ) (hq : ∀ (r : Int) σ', Q_M_recordAt a1 σ r σ' → QR (some (.inl r)) σ') : WW 0 [] [some (.inr (.inr 900)), some (.inl a1), none] σ := by
  refine s_M_recordAt_0 S Q _ _ _ ?_
  simp only [k_M_recordAt_0, k_M_recordAt_20, k_M_recordAt_35, k_M_recordAt_59, oc_M_job, o_c, o_il, o_ll, o_al, o_is, o_as, o_ls, o_inc, o_bi, o_bid, o_bl, o_bld, o_sl, o_i2l, o_l2i, o_dup, o_dup2, o_pop, o_pop2, o_if, o_i2, o_l2, swg, o_sw, o_gI, o_gZ, o_gJ, o_gA, o_gR, o_pI, o_pZ, o_pJ, o_pR, o_ia, o_iak, o_zak, o_ja, o_jak, o_is_, o_isk, o_zsk, o_js_, o_jsk, o_len, o_ri, o_rz, o_rl, o_rv, ls1, ls2, lks, lkj, List.getD_cons_zero, List.getD_cons_succ, List.set_cons_zero, List.set_cons_succ, qcat, true_and, and_true, List.map_nil, List.map_cons, List.sum_nil, List.sum_cons, Nat.reduceAdd, Nat.reduceLeDiff, Nat.zero_le, Int.reduceAdd, Int.reduceNeg, Int.reduceEq, or_true, true_or, Decidable.not_not]
  obtain ⟨h, hi⟩ := h
  have hA := all_b h
  obtain ⟨h1, h2, h3, h4, h5, h6, h7⟩ := h
  refine ⟨h1, fun r σ1 q1 => ?_⟩
  obtain ⟨rfl, rfl⟩ := q1
  have hf := h7 _ h3.1 h3.2
  refine ⟨h2, h3, fun e => ⟨h2, h2, h3, hq _ _ ⟨rfl, ?_⟩⟩, fun e => ⟨h2, hq _ _ ⟨rfl, ?_⟩⟩⟩
  · unfold rat z_add z_mul z_sub
    rw [if_neg (by omega), w32_i (_ * 300) (by omega) (by omega), w32_i (_ + a1) (by omega) (by omega), w32_i _ (by omega) (by omega)]
  · unfold rat z_add z_mul
    rw [if_pos (by omega), w32_i (_ * 300) (by omega) (by omega), w32_i _ (by omega) (by omega)]
theorem c_M_recordAt (l : Launch) (ad : Nat → Nat) (D : va_G) (cA : Nat → ClassId) : qC l ad D cA y_M_recordAt (Cond.code y_M_recordAt b_M_recordAt 3 (some .int) :: lw_g) rm_M_recordAt pre_M_recordAt post_M_recordAt := by
  refine qC_of (own := R_M) (by decide) rfl ⟨rfl, rfl⟩ ?_ ?_
  · intro av σ h; unfold pre_M_recordAt at h; split at h
    · simp [qen]
    · exact h.elim
  · intro WW QR S Q av σ hav hσ h hq; unfold pre_M_recordAt at h; split at h
    next o a1 =>
      obtain ⟨rfl, h⟩ := h
      exact w_M_recordAt S Q a1 σ (hav _ (List.mem_of_getElem? (i := 1) rfl)) hσ h (fun r σ' h' => hq _ σ' h')
    next => exact h.elim
def P_M_fail (σ : qS) : Prop := 0 ≤ σ 32 0 ∧ σ 32 0 < 8
def Q_M_fail (σ σ' : qS) : Prop := σ' = su (su σ 28 0 (jb σ)) 27 0 0
def pre_M_fail (av : List qA) (σ : qS) : Prop := match av with
  | [.inr (.inr o)] => o = 900 ∧ P_M_fail  σ
  | _ => False
def post_M_fail (av : List qA) (σ : qS) (r : Option qA) (σ' : qS) : Prop := match av, r with
  | [_], none => Q_M_fail  σ σ'
  | _, _ => False
def oc_M_fail (K : qP) : qP := fun st ls σ => match st with
  | .inr (.inr o) :: st => o = 900 ∧ (st.map qcat).sum ≤ 8 ∧ P_M_fail  σ ∧ ∀ (σ' : qS), Q_M_fail  σ σ' → K st ls σ'
  | _ => False
def rm_M_fail : Room := { frames := 1, cells := 0, slots := 0, locals := 20 }
theorem fl_M_267 : qF R_M 900 0 82 0 R_M F_M 267 27 := ⟨Or.inl ⟨rfl, rfl, rfl, rfl, rfl, rfl⟩, by decide, lw_at 105 (by decide +kernel) rfl⟩
theorem fl_M_276 : qF R_M 900 0 82 0 R_M F_M 276 28 := ⟨Or.inl ⟨rfl, rfl, rfl, rfl, rfl, rfl⟩, by decide, lw_at 106 (by decide +kernel) rfl⟩
def k_M_fail_0 (QR : Option qA → qS → Prop) (H : Nat → qP) : qP :=
  o_al 0 <| o_al 0 <| oc_M_job <| o_pI 900 28 <| o_al 0 <| o_c (.inl 0) <| o_pZ 900 27 <| o_rv QR
set_option maxRecDepth 8000 in
theorem s_M_fail_0 {l : Launch} {ad : Nat → Nat} {D : va_G} {cA : Nat → ClassId} {WW : Nat → qP} {QR : Option qA → qS → Prop} (S : qSnd l rm_M_fail ad D cA R_M b_M_fail 1 WW) (Q : qRet (none) b_M_fail WW QR) : qle (k_M_fail_0 QR WW) WW 0 :=
  S.aload_n d_M_fail_0 rfl <| S.aload_n d_M_fail_1 rfl <| sc_M_256 S (by decide) d_M_fail_2 <| S.pI fl_M_276 (by decide) (by decide +kernel) d_M_fail_5 <| S.aload_n d_M_fail_8 rfl <| S.iconst d_M_fail_9 (by decide) <| S.pZ fl_M_267 (by decide) (by decide +kernel) d_M_fail_10 <| Q.2.2.2 rfl _ d_M_fail_13
theorem w_M_fail {l : Launch} {ad : Nat → Nat} {D : va_G} {cA : Nat → ClassId} {WW : Nat → qP} {QR : Option qA → qS → Prop} (S : qSnd l rm_M_fail ad D cA R_M b_M_fail 1 WW) (Q : qRet (none) b_M_fail WW QR)  (σ : qS)  (hσ : qoS σ) (h : P_M_fail  σ) (hq : ∀ σ', Q_M_fail  σ σ' → QR none σ') : WW 0 [] [some (.inr (.inr 900))] σ := by
  refine s_M_fail_0 S Q _ _ _ ?_
  simp only [k_M_fail_0, oc_M_job, o_c, o_il, o_ll, o_al, o_is, o_as, o_ls, o_inc, o_bi, o_bid, o_bl, o_bld, o_sl, o_i2l, o_l2i, o_dup, o_dup2, o_pop, o_pop2, o_if, o_i2, o_l2, swg, o_sw, o_gI, o_gZ, o_gJ, o_gA, o_gR, o_pI, o_pZ, o_pJ, o_pR, o_ia, o_iak, o_zak, o_ja, o_jak, o_is_, o_isk, o_zsk, o_js_, o_jsk, o_len, o_ri, o_rz, o_rl, o_rv, ls1, ls2, lks, lkj, List.getD_cons_zero, List.getD_cons_succ, List.set_cons_zero, List.set_cons_succ, qcat, true_and, and_true, List.map_nil, List.map_cons, List.sum_nil, List.sum_cons, Nat.reduceAdd, Nat.reduceLeDiff, Nat.zero_le, Int.reduceAdd, Int.reduceNeg, Int.reduceEq, or_true, true_or, Decidable.not_not]
  refine ⟨h, fun r σ1 q1 => ?_⟩
  obtain ⟨rfl, rfl⟩ := q1
  exact hq _ rfl
theorem c_M_fail (l : Launch) (ad : Nat → Nat) (D : va_G) (cA : Nat → ClassId) : qC l ad D cA y_M_fail (Cond.code y_M_fail b_M_fail 1 (none) :: lw_g) rm_M_fail pre_M_fail post_M_fail := by
  refine qC_of (own := R_M) (by decide) rfl ⟨rfl, rfl⟩ ?_ ?_
  · intro av σ h; unfold pre_M_fail at h; split at h
    · simp [qen]
    · exact h.elim
  · intro WW QR S Q av σ hav hσ h hq; unfold pre_M_fail at h; split at h
    next o =>
      obtain ⟨rfl, h⟩ := h
      exact w_M_fail S Q  σ  hσ h (fun σ' h' => hq _ σ' h')
    next => exact h.elim
def fgt (σ : qS) (w : Int) : qS := su (su (su (su (su (su (su (su σ 62 w (-1)) 64 w 0) 65 w 0) 66 w 0) 67 w 0) 70 w 0) 73 w 0) 75 w 0
def P_M_forget (w : Int) (_σ : qS) : Prop := 0 ≤ w ∧ w < 6
def Q_M_forget (w : Int) (σ σ' : qS) : Prop := σ' = fgt σ w
def pre_M_forget (av : List qA) (σ : qS) : Prop := match av with
  | [.inr (.inr o), .inl a1] => o = 900 ∧ P_M_forget a1 σ
  | _ => False
def post_M_forget (av : List qA) (σ : qS) (r : Option qA) (σ' : qS) : Prop := match av, r with
  | [_, .inl a1], none => Q_M_forget a1 σ σ'
  | _, _ => False
def oc_M_forget (K : qP) : qP := fun st ls σ => match st with
  | .inl a1 :: .inr (.inr o) :: st => o = 900 ∧ (st.map qcat).sum ≤ 8 ∧ P_M_forget a1 σ ∧ ∀ (σ' : qS), Q_M_forget a1 σ σ' → K st ls σ'
  | _ => False
def rm_M_forget : Room := { frames := 0, cells := 0, slots := 0, locals := 0 }
theorem fl_M_138 : qF R_M 900 0 82 0 R_M F_M 138 62 := ⟨Or.inl ⟨rfl, rfl, rfl, rfl, rfl, rfl⟩, by decide, lw_at 140 (by decide +kernel) rfl⟩
theorem fl_M_144 : qF R_M 900 0 82 0 R_M F_M 144 64 := ⟨Or.inl ⟨rfl, rfl, rfl, rfl, rfl, rfl⟩, by decide, lw_at 142 (by decide +kernel) rfl⟩
theorem fl_M_147 : qF R_M 900 0 82 0 R_M F_M 147 65 := ⟨Or.inl ⟨rfl, rfl, rfl, rfl, rfl, rfl⟩, by decide, lw_at 143 (by decide +kernel) rfl⟩
theorem fl_M_150 : qF R_M 900 0 82 0 R_M F_M 150 66 := ⟨Or.inl ⟨rfl, rfl, rfl, rfl, rfl, rfl⟩, by decide, lw_at 144 (by decide +kernel) rfl⟩
theorem fl_M_153 : qF R_M 900 0 82 0 R_M F_M 153 67 := ⟨Or.inl ⟨rfl, rfl, rfl, rfl, rfl, rfl⟩, by decide, lw_at 145 (by decide +kernel) rfl⟩
theorem fl_M_162 : qF R_M 900 0 82 0 R_M F_M 162 70 := ⟨Or.inl ⟨rfl, rfl, rfl, rfl, rfl, rfl⟩, by decide, lw_at 148 (by decide +kernel) rfl⟩
theorem fl_M_171 : qF R_M 900 0 82 0 R_M F_M 171 73 := ⟨Or.inl ⟨rfl, rfl, rfl, rfl, rfl, rfl⟩, by decide, lw_at 151 (by decide +kernel) rfl⟩
theorem fl_M_177 : qF R_M 900 0 82 0 R_M F_M 177 75 := ⟨Or.inl ⟨rfl, rfl, rfl, rfl, rfl, rfl⟩, by decide, lw_at 153 (by decide +kernel) rfl⟩
def k_M_forget_0 (QR : Option qA → qS → Prop) (H : Nat → qP) : qP :=
  o_al 0 <| o_gA 900 62 <| o_il 1 <| o_c (.inl (-1)) <| o_isk 62 6 <| o_al 0 <| o_gA 900 64 <| o_il 1 <| o_c (.inl 0) <| o_isk 64 6 <| o_al 0 <| o_gA 900 65 <| o_il 1 <| o_c (.inl 0) <| o_isk 65 6 <| o_al 0 <| o_gA 900 66 <| o_il 1 <| o_c (.inl 0) <| o_isk 66 6 <| o_al 0 <| o_gA 900 67 <| o_il 1 <| o_c (.inl 0) <| o_isk 67 6 <| o_al 0 <| o_gA 900 70 <| o_il 1 <| o_c (.inl 0) <| o_isk 70 6 <| o_al 0 <| o_gA 900 73 <| o_il 1 <| o_c (.inl 0) <| o_isk 73 6 <| o_al 0 <| o_gA 900 75 <| o_il 1 <| o_c (.inl 0) <| o_isk 75 6 <| o_rv QR
set_option maxRecDepth 8000 in
theorem s_M_forget_0 {l : Launch} {ad : Nat → Nat} {D : va_G} {cA : Nat → ClassId} {WW : Nat → qP} {QR : Option qA → qS → Prop} (S : qSnd l rm_M_forget ad D cA R_M b_M_forget 2 WW) (Q : qRet (none) b_M_forget WW QR) : qle (k_M_forget_0 QR WW) WW 0 :=
  S.aload_n d_M_forget_0 rfl <| S.gA fl_M_138 (by decide) d_M_forget_1 <| S.iload_n d_M_forget_4 rfl <| S.iconst d_M_forget_5 (by decide) <| S.isk (by decide) d_M_forget_6 <| S.aload_n d_M_forget_7 rfl <| S.gA fl_M_144 (by decide) d_M_forget_8 <| S.iload_n d_M_forget_11 rfl <| S.iconst d_M_forget_12 (by decide) <| S.isk (by decide) d_M_forget_13 <| S.aload_n d_M_forget_14 rfl <| S.gA fl_M_147 (by decide) d_M_forget_15 <| S.iload_n d_M_forget_18 rfl <| S.iconst d_M_forget_19 (by decide) <| S.isk (by decide) d_M_forget_20 <| S.aload_n d_M_forget_21 rfl <| S.gA fl_M_150 (by decide) d_M_forget_22 <| S.iload_n d_M_forget_25 rfl <| S.iconst d_M_forget_26 (by decide) <| S.isk (by decide) d_M_forget_27 <| S.aload_n d_M_forget_28 rfl <| S.gA fl_M_153 (by decide) d_M_forget_29 <| S.iload_n d_M_forget_32 rfl <| S.iconst d_M_forget_33 (by decide) <| S.isk (by decide) d_M_forget_34 <| S.aload_n d_M_forget_35 rfl <| S.gA fl_M_162 (by decide) d_M_forget_36 <| S.iload_n d_M_forget_39 rfl <| S.iconst d_M_forget_40 (by decide) <| S.isk (by decide) d_M_forget_41 <| S.aload_n d_M_forget_42 rfl <| S.gA fl_M_171 (by decide) d_M_forget_43 <| S.iload_n d_M_forget_46 rfl <| S.iconst d_M_forget_47 (by decide) <| S.isk (by decide) d_M_forget_48 <| S.aload_n d_M_forget_49 rfl <| S.gA fl_M_177 (by decide) d_M_forget_50 <| S.iload_n d_M_forget_53 rfl <| S.iconst d_M_forget_54 (by decide) <| S.isk (by decide) d_M_forget_55 <| Q.2.2.2 rfl _ d_M_forget_56
theorem w_M_forget {l : Launch} {ad : Nat → Nat} {D : va_G} {cA : Nat → ClassId} {WW : Nat → qP} {QR : Option qA → qS → Prop} (S : qSnd l rm_M_forget ad D cA R_M b_M_forget 2 WW) (Q : qRet (none) b_M_forget WW QR) (a1 : Int) (σ : qS) (ha1 : r32 a1) (hσ : qoS σ) (h : P_M_forget a1 σ) (hq : ∀ σ', Q_M_forget a1 σ σ' → QR none σ') : WW 0 [] [some (.inr (.inr 900)), some (.inl a1)] σ := by
  refine s_M_forget_0 S Q _ _ _ ?_
  simp only [k_M_forget_0, o_c, o_il, o_ll, o_al, o_is, o_as, o_ls, o_inc, o_bi, o_bid, o_bl, o_bld, o_sl, o_i2l, o_l2i, o_dup, o_dup2, o_pop, o_pop2, o_if, o_i2, o_l2, swg, o_sw, o_gI, o_gZ, o_gJ, o_gA, o_gR, o_pI, o_pZ, o_pJ, o_pR, o_ia, o_iak, o_zak, o_ja, o_jak, o_is_, o_isk, o_zsk, o_js_, o_jsk, o_len, o_ri, o_rz, o_rl, o_rv, ls1, ls2, lks, lkj, List.getD_cons_zero, List.getD_cons_succ, List.set_cons_zero, List.set_cons_succ, qcat, true_and, and_true, List.map_nil, List.map_cons, List.sum_nil, List.sum_cons, Nat.reduceAdd, Nat.reduceLeDiff, Nat.zero_le, Int.reduceAdd, Int.reduceNeg, Int.reduceEq, or_true, true_or, Decidable.not_not]
  exact ⟨h, h, h, h, h, h, h, h, hq _ rfl⟩
theorem c_M_forget (l : Launch) (ad : Nat → Nat) (D : va_G) (cA : Nat → ClassId) : qC l ad D cA y_M_forget (Cond.code y_M_forget b_M_forget 2 (none) :: lw_g) rm_M_forget pre_M_forget post_M_forget := by
  refine qC_of (own := R_M) (by decide) rfl ⟨rfl, rfl⟩ ?_ ?_
  · intro av σ h; unfold pre_M_forget at h; split at h
    · simp [qen]
    · exact h.elim
  · intro WW QR S Q av σ hav hσ h hq; unfold pre_M_forget at h; split at h
    next o a1 =>
      obtain ⟨rfl, h⟩ := h
      exact w_M_forget S Q a1 σ (hav _ (List.mem_of_getElem? (i := 1) rfl)) hσ h (fun σ' h' => hq _ σ' h')
    next => exact h.elim
def mixf (h v : Int) : Int := y_xor (y_mul (y_xor h v) (-7046029254386353131)) (y_ushr (y_mul (y_xor h v) (-7046029254386353131)) 31)
def P_M_mix (_h _v : Int) (_σ : qS) : Prop := True
def Q_M_mix (h v : Int) (σ : qS) (r : Int) (σ' : qS) : Prop := σ' = σ ∧ r = mixf h v
def pre_M_mix (av : List qA) (σ : qS) : Prop := match av with
  | [.inr (.inl a1), .inr (.inl a2)] => P_M_mix a1 a2 σ
  | _ => False
def post_M_mix (av : List qA) (σ : qS) (r : Option qA) (σ' : qS) : Prop := match av, r with
  | [.inr (.inl a1), .inr (.inl a2)], some (.inr (.inl r)) => Q_M_mix a1 a2 σ r σ'
  | _, _ => False
def oc_M_mix (K : qP) : qP := fun st ls σ => match st with
  | .inr (.inl a2) :: .inr (.inl a1) :: st => (st.map qcat).sum ≤ 8 ∧ P_M_mix a1 a2 σ ∧ ∀ (r : Int) (σ' : qS), Q_M_mix a1 a2 σ r σ' → K (.inr (.inl r) :: st) ls σ'
  | _ => False
def rm_M_mix : Room := { frames := 0, cells := 0, slots := 0, locals := 0 }
def k_M_mix_0 (QR : Option qA → qS → Prop) (H : Nat → qP) : qP :=
  o_ll 0 <| o_ll 2 <| o_bl y_xor <| o_c (.inr (.inl (-7046029254386353131))) <| o_bl y_mul <| o_ls 4 <| o_ll 4 <| o_ll 4 <| o_c (.inl 31) <| o_sl y_ushr <| o_bl y_xor <| o_rl QR
set_option maxRecDepth 8000 in
theorem s_M_mix_0 {l : Launch} {ad : Nat → Nat} {D : va_G} {cA : Nat → ClassId} {WW : Nat → qP} {QR : Option qA → qS → Prop} (S : qSnd l rm_M_mix ad D cA R_M b_M_mix 6 WW) (Q : qRet (some .long) b_M_mix WW QR) : qle (k_M_mix_0 QR WW) WW 0 :=
  S.lload_n d_M_mix_0 rfl <| S.lload_n d_M_mix_1 rfl <| S.lxor d_M_mix_2 <| S.ldc2 d_M_mix_3 (lw_at 351 (by decide +kernel) rfl) (by decide) <| S.lmul d_M_mix_6 <| S.lstore d_M_mix_7 (by decide) <| S.lload d_M_mix_9 <| S.lload d_M_mix_11 <| S.bipush d_M_mix_13 (by decide) <| S.lushr d_M_mix_15 <| S.lxor d_M_mix_16 <| Q.2.2.1 rfl _ d_M_mix_17
theorem w_M_mix {l : Launch} {ad : Nat → Nat} {D : va_G} {cA : Nat → ClassId} {WW : Nat → qP} {QR : Option qA → qS → Prop} (S : qSnd l rm_M_mix ad D cA R_M b_M_mix 6 WW) (Q : qRet (some .long) b_M_mix WW QR) (a1 : Int) (a2 : Int) (σ : qS) (ha1 : r64 a1) (ha2 : r64 a2) (hσ : qoS σ) (h : P_M_mix a1 a2 σ) (hq : ∀ (r : Int) σ', Q_M_mix a1 a2 σ r σ' → QR (some (.inr (.inl r))) σ') : WW 0 [] [some (.inr (.inl a1)), none, some (.inr (.inl a2)), none, none, none] σ := by
  refine s_M_mix_0 S Q _ _ _ ?_
  simp only [k_M_mix_0, o_c, o_il, o_ll, o_al, o_is, o_as, o_ls, o_inc, o_bi, o_bid, o_bl, o_bld, o_sl, o_i2l, o_l2i, o_dup, o_dup2, o_pop, o_pop2, o_if, o_i2, o_l2, swg, o_sw, o_gI, o_gZ, o_gJ, o_gA, o_gR, o_pI, o_pZ, o_pJ, o_pR, o_ia, o_iak, o_zak, o_ja, o_jak, o_is_, o_isk, o_zsk, o_js_, o_jsk, o_len, o_ri, o_rz, o_rl, o_rv, ls1, ls2, lks, lkj, List.getD_cons_zero, List.getD_cons_succ, List.set_cons_zero, List.set_cons_succ, qcat, true_and, and_true, List.map_nil, List.map_cons, List.sum_nil, List.sum_cons, Nat.reduceAdd, Nat.reduceLeDiff, Nat.zero_le, Int.reduceAdd, Int.reduceNeg, Int.reduceEq, or_true, true_or, Decidable.not_not]
  exact hq _ _ ⟨rfl, rfl⟩
theorem c_M_mix (l : Launch) (ad : Nat → Nat) (D : va_G) (cA : Nat → ClassId) : qC l ad D cA y_M_mix (Cond.code y_M_mix b_M_mix 6 (some .long) :: lw_g) rm_M_mix pre_M_mix post_M_mix := by
  refine qC_of (own := R_M) (by decide) rfl ⟨rfl, rfl⟩ ?_ ?_
  · intro av σ h; unfold pre_M_mix at h; split at h
    · simp [qen]
    · exact h.elim
  · intro WW QR S Q av σ hav hσ h hq; unfold pre_M_mix at h; split at h
    next a1 a2 =>
      exact w_M_mix S Q a1 a2 σ (hav _ (List.mem_of_getElem? (i := 0) rfl)) (hav _ (List.mem_of_getElem? (i := 1) rfl)) hσ h (fun r σ' h' => hq _ σ' h')
    next => exact h.elim
def P_M_in (_v _lo _hi : Int) (_σ : qS) : Prop := True
def Q_M_in (v lo hi : Int) (σ : qS) (r : Int) (σ' : qS) : Prop := σ' = σ ∧ r = if lo ≤ v ∧ v ≤ hi then 1 else 0
def pre_M_in (av : List qA) (σ : qS) : Prop := match av with
  | [.inr (.inl a1), .inr (.inl a2), .inr (.inl a3)] => P_M_in a1 a2 a3 σ
  | _ => False
def post_M_in (av : List qA) (σ : qS) (r : Option qA) (σ' : qS) : Prop := match av, r with
  | [.inr (.inl a1), .inr (.inl a2), .inr (.inl a3)], some (.inl r) => Q_M_in a1 a2 a3 σ r σ'
  | _, _ => False
def oc_M_in (K : qP) : qP := fun st ls σ => match st with
  | .inr (.inl a3) :: .inr (.inl a2) :: .inr (.inl a1) :: st => (st.map qcat).sum ≤ 8 ∧ P_M_in a1 a2 a3 σ ∧ ∀ (r : Int) (σ' : qS), Q_M_in a1 a2 a3 σ r σ' → K (.inl r :: st) ls σ'
  | _ => False
def rm_M_in : Room := { frames := 0, cells := 0, slots := 0, locals := 0 }
def k_M_in_18 (QR : Option qA → qS → Prop) (H : Nat → qP) : qP :=
  o_rz QR
def k_M_in_17 (QR : Option qA → qS → Prop) (H : Nat → qP) : qP :=
  o_c (.inl 0) <| k_M_in_18 QR H
def k_M_in_13 (QR : Option qA → qS → Prop) (H : Nat → qP) : qP :=
  o_c (.inl 1) <| k_M_in_18 QR H
def k_M_in_6 (QR : Option qA → qS → Prop) (H : Nat → qP) : qP :=
  o_ll 0 <| o_ll 4 <| o_l2 (fun a b => b < a) (k_M_in_17 QR H) (k_M_in_13 QR H)
def k_M_in_0 (QR : Option qA → qS → Prop) (H : Nat → qP) : qP :=
  o_ll 0 <| o_ll 2 <| o_l2 (fun a b => a < b) (k_M_in_17 QR H) (k_M_in_6 QR H)
set_option maxRecDepth 8000 in
theorem s_M_in_18 {l : Launch} {ad : Nat → Nat} {D : va_G} {cA : Nat → ClassId} {WW : Nat → qP} {QR : Option qA → qS → Prop} (S : qSnd l rm_M_in ad D cA R_M b_M_in 6 WW) (Q : qRet (some .boolean) b_M_in WW QR) : qle (k_M_in_18 QR WW) WW 18 :=
  Q.2.1 rfl _ d_M_in_18
set_option maxRecDepth 8000 in
theorem s_M_in_17 {l : Launch} {ad : Nat → Nat} {D : va_G} {cA : Nat → ClassId} {WW : Nat → qP} {QR : Option qA → qS → Prop} (S : qSnd l rm_M_in ad D cA R_M b_M_in 6 WW) (Q : qRet (some .boolean) b_M_in WW QR) : qle (k_M_in_17 QR WW) WW 17 :=
  S.iconst d_M_in_17 (by decide) <| (s_M_in_18 S Q)
set_option maxRecDepth 8000 in
theorem s_M_in_13 {l : Launch} {ad : Nat → Nat} {D : va_G} {cA : Nat → ClassId} {WW : Nat → qP} {QR : Option qA → qS → Prop} (S : qSnd l rm_M_in ad D cA R_M b_M_in 6 WW) (Q : qRet (some .boolean) b_M_in WW QR) : qle (k_M_in_13 QR WW) WW 13 :=
  S.iconst d_M_in_13 (by decide) <| S.goto d_M_in_14 (by decide) (s_M_in_18 S Q)
set_option maxRecDepth 8000 in
theorem s_M_in_6 {l : Launch} {ad : Nat → Nat} {D : va_G} {cA : Nat → ClassId} {WW : Nat → qP} {QR : Option qA → qS → Prop} (S : qSnd l rm_M_in ad D cA R_M b_M_in 6 WW) (Q : qRet (some .boolean) b_M_in WW QR) : qle (k_M_in_6 QR WW) WW 6 :=
  S.lload_n d_M_in_6 rfl <| S.lload d_M_in_7 <| S.lcmp_gt d_M_in_9 d_M_in_10 (by decide) (s_M_in_17 S Q) (s_M_in_13 S Q)
set_option maxRecDepth 8000 in
theorem s_M_in_0 {l : Launch} {ad : Nat → Nat} {D : va_G} {cA : Nat → ClassId} {WW : Nat → qP} {QR : Option qA → qS → Prop} (S : qSnd l rm_M_in ad D cA R_M b_M_in 6 WW) (Q : qRet (some .boolean) b_M_in WW QR) : qle (k_M_in_0 QR WW) WW 0 :=
  S.lload_n d_M_in_0 rfl <| S.lload_n d_M_in_1 rfl <| S.lcmp_lt d_M_in_2 d_M_in_3 (by decide) (s_M_in_17 S Q) (s_M_in_6 S Q)
theorem w_M_in {l : Launch} {ad : Nat → Nat} {D : va_G} {cA : Nat → ClassId} {WW : Nat → qP} {QR : Option qA → qS → Prop} (S : qSnd l rm_M_in ad D cA R_M b_M_in 6 WW) (Q : qRet (some .boolean) b_M_in WW QR) (a1 : Int) (a2 : Int) (a3 : Int) (σ : qS) (ha1 : r64 a1) (ha2 : r64 a2) (ha3 : r64 a3) (hσ : qoS σ) (h : P_M_in a1 a2 a3 σ) (hq : ∀ (r : Int) σ', Q_M_in a1 a2 a3 σ r σ' → QR (some (.inl r)) σ') : WW 0 [] [some (.inr (.inl a1)), none, some (.inr (.inl a2)), none, some (.inr (.inl a3)), none] σ := by
  refine s_M_in_0 S Q _ _ _ ?_
  simp only [k_M_in_0, k_M_in_6, k_M_in_13, k_M_in_17, k_M_in_18, o_c, o_il, o_ll, o_al, o_is, o_as, o_ls, o_inc, o_bi, o_bid, o_bl, o_bld, o_sl, o_i2l, o_l2i, o_dup, o_dup2, o_pop, o_pop2, o_if, o_i2, o_l2, swg, o_sw, o_gI, o_gZ, o_gJ, o_gA, o_gR, o_pI, o_pZ, o_pJ, o_pR, o_ia, o_iak, o_zak, o_ja, o_jak, o_is_, o_isk, o_zsk, o_js_, o_jsk, o_len, o_ri, o_rz, o_rl, o_rv, ls1, ls2, lks, lkj, List.getD_cons_zero, List.getD_cons_succ, List.set_cons_zero, List.set_cons_succ, qcat, true_and, and_true, List.map_nil, List.map_cons, List.sum_nil, List.sum_cons, Nat.reduceAdd, Nat.reduceLeDiff, Nat.zero_le, Int.reduceAdd, Int.reduceNeg, Int.reduceEq, or_true, true_or, Decidable.not_not]
  refine ⟨fun e => hq _ _ ⟨rfl, ?_⟩, fun e => ⟨fun e2 => hq _ _ ⟨rfl, ?_⟩, fun e2 => hq _ _ ⟨rfl, ?_⟩⟩⟩
  · rw [if_neg (by omega)]
  · rw [if_neg (by omega)]
  · rw [if_pos (by omega)]
theorem c_M_in (l : Launch) (ad : Nat → Nat) (D : va_G) (cA : Nat → ClassId) : qC l ad D cA y_M_in (Cond.code y_M_in b_M_in 6 (some .boolean) :: lw_g) rm_M_in pre_M_in post_M_in := by
  refine qC_of (own := R_M) (by decide) rfl ⟨rfl, rfl⟩ ?_ ?_
  · intro av σ h; unfold pre_M_in at h; split at h
    · simp [qen]
    · exact h.elim
  · intro WW QR S Q av σ hav hσ h hq; unfold pre_M_in at h; split at h
    next a1 a2 a3 =>
      exact w_M_in S Q a1 a2 a3 σ (hav _ (List.mem_of_getElem? (i := 0) rfl)) (hav _ (List.mem_of_getElem? (i := 1) rfl)) (hav _ (List.mem_of_getElem? (i := 2) rfl)) hσ h (fun r σ' h' => hq _ σ' h')
    next => exact h.elim
def isdn (σ : qS) (t : Int) : Int := if t < 38 then (if σ 33 t = -1 then 0 else 1) else σ 35 (t - 38)
def P_M_isDone (t : Int) (_σ : qS) : Prop := 0 ≤ t ∧ t < 44
def Q_M_isDone (t : Int) (σ : qS) (r : Int) (σ' : qS) : Prop := σ' = σ ∧ r = isdn σ t
def pre_M_isDone (av : List qA) (σ : qS) : Prop := match av with
  | [.inr (.inr o), .inl a1] => o = 900 ∧ P_M_isDone a1 σ
  | _ => False
def post_M_isDone (av : List qA) (σ : qS) (r : Option qA) (σ' : qS) : Prop := match av, r with
  | [_, .inl a1], some (.inl r) => Q_M_isDone a1 σ r σ'
  | _, _ => False
def oc_M_isDone (K : qP) : qP := fun st ls σ => match st with
  | .inl a1 :: .inr (.inr o) :: st => o = 900 ∧ (st.map qcat).sum ≤ 8 ∧ P_M_isDone a1 σ ∧ ∀ (r : Int) (σ' : qS), Q_M_isDone a1 σ r σ' → K (.inl r :: st) ls σ'
  | _ => False
def rm_M_isDone : Room := { frames := 0, cells := 0, slots := 0, locals := 0 }
theorem fl_M_66 : qF R_M 900 0 82 0 R_M F_M 66 33 := ⟨Or.inl ⟨rfl, rfl, rfl, rfl, rfl, rfl⟩, by decide, lw_at 111 (by decide +kernel) rfl⟩
theorem fl_M_72 : qF R_M 900 0 82 0 R_M F_M 72 35 := ⟨Or.inl ⟨rfl, rfl, rfl, rfl, rfl, rfl⟩, by decide, lw_at 113 (by decide +kernel) rfl⟩
def k_M_isDone_33 (QR : Option qA → qS → Prop) (H : Nat → qP) : qP :=
  o_rz QR
def k_M_isDone_24 (QR : Option qA → qS → Prop) (H : Nat → qP) : qP :=
  o_al 0 <| o_gA 900 35 <| o_il 1 <| o_c (.inl 38) <| o_bi z_sub <| o_zak 35 6 <| k_M_isDone_33 QR H
def k_M_isDone_20 (QR : Option qA → qS → Prop) (H : Nat → qP) : qP :=
  o_c (.inl 0) <| k_M_isDone_33 QR H
def k_M_isDone_16 (QR : Option qA → qS → Prop) (H : Nat → qP) : qP :=
  o_c (.inl 1) <| k_M_isDone_33 QR H
def k_M_isDone_6 (QR : Option qA → qS → Prop) (H : Nat → qP) : qP :=
  o_al 0 <| o_gA 900 33 <| o_il 1 <| o_iak 33 38 <| o_c (.inl (-1)) <| o_i2 (fun a b => a = b) (k_M_isDone_20 QR H) (k_M_isDone_16 QR H)
def k_M_isDone_0 (QR : Option qA → qS → Prop) (H : Nat → qP) : qP :=
  o_il 1 <| o_c (.inl 38) <| o_i2 (fun a b => b ≤ a) (k_M_isDone_24 QR H) (k_M_isDone_6 QR H)
set_option maxRecDepth 8000 in
theorem s_M_isDone_33 {l : Launch} {ad : Nat → Nat} {D : va_G} {cA : Nat → ClassId} {WW : Nat → qP} {QR : Option qA → qS → Prop} (S : qSnd l rm_M_isDone ad D cA R_M b_M_isDone 2 WW) (Q : qRet (some .boolean) b_M_isDone WW QR) : qle (k_M_isDone_33 QR WW) WW 33 :=
  Q.2.1 rfl _ d_M_isDone_33
set_option maxRecDepth 8000 in
theorem s_M_isDone_24 {l : Launch} {ad : Nat → Nat} {D : va_G} {cA : Nat → ClassId} {WW : Nat → qP} {QR : Option qA → qS → Prop} (S : qSnd l rm_M_isDone ad D cA R_M b_M_isDone 2 WW) (Q : qRet (some .boolean) b_M_isDone WW QR) : qle (k_M_isDone_24 QR WW) WW 24 :=
  S.aload_n d_M_isDone_24 rfl <| S.gA fl_M_72 (by decide) d_M_isDone_25 <| S.iload_n d_M_isDone_28 rfl <| S.bipush d_M_isDone_29 (by decide) <| S.isub d_M_isDone_31 <| S.zak (by decide) d_M_isDone_32 <| (s_M_isDone_33 S Q)
set_option maxRecDepth 8000 in
theorem s_M_isDone_20 {l : Launch} {ad : Nat → Nat} {D : va_G} {cA : Nat → ClassId} {WW : Nat → qP} {QR : Option qA → qS → Prop} (S : qSnd l rm_M_isDone ad D cA R_M b_M_isDone 2 WW) (Q : qRet (some .boolean) b_M_isDone WW QR) : qle (k_M_isDone_20 QR WW) WW 20 :=
  S.iconst d_M_isDone_20 (by decide) <| S.goto d_M_isDone_21 (by decide) (s_M_isDone_33 S Q)
set_option maxRecDepth 8000 in
theorem s_M_isDone_16 {l : Launch} {ad : Nat → Nat} {D : va_G} {cA : Nat → ClassId} {WW : Nat → qP} {QR : Option qA → qS → Prop} (S : qSnd l rm_M_isDone ad D cA R_M b_M_isDone 2 WW) (Q : qRet (some .boolean) b_M_isDone WW QR) : qle (k_M_isDone_16 QR WW) WW 16 :=
  S.iconst d_M_isDone_16 (by decide) <| S.goto d_M_isDone_17 (by decide) (s_M_isDone_33 S Q)
set_option maxRecDepth 8000 in
theorem s_M_isDone_6 {l : Launch} {ad : Nat → Nat} {D : va_G} {cA : Nat → ClassId} {WW : Nat → qP} {QR : Option qA → qS → Prop} (S : qSnd l rm_M_isDone ad D cA R_M b_M_isDone 2 WW) (Q : qRet (some .boolean) b_M_isDone WW QR) : qle (k_M_isDone_6 QR WW) WW 6 :=
  S.aload_n d_M_isDone_6 rfl <| S.gA fl_M_66 (by decide) d_M_isDone_7 <| S.iload_n d_M_isDone_10 rfl <| S.iak (by decide) d_M_isDone_11 <| S.iconst d_M_isDone_12 (by decide) <| S.icmp_eq d_M_isDone_13 (by decide) (s_M_isDone_20 S Q) (s_M_isDone_16 S Q)
set_option maxRecDepth 8000 in
theorem s_M_isDone_0 {l : Launch} {ad : Nat → Nat} {D : va_G} {cA : Nat → ClassId} {WW : Nat → qP} {QR : Option qA → qS → Prop} (S : qSnd l rm_M_isDone ad D cA R_M b_M_isDone 2 WW) (Q : qRet (some .boolean) b_M_isDone WW QR) : qle (k_M_isDone_0 QR WW) WW 0 :=
  S.iload_n d_M_isDone_0 rfl <| S.bipush d_M_isDone_1 (by decide) <| S.icmp_ge d_M_isDone_3 (by decide) (s_M_isDone_24 S Q) (s_M_isDone_6 S Q)
theorem w_M_isDone {l : Launch} {ad : Nat → Nat} {D : va_G} {cA : Nat → ClassId} {WW : Nat → qP} {QR : Option qA → qS → Prop} (S : qSnd l rm_M_isDone ad D cA R_M b_M_isDone 2 WW) (Q : qRet (some .boolean) b_M_isDone WW QR) (a1 : Int) (σ : qS) (ha1 : r32 a1) (hσ : qoS σ) (h : P_M_isDone a1 σ) (hq : ∀ (r : Int) σ', Q_M_isDone a1 σ r σ' → QR (some (.inl r)) σ') : WW 0 [] [some (.inr (.inr 900)), some (.inl a1)] σ := by
  refine s_M_isDone_0 S Q _ _ _ ?_
  simp only [k_M_isDone_0, k_M_isDone_6, k_M_isDone_16, k_M_isDone_20, k_M_isDone_24, k_M_isDone_33, o_c, o_il, o_ll, o_al, o_is, o_as, o_ls, o_inc, o_bi, o_bid, o_bl, o_bld, o_sl, o_i2l, o_l2i, o_dup, o_dup2, o_pop, o_pop2, o_if, o_i2, o_l2, swg, o_sw, o_gI, o_gZ, o_gJ, o_gA, o_gR, o_pI, o_pZ, o_pJ, o_pR, o_ia, o_iak, o_zak, o_ja, o_jak, o_is_, o_isk, o_zsk, o_js_, o_jsk, o_len, o_ri, o_rz, o_rl, o_rv, ls1, ls2, lks, lkj, List.getD_cons_zero, List.getD_cons_succ, List.set_cons_zero, List.set_cons_succ, qcat, true_and, and_true, List.map_nil, List.map_cons, List.sum_nil, List.sum_cons, Nat.reduceAdd, Nat.reduceLeDiff, Nat.zero_le, Int.reduceAdd, Int.reduceNeg, Int.reduceEq, or_true, true_or, Decidable.not_not]
  obtain ⟨h1, h2⟩ := h
  have e : z_sub a1 38 = a1 - 38 := by unfold z_sub; exact w32_i _ (by omega) (by omega)
  rw [e]
  refine ⟨fun h38 => ⟨by omega, fun hz => ⟨hz, hq _ _ ⟨rfl, ?_⟩⟩⟩, fun h38 => ⟨by omega, fun hb => hq _ _ ⟨rfl, ?_⟩, fun hb => hq _ _ ⟨rfl, ?_⟩⟩⟩
  · unfold isdn; rw [if_neg (by omega)]
  · unfold isdn; rw [if_pos (by omega), if_pos hb]
  · unfold isdn; rw [if_pos (by omega), if_neg hb]
theorem c_M_isDone (l : Launch) (ad : Nat → Nat) (D : va_G) (cA : Nat → ClassId) : qC l ad D cA y_M_isDone (Cond.code y_M_isDone b_M_isDone 2 (some .boolean) :: lw_g) rm_M_isDone pre_M_isDone post_M_isDone := by
  refine qC_of (own := R_M) (by decide) rfl ⟨rfl, rfl⟩ ?_ ?_
  · intro av σ h; unfold pre_M_isDone at h; split at h
    · simp [qen]
    · exact h.elim
  · intro WW QR S Q av σ hav hσ h hq; unfold pre_M_isDone at h; split at h
    next o a1 =>
      obtain ⟨rfl, h⟩ := h
      exact w_M_isDone S Q a1 σ (hav _ (List.mem_of_getElem? (i := 1) rfl)) hσ h (fun r σ' h' => hq _ σ' h')
    next => exact h.elim
def P_M_lay (w at_ _k _v : Int) (_σ : qS) : Prop := (0 ≤ w ∧ w < 6) ∧ 0 ≤ at_ ∧ at_ < 1000
def Q_M_lay (w at_ k v : Int) (σ σ' : qS) : Prop := σ' = su (su σ 59 (w * 1000 + at_) k) 60 (w * 1000 + at_) v
def pre_M_lay (av : List qA) (σ : qS) : Prop := match av with
  | [.inr (.inr o), .inl a1, .inl a2, .inr (.inl a3), .inr (.inl a4)] => o = 900 ∧ P_M_lay a1 a2 a3 a4 σ
  | _ => False
def post_M_lay (av : List qA) (σ : qS) (r : Option qA) (σ' : qS) : Prop := match av, r with
  | [_, .inl a1, .inl a2, .inr (.inl a3), .inr (.inl a4)], none => Q_M_lay a1 a2 a3 a4 σ σ'
  | _, _ => False
def oc_M_lay (K : qP) : qP := fun st ls σ => match st with
  | .inr (.inl a4) :: .inr (.inl a3) :: .inl a2 :: .inl a1 :: .inr (.inr o) :: st => o = 900 ∧ (st.map qcat).sum ≤ 8 ∧ P_M_lay a1 a2 a3 a4 σ ∧ ∀ (σ' : qS), Q_M_lay a1 a2 a3 a4 σ σ' → K st ls σ'
  | _ => False
def rm_M_lay : Room := { frames := 0, cells := 0, slots := 0, locals := 0 }
theorem fl_M_129 : qF R_M 900 0 82 0 R_M F_M 129 59 := ⟨Or.inl ⟨rfl, rfl, rfl, rfl, rfl, rfl⟩, by decide, lw_at 137 (by decide +kernel) rfl⟩
theorem fl_M_132 : qF R_M 900 0 82 0 R_M F_M 132 60 := ⟨Or.inl ⟨rfl, rfl, rfl, rfl, rfl, rfl⟩, by decide, lw_at 138 (by decide +kernel) rfl⟩
def k_M_lay_0 (QR : Option qA → qS → Prop) (H : Nat → qP) : qP :=
  o_al 0 <| o_gA 900 59 <| o_il 1 <| o_c (.inl 1000) <| o_bi z_mul <| o_il 2 <| o_bi z_add <| o_ll 3 <| o_jsk 59 6000 <| o_al 0 <| o_gA 900 60 <| o_il 1 <| o_c (.inl 1000) <| o_bi z_mul <| o_il 2 <| o_bi z_add <| o_ll 5 <| o_jsk 60 6000 <| o_rv QR
set_option maxRecDepth 8000 in
theorem s_M_lay_0 {l : Launch} {ad : Nat → Nat} {D : va_G} {cA : Nat → ClassId} {WW : Nat → qP} {QR : Option qA → qS → Prop} (S : qSnd l rm_M_lay ad D cA R_M b_M_lay 7 WW) (Q : qRet (none) b_M_lay WW QR) : qle (k_M_lay_0 QR WW) WW 0 :=
  S.aload_n d_M_lay_0 rfl <| S.gA fl_M_129 (by decide) d_M_lay_1 <| S.iload_n d_M_lay_4 rfl <| S.sipush d_M_lay_5 (by decide) <| S.imul d_M_lay_8 <| S.iload_n d_M_lay_9 rfl <| S.iadd d_M_lay_10 <| S.lload_n d_M_lay_11 rfl <| S.jsk (by decide) d_M_lay_12 <| S.aload_n d_M_lay_13 rfl <| S.gA fl_M_132 (by decide) d_M_lay_14 <| S.iload_n d_M_lay_17 rfl <| S.sipush d_M_lay_18 (by decide) <| S.imul d_M_lay_21 <| S.iload_n d_M_lay_22 rfl <| S.iadd d_M_lay_23 <| S.lload d_M_lay_24 <| S.jsk (by decide) d_M_lay_26 <| Q.2.2.2 rfl _ d_M_lay_27
theorem w_M_lay {l : Launch} {ad : Nat → Nat} {D : va_G} {cA : Nat → ClassId} {WW : Nat → qP} {QR : Option qA → qS → Prop} (S : qSnd l rm_M_lay ad D cA R_M b_M_lay 7 WW) (Q : qRet (none) b_M_lay WW QR) (a1 : Int) (a2 : Int) (a3 : Int) (a4 : Int) (σ : qS) (ha1 : r32 a1) (ha2 : r32 a2) (ha3 : r64 a3) (ha4 : r64 a4) (hσ : qoS σ) (h : P_M_lay a1 a2 a3 a4 σ) (hq : ∀ σ', Q_M_lay a1 a2 a3 a4 σ σ' → QR none σ') : WW 0 [] [some (.inr (.inr 900)), some (.inl a1), some (.inl a2), some (.inr (.inl a3)), none, some (.inr (.inl a4)), none] σ := by
  refine s_M_lay_0 S Q _ _ _ ?_
  simp only [k_M_lay_0, o_c, o_il, o_ll, o_al, o_is, o_as, o_ls, o_inc, o_bi, o_bid, o_bl, o_bld, o_sl, o_i2l, o_l2i, o_dup, o_dup2, o_pop, o_pop2, o_if, o_i2, o_l2, swg, o_sw, o_gI, o_gZ, o_gJ, o_gA, o_gR, o_pI, o_pZ, o_pJ, o_pR, o_ia, o_iak, o_zak, o_ja, o_jak, o_is_, o_isk, o_zsk, o_js_, o_jsk, o_len, o_ri, o_rz, o_rl, o_rv, ls1, ls2, lks, lkj, List.getD_cons_zero, List.getD_cons_succ, List.set_cons_zero, List.set_cons_succ, qcat, true_and, and_true, List.map_nil, List.map_cons, List.sum_nil, List.sum_cons, Nat.reduceAdd, Nat.reduceLeDiff, Nat.zero_le, Int.reduceAdd, Int.reduceNeg, Int.reduceEq, or_true, true_or, Decidable.not_not]
  obtain ⟨h1, h2⟩ := h
  have e : z_add (z_mul a1 1000) a2 = a1 * 1000 + a2 := by unfold z_add z_mul; rw [w32_i (a1 * 1000) (by omega) (by omega), w32_i _ (by omega) (by omega)]
  rw [e]
  exact ⟨by omega, by omega, hq _ rfl⟩
theorem c_M_lay (l : Launch) (ad : Nat → Nat) (D : va_G) (cA : Nat → ClassId) : qC l ad D cA y_M_lay (Cond.code y_M_lay b_M_lay 7 (none) :: lw_g) rm_M_lay pre_M_lay post_M_lay := by
  refine qC_of (own := R_M) (by decide) rfl ⟨rfl, rfl⟩ ?_ ?_
  · intro av σ h; unfold pre_M_lay at h; split at h
    · simp [qen]
    · exact h.elim
  · intro WW QR S Q av σ hav hσ h hq; unfold pre_M_lay at h; split at h
    next o a1 a2 a3 a4 =>
      obtain ⟨rfl, h⟩ := h
      exact w_M_lay S Q a1 a2 a3 a4 σ (hav _ (List.mem_of_getElem? (i := 1) rfl)) (hav _ (List.mem_of_getElem? (i := 2) rfl)) (hav _ (List.mem_of_getElem? (i := 3) rfl)) (hav _ (List.mem_of_getElem? (i := 4) rfl)) hσ h (fun σ' h' => hq _ σ' h')
    next => exact h.elim
theorem tmod_fl (a n : Int) (h1 : 1 ≤ n) (h2 : n ≤ 6) : (0 ≤ a.tmod n → a.tmod n = a % n) ∧ (a.tmod n < 0 → a.tmod n + n = a % n) ∧ -6 < a.tmod n ∧ a.tmod n < 6 := by
  rcases Int.le_total 0 a with h0 | h0
  · rw [Int.tmod_eq_emod_of_nonneg h0]
    have := Int.emod_nonneg a (b := n) (by omega)
    have := Int.emod_lt_of_pos a (b := n) (by omega)
    omega
  · have e : a.tmod n = -((-a) % n) := by
      have : (-a).tmod n = (-a) % n := Int.tmod_eq_emod_of_nonneg (by omega)
      rw [Int.neg_tmod] at this; omega
    rw [e]
    rcases (show n = 1 ∨ n = 2 ∨ n = 3 ∨ n = 4 ∨ n = 5 ∨ n = 6 by omega) with rfl | rfl | rfl | rfl | rfl | rfl <;> omega
def prt (σ : qS) (k : Int) : Int := k % σ 13 (jb σ)
def P_M_partOf (_k : Int) (σ : qS) : Prop := jobok σ
def Q_M_partOf (k : Int) (σ : qS) (r : Int) (σ' : qS) : Prop := σ' = σ ∧ r = prt σ k
def pre_M_partOf (av : List qA) (σ : qS) : Prop := match av with
  | [.inr (.inr o), .inr (.inl a1)] => o = 900 ∧ P_M_partOf a1 σ
  | _ => False
def post_M_partOf (av : List qA) (σ : qS) (r : Option qA) (σ' : qS) : Prop := match av, r with
  | [_, .inr (.inl a1)], some (.inl r) => Q_M_partOf a1 σ r σ'
  | _, _ => False
def oc_M_partOf (K : qP) : qP := fun st ls σ => match st with
  | .inr (.inl a1) :: .inr (.inr o) :: st => o = 900 ∧ (st.map qcat).sum ≤ 8 ∧ P_M_partOf a1 σ ∧ ∀ (r : Int) (σ' : qS), Q_M_partOf a1 σ r σ' → K (.inl r :: st) ls σ'
  | _ => False
def rm_M_partOf : Room := { frames := 1, cells := 0, slots := 0, locals := 20 }
theorem fl_M_48 : qF R_M 900 0 82 0 R_M F_M 48 13 := ⟨Or.inl ⟨rfl, rfl, rfl, rfl, rfl, rfl⟩, by decide, lw_at 91 (by decide +kernel) rfl⟩
def k_M_partOf_31 (QR : Option qA → qS → Prop) (H : Nat → qP) : qP :=
  o_ri QR
def k_M_partOf_29 (QR : Option qA → qS → Prop) (H : Nat → qP) : qP :=
  o_il 4 <| k_M_partOf_31 QR H
def k_M_partOf_22 (QR : Option qA → qS → Prop) (H : Nat → qP) : qP :=
  o_il 4 <| o_il 3 <| o_bi z_add <| k_M_partOf_31 QR H
def k_M_partOf_0 (QR : Option qA → qS → Prop) (H : Nat → qP) : qP :=
  o_al 0 <| o_gA 900 13 <| o_al 0 <| oc_M_job <| o_iak 13 8 <| o_is 3 <| o_ll 1 <| o_il 3 <| o_i2l <| o_bld y_rem <| o_l2i <| o_is 4 <| o_il 4 <| o_if (fun a => 0 ≤ a) (k_M_partOf_29 QR H) (k_M_partOf_22 QR H)
set_option maxRecDepth 8000 in
theorem s_M_partOf_31 {l : Launch} {ad : Nat → Nat} {D : va_G} {cA : Nat → ClassId} {WW : Nat → qP} {QR : Option qA → qS → Prop} (S : qSnd l rm_M_partOf ad D cA R_M b_M_partOf 5 WW) (Q : qRet (some .int) b_M_partOf WW QR) : qle (k_M_partOf_31 QR WW) WW 31 :=
  Q.1 rfl _ d_M_partOf_31
set_option maxRecDepth 8000 in
theorem s_M_partOf_29 {l : Launch} {ad : Nat → Nat} {D : va_G} {cA : Nat → ClassId} {WW : Nat → qP} {QR : Option qA → qS → Prop} (S : qSnd l rm_M_partOf ad D cA R_M b_M_partOf 5 WW) (Q : qRet (some .int) b_M_partOf WW QR) : qle (k_M_partOf_29 QR WW) WW 29 :=
  S.iload d_M_partOf_29 <| (s_M_partOf_31 S Q)
set_option maxRecDepth 8000 in
theorem s_M_partOf_22 {l : Launch} {ad : Nat → Nat} {D : va_G} {cA : Nat → ClassId} {WW : Nat → qP} {QR : Option qA → qS → Prop} (S : qSnd l rm_M_partOf ad D cA R_M b_M_partOf 5 WW) (Q : qRet (some .int) b_M_partOf WW QR) : qle (k_M_partOf_22 QR WW) WW 22 :=
  S.iload d_M_partOf_22 <| S.iload_n d_M_partOf_24 rfl <| S.iadd d_M_partOf_25 <| S.goto d_M_partOf_26 (by decide) (s_M_partOf_31 S Q)
set_option maxRecDepth 8000 in
theorem s_M_partOf_0 {l : Launch} {ad : Nat → Nat} {D : va_G} {cA : Nat → ClassId} {WW : Nat → qP} {QR : Option qA → qS → Prop} (S : qSnd l rm_M_partOf ad D cA R_M b_M_partOf 5 WW) (Q : qRet (some .int) b_M_partOf WW QR) : qle (k_M_partOf_0 QR WW) WW 0 :=
  S.aload_n d_M_partOf_0 rfl <| S.gA fl_M_48 (by decide) d_M_partOf_1 <| S.aload_n d_M_partOf_4 rfl <| sc_M_256 S (by decide) d_M_partOf_5 <| S.iak (by decide) d_M_partOf_8 <| S.istore_n d_M_partOf_9 rfl (by decide) <| S.lload_n d_M_partOf_10 rfl <| S.iload_n d_M_partOf_11 rfl <| S.i2l d_M_partOf_12 <| S.lrem d_M_partOf_13 <| S.l2i d_M_partOf_14 <| S.istore d_M_partOf_15 (by decide) <| S.iload d_M_partOf_17 <| S.if_ge d_M_partOf_19 (by decide) (s_M_partOf_29 S Q) (s_M_partOf_22 S Q)
theorem w_M_partOf {l : Launch} {ad : Nat → Nat} {D : va_G} {cA : Nat → ClassId} {WW : Nat → qP} {QR : Option qA → qS → Prop} (S : qSnd l rm_M_partOf ad D cA R_M b_M_partOf 5 WW) (Q : qRet (some .int) b_M_partOf WW QR) (a1 : Int) (σ : qS) (ha1 : r64 a1) (hσ : qoS σ) (h : P_M_partOf a1 σ) (hq : ∀ (r : Int) σ', Q_M_partOf a1 σ r σ' → QR (some (.inl r)) σ') : WW 0 [] [some (.inr (.inr 900)), some (.inr (.inl a1)), none, none, none] σ := by
  refine s_M_partOf_0 S Q _ _ _ ?_
  simp only [k_M_partOf_0, k_M_partOf_22, k_M_partOf_29, k_M_partOf_31, oc_M_job, o_c, o_il, o_ll, o_al, o_is, o_as, o_ls, o_inc, o_bi, o_bid, o_bl, o_bld, o_sl, o_i2l, o_l2i, o_dup, o_dup2, o_pop, o_pop2, o_if, o_i2, o_l2, swg, o_sw, o_gI, o_gZ, o_gJ, o_gA, o_gR, o_pI, o_pZ, o_pJ, o_pR, o_ia, o_iak, o_zak, o_ja, o_jak, o_is_, o_isk, o_zsk, o_js_, o_jsk, o_len, o_ri, o_rz, o_rl, o_rv, ls1, ls2, lks, lkj, List.getD_cons_zero, List.getD_cons_succ, List.set_cons_zero, List.set_cons_succ, qcat, true_and, and_true, List.map_nil, List.map_cons, List.sum_nil, List.sum_cons, Nat.reduceAdd, Nat.reduceLeDiff, Nat.zero_le, Int.reduceAdd, Int.reduceNeg, Int.reduceEq, or_true, true_or, Decidable.not_not]
  obtain ⟨h1, h2, h3, h4, h5, h6, h7⟩ := h
  refine ⟨h1, fun r σ1 q1 => ?_⟩
  obtain ⟨rfl, rfl⟩ := q1
  have ht := tmod_fl a1 (σ1 13 (jb σ1)) h6.1 h6.2
  unfold y_rem
  rw [w32_i (a1.tmod (σ1 13 (jb σ1))) (by omega) (by omega)]
  refine ⟨h2, by omega, fun hz => hq _ _ ⟨rfl, ?_⟩, fun hz => hq _ _ ⟨rfl, ?_⟩⟩
  · unfold prt; omega
  · unfold z_add; rw [w32_i _ (by omega) (by omega)]; unfold prt; omega
theorem c_M_partOf (l : Launch) (ad : Nat → Nat) (D : va_G) (cA : Nat → ClassId) : qC l ad D cA y_M_partOf (Cond.code y_M_partOf b_M_partOf 5 (some .int) :: lw_g) rm_M_partOf pre_M_partOf post_M_partOf := by
  refine qC_of (own := R_M) (by decide) rfl ⟨rfl, rfl⟩ ?_ ?_
  · intro av σ h; unfold pre_M_partOf at h; split at h
    · simp [qen]
    · exact h.elim
  · intro WW QR S Q av σ hav hσ h hq; unfold pre_M_partOf at h; split at h
    next o a1 =>
      obtain ⟨rfl, h⟩ := h
      exact w_M_partOf S Q a1 σ (hav _ (List.mem_of_getElem? (i := 1) rfl)) hσ h (fun r σ' h' => hq _ σ' h')
    next => exact h.elim
def nxj (σ : qS) : qS := if σ 32 0 = σ 30 0 then su σ 27 0 0 else su (ra (ra (su σ 31 0 (σ 31 0 + 1)) 33 0 38 (fun _ => -1)) 35 0 6 (fun _ => 0)) 36 0 0
def P_M_nextJob (σ : qS) : Prop := 0 ≤ σ 31 0 ∧ σ 31 0 < 2000000000
def Q_M_nextJob (σ σ' : qS) : Prop := σ' = nxj σ
def pre_M_nextJob (av : List qA) (σ : qS) : Prop := match av with
  | [.inr (.inr o)] => o = 900 ∧ P_M_nextJob  σ
  | _ => False
def post_M_nextJob (av : List qA) (σ : qS) (r : Option qA) (σ' : qS) : Prop := match av, r with
  | [_], none => Q_M_nextJob  σ σ'
  | _, _ => False
def oc_M_nextJob (K : qP) : qP := fun st ls σ => match st with
  | .inr (.inr o) :: st => o = 900 ∧ (st.map qcat).sum ≤ 8 ∧ P_M_nextJob  σ ∧ ∀ (σ' : qS), Q_M_nextJob  σ σ' → K st ls σ'
  | _ => False
def rm_M_nextJob : Room := { frames := 0, cells := 0, slots := 0, locals := 0 }
theorem fl_M_264 : qF R_M 900 0 82 0 R_M F_M 264 30 := ⟨Or.inl ⟨rfl, rfl, rfl, rfl, rfl, rfl⟩, by decide, lw_at 108 (by decide +kernel) rfl⟩
theorem fl_M_270 : qF R_M 900 0 82 0 R_M F_M 270 31 := ⟨Or.inl ⟨rfl, rfl, rfl, rfl, rfl, rfl⟩, by decide, lw_at 109 (by decide +kernel) rfl⟩
theorem fl_M_273 : qF R_M 900 0 82 0 R_M F_M 273 36 := ⟨Or.inl ⟨rfl, rfl, rfl, rfl, rfl, rfl⟩, by decide, lw_at 114 (by decide +kernel) rfl⟩
def k_M_nextJob_69 (QR : Option qA → qS → Prop) (H : Nat → qP) : qP :=
  o_al 0 <| o_c (.inl 0) <| o_pZ 900 36 <| o_rv QR
def k_M_nextJob_56 (QR : Option qA → qS → Prop) (H : Nat → qP) : qP :=
  o_al 0 <| o_gA 900 35 <| o_il 1 <| o_c (.inl 0) <| o_zsk 35 6 <| o_inc 1 1 <| H 50
def k_M_nextJob_50 (QR : Option qA → qS → Prop) (H : Nat → qP) : qP :=
  o_il 1 <| o_c (.inl 6) <| o_i2 (fun a b => b ≤ a) (k_M_nextJob_69 QR H) (k_M_nextJob_56 QR H)
def k_M_nextJob_48 (QR : Option qA → qS → Prop) (H : Nat → qP) : qP :=
  o_c (.inl 0) <| o_is 1 <| H 50
def k_M_nextJob_35 (QR : Option qA → qS → Prop) (H : Nat → qP) : qP :=
  o_al 0 <| o_gA 900 33 <| o_il 1 <| o_c (.inl (-1)) <| o_isk 33 38 <| o_inc 1 1 <| H 29
def k_M_nextJob_29 (QR : Option qA → qS → Prop) (H : Nat → qP) : qP :=
  o_il 1 <| o_c (.inl 38) <| o_i2 (fun a b => b ≤ a) (k_M_nextJob_48 QR H) (k_M_nextJob_35 QR H)
def k_M_nextJob_17 (QR : Option qA → qS → Prop) (H : Nat → qP) : qP :=
  o_al 0 <| o_dup <| o_gI 900 31 <| o_c (.inl 1) <| o_bi z_add <| o_pI 900 31 <| o_c (.inl 0) <| o_is 1 <| H 29
def k_M_nextJob_11 (QR : Option qA → qS → Prop) (H : Nat → qP) : qP :=
  o_al 0 <| o_c (.inl 0) <| o_pZ 900 27 <| o_rv QR
def k_M_nextJob_0 (QR : Option qA → qS → Prop) (H : Nat → qP) : qP :=
  o_al 0 <| o_gI 900 32 <| o_al 0 <| o_gI 900 30 <| o_i2 (fun a b => ¬ a = b) (k_M_nextJob_17 QR H) (k_M_nextJob_11 QR H)
set_option maxRecDepth 8000 in
theorem s_M_nextJob_69 {l : Launch} {ad : Nat → Nat} {D : va_G} {cA : Nat → ClassId} {WW : Nat → qP} {QR : Option qA → qS → Prop} (S : qSnd l rm_M_nextJob ad D cA R_M b_M_nextJob 2 WW) (Q : qRet (none) b_M_nextJob WW QR) : qle (k_M_nextJob_69 QR WW) WW 69 :=
  S.aload_n d_M_nextJob_69 rfl <| S.iconst d_M_nextJob_70 (by decide) <| S.pZ fl_M_273 (by decide) (by decide +kernel) d_M_nextJob_71 <| Q.2.2.2 rfl _ d_M_nextJob_74
set_option maxRecDepth 8000 in
theorem s_M_nextJob_56 {l : Launch} {ad : Nat → Nat} {D : va_G} {cA : Nat → ClassId} {WW : Nat → qP} {QR : Option qA → qS → Prop} (S : qSnd l rm_M_nextJob ad D cA R_M b_M_nextJob 2 WW) (Q : qRet (none) b_M_nextJob WW QR) : qle (k_M_nextJob_56 QR WW) WW 56 :=
  S.aload_n d_M_nextJob_56 rfl <| S.gA fl_M_72 (by decide) d_M_nextJob_57 <| S.iload_n d_M_nextJob_60 rfl <| S.iconst d_M_nextJob_61 (by decide) <| S.zast (by decide) d_M_nextJob_62 <| S.iinc d_M_nextJob_63 (by decide) <| S.goto d_M_nextJob_66 (by decide) (fun _ _ _ h => h)
set_option maxRecDepth 8000 in
theorem s_M_nextJob_50 {l : Launch} {ad : Nat → Nat} {D : va_G} {cA : Nat → ClassId} {WW : Nat → qP} {QR : Option qA → qS → Prop} (S : qSnd l rm_M_nextJob ad D cA R_M b_M_nextJob 2 WW) (Q : qRet (none) b_M_nextJob WW QR) : qle (k_M_nextJob_50 QR WW) WW 50 :=
  S.iload_n d_M_nextJob_50 rfl <| S.bipush d_M_nextJob_51 (by decide) <| S.icmp_ge d_M_nextJob_53 (by decide) (s_M_nextJob_69 S Q) (s_M_nextJob_56 S Q)
set_option maxRecDepth 8000 in
theorem s_M_nextJob_48 {l : Launch} {ad : Nat → Nat} {D : va_G} {cA : Nat → ClassId} {WW : Nat → qP} {QR : Option qA → qS → Prop} (S : qSnd l rm_M_nextJob ad D cA R_M b_M_nextJob 2 WW) (Q : qRet (none) b_M_nextJob WW QR) : qle (k_M_nextJob_48 QR WW) WW 48 :=
  S.iconst d_M_nextJob_48 (by decide) <| S.istore_n d_M_nextJob_49 rfl (by decide) <| (fun _ _ _ h => h)
set_option maxRecDepth 8000 in
theorem s_M_nextJob_35 {l : Launch} {ad : Nat → Nat} {D : va_G} {cA : Nat → ClassId} {WW : Nat → qP} {QR : Option qA → qS → Prop} (S : qSnd l rm_M_nextJob ad D cA R_M b_M_nextJob 2 WW) (Q : qRet (none) b_M_nextJob WW QR) : qle (k_M_nextJob_35 QR WW) WW 35 :=
  S.aload_n d_M_nextJob_35 rfl <| S.gA fl_M_66 (by decide) d_M_nextJob_36 <| S.iload_n d_M_nextJob_39 rfl <| S.iconst d_M_nextJob_40 (by decide) <| S.isk (by decide) d_M_nextJob_41 <| S.iinc d_M_nextJob_42 (by decide) <| S.goto d_M_nextJob_45 (by decide) (fun _ _ _ h => h)
set_option maxRecDepth 8000 in
theorem s_M_nextJob_29 {l : Launch} {ad : Nat → Nat} {D : va_G} {cA : Nat → ClassId} {WW : Nat → qP} {QR : Option qA → qS → Prop} (S : qSnd l rm_M_nextJob ad D cA R_M b_M_nextJob 2 WW) (Q : qRet (none) b_M_nextJob WW QR) : qle (k_M_nextJob_29 QR WW) WW 29 :=
  S.iload_n d_M_nextJob_29 rfl <| S.bipush d_M_nextJob_30 (by decide) <| S.icmp_ge d_M_nextJob_32 (by decide) (s_M_nextJob_48 S Q) (s_M_nextJob_35 S Q)
set_option maxRecDepth 8000 in
theorem s_M_nextJob_17 {l : Launch} {ad : Nat → Nat} {D : va_G} {cA : Nat → ClassId} {WW : Nat → qP} {QR : Option qA → qS → Prop} (S : qSnd l rm_M_nextJob ad D cA R_M b_M_nextJob 2 WW) (Q : qRet (none) b_M_nextJob WW QR) : qle (k_M_nextJob_17 QR WW) WW 17 :=
  S.aload_n d_M_nextJob_17 rfl <| S.dup d_M_nextJob_18 <| S.gI fl_M_270 (by decide) d_M_nextJob_19 <| S.iconst d_M_nextJob_22 (by decide) <| S.iadd d_M_nextJob_23 <| S.pI fl_M_270 (by decide) (by decide +kernel) d_M_nextJob_24 <| S.iconst d_M_nextJob_27 (by decide) <| S.istore_n d_M_nextJob_28 rfl (by decide) <| (fun _ _ _ h => h)
set_option maxRecDepth 8000 in
theorem s_M_nextJob_11 {l : Launch} {ad : Nat → Nat} {D : va_G} {cA : Nat → ClassId} {WW : Nat → qP} {QR : Option qA → qS → Prop} (S : qSnd l rm_M_nextJob ad D cA R_M b_M_nextJob 2 WW) (Q : qRet (none) b_M_nextJob WW QR) : qle (k_M_nextJob_11 QR WW) WW 11 :=
  S.aload_n d_M_nextJob_11 rfl <| S.iconst d_M_nextJob_12 (by decide) <| S.pZ fl_M_267 (by decide) (by decide +kernel) d_M_nextJob_13 <| Q.2.2.2 rfl _ d_M_nextJob_16
set_option maxRecDepth 8000 in
theorem s_M_nextJob_0 {l : Launch} {ad : Nat → Nat} {D : va_G} {cA : Nat → ClassId} {WW : Nat → qP} {QR : Option qA → qS → Prop} (S : qSnd l rm_M_nextJob ad D cA R_M b_M_nextJob 2 WW) (Q : qRet (none) b_M_nextJob WW QR) : qle (k_M_nextJob_0 QR WW) WW 0 :=
  S.aload_n d_M_nextJob_0 rfl <| S.gI fl_M_253 (by decide) d_M_nextJob_1 <| S.aload_n d_M_nextJob_4 rfl <| S.gI fl_M_264 (by decide) d_M_nextJob_5 <| S.icmp_ne d_M_nextJob_8 (by decide) (s_M_nextJob_17 S Q) (s_M_nextJob_11 S Q)
theorem v_M_nextJob_50 {l : Launch} {ad : Nat → Nat} {D : va_G} {cA : Nat → ClassId} {WW : Nat → qP} {QR : Option qA → qS → Prop} (S : qSnd l rm_M_nextJob ad D cA R_M b_M_nextJob 2 WW) (Q : qRet (none) b_M_nextJob WW QR) (σ : qS) (hq : QR none (su (ra σ 35 0 6 (fun _ => 0)) 36 0 0)) : ∀ (n k : Nat), k + n = 6 → WW 50 [] [some (.inr (.inr 900)), some (.inl k)] (ra σ 35 0 k (fun _ => 0)) := by
  intro n
  induction n with
  | zero =>
    intro k hk
    refine s_M_nextJob_50 S Q _ _ _ ?_
    simp only [k_M_nextJob_0, k_M_nextJob_11, k_M_nextJob_17, k_M_nextJob_29, k_M_nextJob_35, k_M_nextJob_48, k_M_nextJob_50, k_M_nextJob_56, k_M_nextJob_69, o_c, o_il, o_ll, o_al, o_is, o_as, o_ls, o_inc, o_bi, o_bid, o_bl, o_bld, o_sl, o_i2l, o_l2i, o_dup, o_dup2, o_pop, o_pop2, o_if, o_i2, o_l2, swg, o_sw, o_gI, o_gZ, o_gJ, o_gA, o_gR, o_pI, o_pZ, o_pJ, o_pR, o_ia, o_iak, o_zak, o_ja, o_jak, o_is_, o_isk, o_zsk, o_js_, o_jsk, o_len, o_ri, o_rz, o_rl, o_rv, ls1, ls2, lks, lkj, List.getD_cons_zero, List.getD_cons_succ, List.set_cons_zero, List.set_cons_succ, qcat, true_and, and_true, List.map_nil, List.map_cons, List.sum_nil, List.sum_cons, Nat.reduceAdd, Nat.reduceLeDiff, Nat.zero_le, Int.reduceAdd, Int.reduceNeg, Int.reduceEq, or_true, true_or, Decidable.not_not]
    have : (k : Int) = 6 := by omega
    rw [this]
    exact ⟨fun _ => hq, fun h => by omega⟩
  | succ n ih =>
    intro k hk
    refine s_M_nextJob_50 S Q _ _ _ ?_
    simp only [k_M_nextJob_0, k_M_nextJob_11, k_M_nextJob_17, k_M_nextJob_29, k_M_nextJob_35, k_M_nextJob_48, k_M_nextJob_50, k_M_nextJob_56, k_M_nextJob_69, o_c, o_il, o_ll, o_al, o_is, o_as, o_ls, o_inc, o_bi, o_bid, o_bl, o_bld, o_sl, o_i2l, o_l2i, o_dup, o_dup2, o_pop, o_pop2, o_if, o_i2, o_l2, swg, o_sw, o_gI, o_gZ, o_gJ, o_gA, o_gR, o_pI, o_pZ, o_pJ, o_pR, o_ia, o_iak, o_zak, o_ja, o_jak, o_is_, o_isk, o_zsk, o_js_, o_jsk, o_len, o_ri, o_rz, o_rl, o_rv, ls1, ls2, lks, lkj, List.getD_cons_zero, List.getD_cons_succ, List.set_cons_zero, List.set_cons_succ, qcat, true_and, and_true, List.map_nil, List.map_cons, List.sum_nil, List.sum_cons, Nat.reduceAdd, Nat.reduceLeDiff, Nat.zero_le, Int.reduceAdd, Int.reduceNeg, Int.reduceEq, or_true, true_or, Decidable.not_not]
    refine ⟨fun h => by omega, fun h => ⟨by omega, ?_⟩⟩
    rw [w32_i _ (by omega) (by omega), ra_s (by omega) rfl]
    exact ih (k + 1) (by omega)
theorem v_M_nextJob_29 {l : Launch} {ad : Nat → Nat} {D : va_G} {cA : Nat → ClassId} {WW : Nat → qP} {QR : Option qA → qS → Prop} (S : qSnd l rm_M_nextJob ad D cA R_M b_M_nextJob 2 WW) (Q : qRet (none) b_M_nextJob WW QR) (σ : qS) (hq : QR none (su (ra (ra σ 33 0 38 (fun _ => -1)) 35 0 6 (fun _ => 0)) 36 0 0)) : ∀ (n k : Nat), k + n = 38 → WW 29 [] [some (.inr (.inr 900)), some (.inl k)] (ra σ 33 0 k (fun _ => -1)) := by
  intro n
  induction n with
  | zero =>
    intro k hk
    refine s_M_nextJob_29 S Q _ _ _ ?_
    simp only [k_M_nextJob_0, k_M_nextJob_11, k_M_nextJob_17, k_M_nextJob_29, k_M_nextJob_35, k_M_nextJob_48, k_M_nextJob_50, k_M_nextJob_56, k_M_nextJob_69, o_c, o_il, o_ll, o_al, o_is, o_as, o_ls, o_inc, o_bi, o_bid, o_bl, o_bld, o_sl, o_i2l, o_l2i, o_dup, o_dup2, o_pop, o_pop2, o_if, o_i2, o_l2, swg, o_sw, o_gI, o_gZ, o_gJ, o_gA, o_gR, o_pI, o_pZ, o_pJ, o_pR, o_ia, o_iak, o_zak, o_ja, o_jak, o_is_, o_isk, o_zsk, o_js_, o_jsk, o_len, o_ri, o_rz, o_rl, o_rv, ls1, ls2, lks, lkj, List.getD_cons_zero, List.getD_cons_succ, List.set_cons_zero, List.set_cons_succ, qcat, true_and, and_true, List.map_nil, List.map_cons, List.sum_nil, List.sum_cons, Nat.reduceAdd, Nat.reduceLeDiff, Nat.zero_le, Int.reduceAdd, Int.reduceNeg, Int.reduceEq, or_true, true_or, Decidable.not_not]
    have : (k : Int) = 38 := by omega
    rw [this]
    refine ⟨fun _ => ?_, fun h => by omega⟩
    have := v_M_nextJob_50 S Q (ra σ 33 0 38 (fun _ => -1)) hq 6 0 rfl
    rw [ra_0 (by simp)] at this
    exact this
  | succ n ih =>
    intro k hk
    refine s_M_nextJob_29 S Q _ _ _ ?_
    simp only [k_M_nextJob_0, k_M_nextJob_11, k_M_nextJob_17, k_M_nextJob_29, k_M_nextJob_35, k_M_nextJob_48, k_M_nextJob_50, k_M_nextJob_56, k_M_nextJob_69, o_c, o_il, o_ll, o_al, o_is, o_as, o_ls, o_inc, o_bi, o_bid, o_bl, o_bld, o_sl, o_i2l, o_l2i, o_dup, o_dup2, o_pop, o_pop2, o_if, o_i2, o_l2, swg, o_sw, o_gI, o_gZ, o_gJ, o_gA, o_gR, o_pI, o_pZ, o_pJ, o_pR, o_ia, o_iak, o_zak, o_ja, o_jak, o_is_, o_isk, o_zsk, o_js_, o_jsk, o_len, o_ri, o_rz, o_rl, o_rv, ls1, ls2, lks, lkj, List.getD_cons_zero, List.getD_cons_succ, List.set_cons_zero, List.set_cons_succ, qcat, true_and, and_true, List.map_nil, List.map_cons, List.sum_nil, List.sum_cons, Nat.reduceAdd, Nat.reduceLeDiff, Nat.zero_le, Int.reduceAdd, Int.reduceNeg, Int.reduceEq, or_true, true_or, Decidable.not_not]
    refine ⟨fun h => by omega, fun h => ⟨by omega, ?_⟩⟩
    rw [w32_i _ (by omega) (by omega), ra_s (by omega) rfl]
    exact ih (k + 1) (by omega)
theorem w_M_nextJob {l : Launch} {ad : Nat → Nat} {D : va_G} {cA : Nat → ClassId} {WW : Nat → qP} {QR : Option qA → qS → Prop} (S : qSnd l rm_M_nextJob ad D cA R_M b_M_nextJob 2 WW) (Q : qRet (none) b_M_nextJob WW QR)  (σ : qS)  (hσ : qoS σ) (h : P_M_nextJob  σ) (hq : ∀ σ', Q_M_nextJob  σ σ' → QR none σ') : WW 0 [] [some (.inr (.inr 900)), none] σ := by
  refine s_M_nextJob_0 S Q _ _ _ ?_
  simp only [k_M_nextJob_0, k_M_nextJob_11, k_M_nextJob_17, k_M_nextJob_29, k_M_nextJob_35, k_M_nextJob_48, k_M_nextJob_50, k_M_nextJob_56, k_M_nextJob_69, o_c, o_il, o_ll, o_al, o_is, o_as, o_ls, o_inc, o_bi, o_bid, o_bl, o_bld, o_sl, o_i2l, o_l2i, o_dup, o_dup2, o_pop, o_pop2, o_if, o_i2, o_l2, swg, o_sw, o_gI, o_gZ, o_gJ, o_gA, o_gR, o_pI, o_pZ, o_pJ, o_pR, o_ia, o_iak, o_zak, o_ja, o_jak, o_is_, o_isk, o_zsk, o_js_, o_jsk, o_len, o_ri, o_rz, o_rl, o_rv, ls1, ls2, lks, lkj, List.getD_cons_zero, List.getD_cons_succ, List.set_cons_zero, List.set_cons_succ, qcat, true_and, and_true, List.map_nil, List.map_cons, List.sum_nil, List.sum_cons, Nat.reduceAdd, Nat.reduceLeDiff, Nat.zero_le, Int.reduceAdd, Int.reduceNeg, Int.reduceEq, or_true, true_or, Decidable.not_not]
  obtain ⟨h1, h2⟩ := h
  refine ⟨fun e => ?_, fun e => hq _ ?_⟩
  · have hn : nxj σ = su (ra (ra (su σ 31 0 (σ 31 0 + 1)) 33 0 38 (fun _ => -1)) 35 0 6 (fun _ => 0)) 36 0 0 := by unfold nxj; rw [if_neg e]
    have e2 : z_add (σ 31 0) 1 = σ 31 0 + 1 := by unfold z_add; exact w32_i _ (by omega) (by omega)
    rw [e2]
    have := v_M_nextJob_29 S Q (su σ 31 0 (σ 31 0 + 1)) (by rw [← hn]; exact hq _ rfl) 38 0 rfl
    rw [ra_0 (by simp)] at this
    exact this
  · unfold Q_M_nextJob nxj; rw [if_pos e]
theorem c_M_nextJob (l : Launch) (ad : Nat → Nat) (D : va_G) (cA : Nat → ClassId) : qC l ad D cA y_M_nextJob (Cond.code y_M_nextJob b_M_nextJob 2 (none) :: lw_g) rm_M_nextJob pre_M_nextJob post_M_nextJob := by
  refine qC_of (own := R_M) (by decide) rfl ⟨rfl, rfl⟩ ?_ ?_
  · intro av σ h; unfold pre_M_nextJob at h; split at h
    · simp [qen]
    · exact h.elim
  · intro WW QR S Q av σ hav hσ h hq; unfold pre_M_nextJob at h; split at h
    next o =>
      obtain ⟨rfl, h⟩ := h
      exact w_M_nextJob S Q  σ  hσ h (fun σ' h' => hq _ σ' h')
    next => exact h.elim
def rnw (σ : qS) (w : Int) : qS := if σ 54 w = σ 31 0 then σ else ra (su (su σ 54 w (σ 31 0)) 55 w 0) 56 (w * 38) (w * 38 + 38) (fun _ => -1)
def P_M_renew (w : Int) (_σ : qS) : Prop := 0 ≤ w ∧ w < 6
def Q_M_renew (w : Int) (σ σ' : qS) : Prop := σ' = rnw σ w
def pre_M_renew (av : List qA) (σ : qS) : Prop := match av with
  | [.inr (.inr o), .inl a1] => o = 900 ∧ P_M_renew a1 σ
  | _ => False
def post_M_renew (av : List qA) (σ : qS) (r : Option qA) (σ' : qS) : Prop := match av, r with
  | [_, .inl a1], none => Q_M_renew a1 σ σ'
  | _, _ => False
def oc_M_renew (K : qP) : qP := fun st ls σ => match st with
  | .inl a1 :: .inr (.inr o) :: st => o = 900 ∧ (st.map qcat).sum ≤ 8 ∧ P_M_renew a1 σ ∧ ∀ (σ' : qS), Q_M_renew a1 σ σ' → K st ls σ'
  | _ => False
def rm_M_renew : Room := { frames := 0, cells := 0, slots := 0, locals := 0 }
theorem fl_M_114 : qF R_M 900 0 82 0 R_M F_M 114 54 := ⟨Or.inl ⟨rfl, rfl, rfl, rfl, rfl, rfl⟩, by decide, lw_at 132 (by decide +kernel) rfl⟩
theorem fl_M_117 : qF R_M 900 0 82 0 R_M F_M 117 55 := ⟨Or.inl ⟨rfl, rfl, rfl, rfl, rfl, rfl⟩, by decide, lw_at 133 (by decide +kernel) rfl⟩
theorem fl_M_120 : qF R_M 900 0 82 0 R_M F_M 120 56 := ⟨Or.inl ⟨rfl, rfl, rfl, rfl, rfl, rfl⟩, by decide, lw_at 134 (by decide +kernel) rfl⟩
def k_M_renew_57 (QR : Option qA → qS → Prop) (H : Nat → qP) : qP :=
  o_rv QR
def k_M_renew_39 (QR : Option qA → qS → Prop) (H : Nat → qP) : qP :=
  o_al 0 <| o_gA 900 56 <| o_il 1 <| o_c (.inl 38) <| o_bi z_mul <| o_il 2 <| o_bi z_add <| o_c (.inl (-1)) <| o_isk 56 228 <| o_inc 2 1 <| H 33
def k_M_renew_33 (QR : Option qA → qS → Prop) (H : Nat → qP) : qP :=
  o_il 2 <| o_c (.inl 38) <| o_i2 (fun a b => b ≤ a) (k_M_renew_57 QR H) (k_M_renew_39 QR H)
def k_M_renew_14 (QR : Option qA → qS → Prop) (H : Nat → qP) : qP :=
  o_al 0 <| o_gA 900 54 <| o_il 1 <| o_al 0 <| o_gI 900 31 <| o_isk 54 6 <| o_al 0 <| o_gA 900 55 <| o_il 1 <| o_c (.inl 0) <| o_isk 55 6 <| o_c (.inl 0) <| o_is 2 <| H 33
def k_M_renew_13 (QR : Option qA → qS → Prop) (H : Nat → qP) : qP :=
  o_rv QR
def k_M_renew_0 (QR : Option qA → qS → Prop) (H : Nat → qP) : qP :=
  o_al 0 <| o_gA 900 54 <| o_il 1 <| o_iak 54 6 <| o_al 0 <| o_gI 900 31 <| o_i2 (fun a b => ¬ a = b) (k_M_renew_14 QR H) (k_M_renew_13 QR H)
set_option maxRecDepth 8000 in
theorem s_M_renew_57 {l : Launch} {ad : Nat → Nat} {D : va_G} {cA : Nat → ClassId} {WW : Nat → qP} {QR : Option qA → qS → Prop} (S : qSnd l rm_M_renew ad D cA R_M b_M_renew 3 WW) (Q : qRet (none) b_M_renew WW QR) : qle (k_M_renew_57 QR WW) WW 57 :=
  Q.2.2.2 rfl _ d_M_renew_57
set_option maxRecDepth 8000 in
theorem s_M_renew_39 {l : Launch} {ad : Nat → Nat} {D : va_G} {cA : Nat → ClassId} {WW : Nat → qP} {QR : Option qA → qS → Prop} (S : qSnd l rm_M_renew ad D cA R_M b_M_renew 3 WW) (Q : qRet (none) b_M_renew WW QR) : qle (k_M_renew_39 QR WW) WW 39 :=
  S.aload_n d_M_renew_39 rfl <| S.gA fl_M_120 (by decide) d_M_renew_40 <| S.iload_n d_M_renew_43 rfl <| S.bipush d_M_renew_44 (by decide) <| S.imul d_M_renew_46 <| S.iload_n d_M_renew_47 rfl <| S.iadd d_M_renew_48 <| S.iconst d_M_renew_49 (by decide) <| S.isk (by decide) d_M_renew_50 <| S.iinc d_M_renew_51 (by decide) <| S.goto d_M_renew_54 (by decide) (fun _ _ _ h => h)
set_option maxRecDepth 8000 in
theorem s_M_renew_33 {l : Launch} {ad : Nat → Nat} {D : va_G} {cA : Nat → ClassId} {WW : Nat → qP} {QR : Option qA → qS → Prop} (S : qSnd l rm_M_renew ad D cA R_M b_M_renew 3 WW) (Q : qRet (none) b_M_renew WW QR) : qle (k_M_renew_33 QR WW) WW 33 :=
  S.iload_n d_M_renew_33 rfl <| S.bipush d_M_renew_34 (by decide) <| S.icmp_ge d_M_renew_36 (by decide) (s_M_renew_57 S Q) (s_M_renew_39 S Q)
set_option maxRecDepth 8000 in
theorem s_M_renew_14 {l : Launch} {ad : Nat → Nat} {D : va_G} {cA : Nat → ClassId} {WW : Nat → qP} {QR : Option qA → qS → Prop} (S : qSnd l rm_M_renew ad D cA R_M b_M_renew 3 WW) (Q : qRet (none) b_M_renew WW QR) : qle (k_M_renew_14 QR WW) WW 14 :=
  S.aload_n d_M_renew_14 rfl <| S.gA fl_M_114 (by decide) d_M_renew_15 <| S.iload_n d_M_renew_18 rfl <| S.aload_n d_M_renew_19 rfl <| S.gI fl_M_270 (by decide) d_M_renew_20 <| S.isk (by decide) d_M_renew_23 <| S.aload_n d_M_renew_24 rfl <| S.gA fl_M_117 (by decide) d_M_renew_25 <| S.iload_n d_M_renew_28 rfl <| S.iconst d_M_renew_29 (by decide) <| S.isk (by decide) d_M_renew_30 <| S.iconst d_M_renew_31 (by decide) <| S.istore_n d_M_renew_32 rfl (by decide) <| (fun _ _ _ h => h)
set_option maxRecDepth 8000 in
theorem s_M_renew_13 {l : Launch} {ad : Nat → Nat} {D : va_G} {cA : Nat → ClassId} {WW : Nat → qP} {QR : Option qA → qS → Prop} (S : qSnd l rm_M_renew ad D cA R_M b_M_renew 3 WW) (Q : qRet (none) b_M_renew WW QR) : qle (k_M_renew_13 QR WW) WW 13 :=
  Q.2.2.2 rfl _ d_M_renew_13
set_option maxRecDepth 8000 in
theorem s_M_renew_0 {l : Launch} {ad : Nat → Nat} {D : va_G} {cA : Nat → ClassId} {WW : Nat → qP} {QR : Option qA → qS → Prop} (S : qSnd l rm_M_renew ad D cA R_M b_M_renew 3 WW) (Q : qRet (none) b_M_renew WW QR) : qle (k_M_renew_0 QR WW) WW 0 :=
  S.aload_n d_M_renew_0 rfl <| S.gA fl_M_114 (by decide) d_M_renew_1 <| S.iload_n d_M_renew_4 rfl <| S.iak (by decide) d_M_renew_5 <| S.aload_n d_M_renew_6 rfl <| S.gI fl_M_270 (by decide) d_M_renew_7 <| S.icmp_ne d_M_renew_10 (by decide) (s_M_renew_14 S Q) (s_M_renew_13 S Q)
theorem v_M_renew_33 {l : Launch} {ad : Nat → Nat} {D : va_G} {cA : Nat → ClassId} {WW : Nat → qP} {QR : Option qA → qS → Prop} (S : qSnd l rm_M_renew ad D cA R_M b_M_renew 3 WW) (Q : qRet (none) b_M_renew WW QR) (σ : qS) (w : Int) (hw : 0 ≤ w ∧ w < 6) (hq : QR none (ra σ 56 (w * 38) (w * 38 + 38) (fun _ => -1))) : ∀ (n k : Nat), k + n = 38 → WW 33 [] [some (.inr (.inr 900)), some (.inl w), some (.inl k)] (ra σ 56 (w * 38) (w * 38 + k) (fun _ => -1)) := by
  intro n
  induction n with
  | zero =>
    intro k hk
    refine s_M_renew_33 S Q _ _ _ ?_
    simp only [k_M_renew_0, k_M_renew_13, k_M_renew_14, k_M_renew_33, k_M_renew_39, k_M_renew_57, o_c, o_il, o_ll, o_al, o_is, o_as, o_ls, o_inc, o_bi, o_bid, o_bl, o_bld, o_sl, o_i2l, o_l2i, o_dup, o_dup2, o_pop, o_pop2, o_if, o_i2, o_l2, swg, o_sw, o_gI, o_gZ, o_gJ, o_gA, o_gR, o_pI, o_pZ, o_pJ, o_pR, o_ia, o_iak, o_zak, o_ja, o_jak, o_is_, o_isk, o_zsk, o_js_, o_jsk, o_len, o_ri, o_rz, o_rl, o_rv, ls1, ls2, lks, lkj, List.getD_cons_zero, List.getD_cons_succ, List.set_cons_zero, List.set_cons_succ, qcat, true_and, and_true, List.map_nil, List.map_cons, List.sum_nil, List.sum_cons, Nat.reduceAdd, Nat.reduceLeDiff, Nat.zero_le, Int.reduceAdd, Int.reduceNeg, Int.reduceEq, or_true, true_or, Decidable.not_not]
    have : (k : Int) = 38 := by omega
    rw [this]
    exact ⟨fun _ => hq, fun h => by omega⟩
  | succ n ih =>
    intro k hk
    refine s_M_renew_33 S Q _ _ _ ?_
    simp only [k_M_renew_0, k_M_renew_13, k_M_renew_14, k_M_renew_33, k_M_renew_39, k_M_renew_57, o_c, o_il, o_ll, o_al, o_is, o_as, o_ls, o_inc, o_bi, o_bid, o_bl, o_bld, o_sl, o_i2l, o_l2i, o_dup, o_dup2, o_pop, o_pop2, o_if, o_i2, o_l2, swg, o_sw, o_gI, o_gZ, o_gJ, o_gA, o_gR, o_pI, o_pZ, o_pJ, o_pR, o_ia, o_iak, o_zak, o_ja, o_jak, o_is_, o_isk, o_zsk, o_js_, o_jsk, o_len, o_ri, o_rz, o_rl, o_rv, ls1, ls2, lks, lkj, List.getD_cons_zero, List.getD_cons_succ, List.set_cons_zero, List.set_cons_succ, qcat, true_and, and_true, List.map_nil, List.map_cons, List.sum_nil, List.sum_cons, Nat.reduceAdd, Nat.reduceLeDiff, Nat.zero_le, Int.reduceAdd, Int.reduceNeg, Int.reduceEq, or_true, true_or, Decidable.not_not]
    have e : z_add (z_mul w 38) k = w * 38 + k := by unfold z_add z_mul; rw [w32_i (w * 38) (by omega) (by omega), w32_i _ (by omega) (by omega)]
    rw [e]
    refine ⟨fun h => by omega, fun h => ⟨by omega, ?_⟩⟩
    rw [w32_i _ (by omega) (by omega), ra_s (by omega) rfl, show w * 38 + (k : Int) + 1 = w * 38 + ((k + 1 : Nat) : Int) by omega]
    exact ih (k + 1) (by omega)
theorem w_M_renew {l : Launch} {ad : Nat → Nat} {D : va_G} {cA : Nat → ClassId} {WW : Nat → qP} {QR : Option qA → qS → Prop} (S : qSnd l rm_M_renew ad D cA R_M b_M_renew 3 WW) (Q : qRet (none) b_M_renew WW QR) (a1 : Int) (σ : qS) (ha1 : r32 a1) (hσ : qoS σ) (h : P_M_renew a1 σ) (hq : ∀ σ', Q_M_renew a1 σ σ' → QR none σ') : WW 0 [] [some (.inr (.inr 900)), some (.inl a1), none] σ := by
  refine s_M_renew_0 S Q _ _ _ ?_
  simp only [k_M_renew_0, k_M_renew_13, k_M_renew_14, k_M_renew_33, k_M_renew_39, k_M_renew_57, o_c, o_il, o_ll, o_al, o_is, o_as, o_ls, o_inc, o_bi, o_bid, o_bl, o_bld, o_sl, o_i2l, o_l2i, o_dup, o_dup2, o_pop, o_pop2, o_if, o_i2, o_l2, swg, o_sw, o_gI, o_gZ, o_gJ, o_gA, o_gR, o_pI, o_pZ, o_pJ, o_pR, o_ia, o_iak, o_zak, o_ja, o_jak, o_is_, o_isk, o_zsk, o_js_, o_jsk, o_len, o_ri, o_rz, o_rl, o_rv, ls1, ls2, lks, lkj, List.getD_cons_zero, List.getD_cons_succ, List.set_cons_zero, List.set_cons_succ, qcat, true_and, and_true, List.map_nil, List.map_cons, List.sum_nil, List.sum_cons, Nat.reduceAdd, Nat.reduceLeDiff, Nat.zero_le, Int.reduceAdd, Int.reduceNeg, Int.reduceEq, or_true, true_or, Decidable.not_not]
  refine ⟨h, fun e => ⟨h, h, ?_⟩, fun e => hq _ ?_⟩
  · have hn : rnw σ a1 = ra (su (su σ 54 a1 (σ 31 0)) 55 a1 0) 56 (a1 * 38) (a1 * 38 + 38) (fun _ => -1) := by unfold rnw; rw [if_neg e]
    have := v_M_renew_33 S Q (su (su σ 54 a1 (σ 31 0)) 55 a1 0) a1 h (by rw [← hn]; exact hq _ rfl) 38 0 rfl
    rw [ra_0 (by simp)] at this
    exact this
  · unfold Q_M_renew rnw; rw [if_pos e]
theorem c_M_renew (l : Launch) (ad : Nat → Nat) (D : va_G) (cA : Nat → ClassId) : qC l ad D cA y_M_renew (Cond.code y_M_renew b_M_renew 3 (none) :: lw_g) rm_M_renew pre_M_renew post_M_renew := by
  refine qC_of (own := R_M) (by decide) rfl ⟨rfl, rfl⟩ ?_ ?_
  · intro av σ h; unfold pre_M_renew at h; split at h
    · simp [qen]
    · exact h.elim
  · intro WW QR S Q av σ hav hσ h hq; unfold pre_M_renew at h; split at h
    next o a1 =>
      obtain ⟨rfl, h⟩ := h
      exact w_M_renew S Q a1 σ (hav _ (List.mem_of_getElem? (i := 1) rfl)) hσ h (fun σ' h' => hq _ σ' h')
    next => exact h.elim
def mapd (σ : qS) : Prop := ∀ t, 0 ≤ t → t < spl σ → σ 33 t ≠ -1
def P_M_isMapped (σ : qS) : Prop := jobok σ
def Q_M_isMapped (σ : qS) (r : Int) (σ' : qS) : Prop := σ' = σ ∧ (r = 0 ∧ ¬ mapd σ ∨ r = 1 ∧ mapd σ)
def pre_M_isMapped (av : List qA) (σ : qS) : Prop := match av with
  | [.inr (.inr o)] => o = 900 ∧ P_M_isMapped  σ
  | _ => False
def post_M_isMapped (av : List qA) (σ : qS) (r : Option qA) (σ' : qS) : Prop := match av, r with
  | [_], some (.inl r) => Q_M_isMapped  σ r σ'
  | _, _ => False
def oc_M_isMapped (K : qP) : qP := fun st ls σ => match st with
  | .inr (.inr o) :: st => o = 900 ∧ (st.map qcat).sum ≤ 8 ∧ P_M_isMapped  σ ∧ ∀ (r : Int) (σ' : qS), Q_M_isMapped  σ r σ' → K (.inl r :: st) ls σ'
  | _ => False
def rm_M_isMapped : Room := { frames := 2, cells := 0, slots := 0, locals := 41 }
theorem sc_M_329 {l : Launch} {R : Room} {ad : Nat → Nat} {D : va_G} {cA : Nat → ClassId} {cc : ByteArray} {nL : Nat} {WW : Nat → qP} (S : qSnd l R ad D cA R_M cc nL WW) (hR : rm_M_splits.frames + 1 ≤ R.frames ∧ 8 + (1 + 11) + rm_M_splits.locals ≤ R.locals) {K : qP} {pc : Nat} (d : decode cc pc = .ok (.invokevirtual 329, 3)) (h : qle K WW (pc + 3)) : qle (oc_M_splits K) WW pc := by
  intro st ls σ k
  refine S.callV (o := 900) (ci := 0) (N := 82) (base := 0) (C := R_M) (T := F_M) (n := 0) (pre := pre_M_splits) (post := post_M_splits) (Or.inl ⟨rfl, rfl, rfl, rfl, rfl, rfl⟩) ⟨lw_at 335 (by decide +kernel) rfl, lw_at 332 (by decide +kernel) rfl, lw_at 59 (by decide +kernel) rfl, by decide, by decide, by decide +kernel⟩ ⟨lw_at 334 (by decide +kernel) rfl, lw_at 0 (by decide +kernel) rfl⟩ ⟨rfl, rfl⟩ hR (c_M_splits l ad D cA) ?_ d h st ls σ ?_
  · intro av σ h; unfold pre_M_splits at h; split at h
    · obtain ⟨rfl, h⟩ := h; exact ⟨_, rfl⟩
    · exact h.elim
  · unfold oc_M_splits at k
    split at k
    next o st =>
      obtain ⟨rfl, hs, hp, k⟩ := k
      refine ⟨[.inr (.inr 900)], st, rfl, rfl, hs, ⟨rfl, hp⟩, fun r σ' hq => ?_⟩
      unfold post_M_splits at hq
      split at hq
      next h1 =>
        cases h1
        exact k _ _ hq
      next => exact hq.elim
    next => exact k.elim
def k_M_isMapped_30 (QR : Option qA → qS → Prop) (H : Nat → qP) : qP :=
  o_c (.inl 1) <| o_rz QR
def k_M_isMapped_24 (QR : Option qA → qS → Prop) (H : Nat → qP) : qP :=
  o_inc 2 1 <| H 7
def k_M_isMapped_22 (QR : Option qA → qS → Prop) (H : Nat → qP) : qP :=
  o_c (.inl 0) <| o_rz QR
def k_M_isMapped_12 (QR : Option qA → qS → Prop) (H : Nat → qP) : qP :=
  o_al 0 <| o_gA 900 33 <| o_il 2 <| o_iak 33 38 <| o_c (.inl (-1)) <| o_i2 (fun a b => ¬ a = b) (k_M_isMapped_24 QR H) (k_M_isMapped_22 QR H)
def k_M_isMapped_7 (QR : Option qA → qS → Prop) (H : Nat → qP) : qP :=
  o_il 2 <| o_il 1 <| o_i2 (fun a b => b ≤ a) (k_M_isMapped_30 QR H) (k_M_isMapped_12 QR H)
def k_M_isMapped_0 (QR : Option qA → qS → Prop) (H : Nat → qP) : qP :=
  o_al 0 <| oc_M_splits <| o_is 1 <| o_c (.inl 0) <| o_is 2 <| H 7
set_option maxRecDepth 8000 in
theorem s_M_isMapped_30 {l : Launch} {ad : Nat → Nat} {D : va_G} {cA : Nat → ClassId} {WW : Nat → qP} {QR : Option qA → qS → Prop} (S : qSnd l rm_M_isMapped ad D cA R_M b_M_isMapped 3 WW) (Q : qRet (some .boolean) b_M_isMapped WW QR) : qle (k_M_isMapped_30 QR WW) WW 30 :=
  S.iconst d_M_isMapped_30 (by decide) <| Q.2.1 rfl _ d_M_isMapped_31
set_option maxRecDepth 8000 in
theorem s_M_isMapped_24 {l : Launch} {ad : Nat → Nat} {D : va_G} {cA : Nat → ClassId} {WW : Nat → qP} {QR : Option qA → qS → Prop} (S : qSnd l rm_M_isMapped ad D cA R_M b_M_isMapped 3 WW) (Q : qRet (some .boolean) b_M_isMapped WW QR) : qle (k_M_isMapped_24 QR WW) WW 24 :=
  S.iinc d_M_isMapped_24 (by decide) <| S.goto d_M_isMapped_27 (by decide) (fun _ _ _ h => h)
set_option maxRecDepth 8000 in
theorem s_M_isMapped_22 {l : Launch} {ad : Nat → Nat} {D : va_G} {cA : Nat → ClassId} {WW : Nat → qP} {QR : Option qA → qS → Prop} (S : qSnd l rm_M_isMapped ad D cA R_M b_M_isMapped 3 WW) (Q : qRet (some .boolean) b_M_isMapped WW QR) : qle (k_M_isMapped_22 QR WW) WW 22 :=
  S.iconst d_M_isMapped_22 (by decide) <| Q.2.1 rfl _ d_M_isMapped_23
set_option maxRecDepth 8000 in
theorem s_M_isMapped_12 {l : Launch} {ad : Nat → Nat} {D : va_G} {cA : Nat → ClassId} {WW : Nat → qP} {QR : Option qA → qS → Prop} (S : qSnd l rm_M_isMapped ad D cA R_M b_M_isMapped 3 WW) (Q : qRet (some .boolean) b_M_isMapped WW QR) : qle (k_M_isMapped_12 QR WW) WW 12 :=
  S.aload_n d_M_isMapped_12 rfl <| S.gA fl_M_66 (by decide) d_M_isMapped_13 <| S.iload_n d_M_isMapped_16 rfl <| S.iak (by decide) d_M_isMapped_17 <| S.iconst d_M_isMapped_18 (by decide) <| S.icmp_ne d_M_isMapped_19 (by decide) (s_M_isMapped_24 S Q) (s_M_isMapped_22 S Q)
set_option maxRecDepth 8000 in
theorem s_M_isMapped_7 {l : Launch} {ad : Nat → Nat} {D : va_G} {cA : Nat → ClassId} {WW : Nat → qP} {QR : Option qA → qS → Prop} (S : qSnd l rm_M_isMapped ad D cA R_M b_M_isMapped 3 WW) (Q : qRet (some .boolean) b_M_isMapped WW QR) : qle (k_M_isMapped_7 QR WW) WW 7 :=
  S.iload_n d_M_isMapped_7 rfl <| S.iload_n d_M_isMapped_8 rfl <| S.icmp_ge d_M_isMapped_9 (by decide) (s_M_isMapped_30 S Q) (s_M_isMapped_12 S Q)
set_option maxRecDepth 8000 in
theorem s_M_isMapped_0 {l : Launch} {ad : Nat → Nat} {D : va_G} {cA : Nat → ClassId} {WW : Nat → qP} {QR : Option qA → qS → Prop} (S : qSnd l rm_M_isMapped ad D cA R_M b_M_isMapped 3 WW) (Q : qRet (some .boolean) b_M_isMapped WW QR) : qle (k_M_isMapped_0 QR WW) WW 0 :=
  S.aload_n d_M_isMapped_0 rfl <| sc_M_329 S (by decide) d_M_isMapped_1 <| S.istore_n d_M_isMapped_4 rfl (by decide) <| S.iconst d_M_isMapped_5 (by decide) <| S.istore_n d_M_isMapped_6 rfl (by decide) <| (fun _ _ _ h => h)
theorem v_M_isMapped_7 {l : Launch} {ad : Nat → Nat} {D : va_G} {cA : Nat → ClassId} {WW : Nat → qP} {QR : Option qA → qS → Prop} (S : qSnd l rm_M_isMapped ad D cA R_M b_M_isMapped 3 WW) (Q : qRet (some .boolean) b_M_isMapped WW QR) (σ : qS) (hs : 0 ≤ spl σ ∧ spl σ ≤ 38) (h0 : ¬ mapd σ → QR (some (.inl 0)) σ) (h1 : mapd σ → QR (some (.inl 1)) σ) : ∀ (n k : Nat), (k + n : Int) = spl σ → (∀ t : Int, 0 ≤ t → t < k → σ 33 t ≠ -1) → WW 7 [] [some (.inr (.inr 900)), some (.inl (spl σ)), some (.inl k)] σ := by
  intro n
  induction n with
  | zero =>
    intro k hk hd
    refine s_M_isMapped_7 S Q _ _ _ ?_
    simp only [k_M_isMapped_0, k_M_isMapped_7, k_M_isMapped_12, k_M_isMapped_22, k_M_isMapped_24, k_M_isMapped_30, oc_M_splits, o_c, o_il, o_ll, o_al, o_is, o_as, o_ls, o_inc, o_bi, o_bid, o_bl, o_bld, o_sl, o_i2l, o_l2i, o_dup, o_dup2, o_pop, o_pop2, o_if, o_i2, o_l2, swg, o_sw, o_gI, o_gZ, o_gJ, o_gA, o_gR, o_pI, o_pZ, o_pJ, o_pR, o_ia, o_iak, o_zak, o_ja, o_jak, o_is_, o_isk, o_zsk, o_js_, o_jsk, o_len, o_ri, o_rz, o_rl, o_rv, ls1, ls2, lks, lkj, List.getD_cons_zero, List.getD_cons_succ, List.set_cons_zero, List.set_cons_succ, qcat, true_and, and_true, List.map_nil, List.map_cons, List.sum_nil, List.sum_cons, Nat.reduceAdd, Nat.reduceLeDiff, Nat.zero_le, Int.reduceAdd, Int.reduceNeg, Int.reduceEq, or_true, true_or, Decidable.not_not]
    exact ⟨fun _ => h1 (fun t t0 t1 => hd t t0 (by omega)), fun h => by omega⟩
  | succ n ih =>
    intro k hk hd
    refine s_M_isMapped_7 S Q _ _ _ ?_
    simp only [k_M_isMapped_0, k_M_isMapped_7, k_M_isMapped_12, k_M_isMapped_22, k_M_isMapped_24, k_M_isMapped_30, oc_M_splits, o_c, o_il, o_ll, o_al, o_is, o_as, o_ls, o_inc, o_bi, o_bid, o_bl, o_bld, o_sl, o_i2l, o_l2i, o_dup, o_dup2, o_pop, o_pop2, o_if, o_i2, o_l2, swg, o_sw, o_gI, o_gZ, o_gJ, o_gA, o_gR, o_pI, o_pZ, o_pJ, o_pR, o_ia, o_iak, o_zak, o_ja, o_jak, o_is_, o_isk, o_zsk, o_js_, o_jsk, o_len, o_ri, o_rz, o_rl, o_rv, ls1, ls2, lks, lkj, List.getD_cons_zero, List.getD_cons_succ, List.set_cons_zero, List.set_cons_succ, qcat, true_and, and_true, List.map_nil, List.map_cons, List.sum_nil, List.sum_cons, Nat.reduceAdd, Nat.reduceLeDiff, Nat.zero_le, Int.reduceAdd, Int.reduceNeg, Int.reduceEq, or_true, true_or, Decidable.not_not]
    refine ⟨fun h => by omega, fun h => ⟨by omega, fun e => ?_, fun e => h0 (fun hm => hm k (by omega) (by omega) e)⟩⟩
    rw [w32_i _ (by omega) (by omega)]
    refine ih (k + 1) (by omega) (fun t t0 t1 => ?_)
    by_cases e2 : t = k
    · rw [e2]; exact e
    · exact hd t t0 (by omega)
theorem w_M_isMapped {l : Launch} {ad : Nat → Nat} {D : va_G} {cA : Nat → ClassId} {WW : Nat → qP} {QR : Option qA → qS → Prop} (S : qSnd l rm_M_isMapped ad D cA R_M b_M_isMapped 3 WW) (Q : qRet (some .boolean) b_M_isMapped WW QR)  (σ : qS)  (hσ : qoS σ) (h : P_M_isMapped  σ) (hq : ∀ (r : Int) σ', Q_M_isMapped  σ r σ' → QR (some (.inl r)) σ') : WW 0 [] [some (.inr (.inr 900)), none, none] σ := by
  refine s_M_isMapped_0 S Q _ _ _ ?_
  simp only [k_M_isMapped_0, k_M_isMapped_7, k_M_isMapped_12, k_M_isMapped_22, k_M_isMapped_24, k_M_isMapped_30, oc_M_splits, o_c, o_il, o_ll, o_al, o_is, o_as, o_ls, o_inc, o_bi, o_bid, o_bl, o_bld, o_sl, o_i2l, o_l2i, o_dup, o_dup2, o_pop, o_pop2, o_if, o_i2, o_l2, swg, o_sw, o_gI, o_gZ, o_gJ, o_gA, o_gR, o_pI, o_pZ, o_pJ, o_pR, o_ia, o_iak, o_zak, o_ja, o_jak, o_is_, o_isk, o_zsk, o_js_, o_jsk, o_len, o_ri, o_rz, o_rl, o_rv, ls1, ls2, lks, lkj, List.getD_cons_zero, List.getD_cons_succ, List.set_cons_zero, List.set_cons_succ, qcat, true_and, and_true, List.map_nil, List.map_cons, List.sum_nil, List.sum_cons, Nat.reduceAdd, Nat.reduceLeDiff, Nat.zero_le, Int.reduceAdd, Int.reduceNeg, Int.reduceEq, or_true, true_or, Decidable.not_not]
  refine ⟨h, fun r σ1 q1 => ?_⟩
  obtain ⟨rfl, rfl⟩ := q1
  have hs := spl_b h
  refine v_M_isMapped_7 S Q σ1 hs (fun hm => hq _ _ ⟨rfl, Or.inl ⟨rfl, hm⟩⟩) (fun hm => hq _ _ ⟨rfl, Or.inr ⟨rfl, hm⟩⟩) (spl σ1).toNat 0 (by omega) (fun t t0 t1 => by omega)
theorem c_M_isMapped (l : Launch) (ad : Nat → Nat) (D : va_G) (cA : Nat → ClassId) : qC l ad D cA y_M_isMapped (Cond.code y_M_isMapped b_M_isMapped 3 (some .boolean) :: lw_g) rm_M_isMapped pre_M_isMapped post_M_isMapped := by
  refine qC_of (own := R_M) (by decide) rfl ⟨rfl, rfl⟩ ?_ ?_
  · intro av σ h; unfold pre_M_isMapped at h; split at h
    · simp [qen]
    · exact h.elim
  · intro WW QR S Q av σ hav hσ h hq; unfold pre_M_isMapped at h; split at h
    next o =>
      obtain ⟨rfl, h⟩ := h
      exact w_M_isMapped S Q  σ  hσ h (fun r σ' h' => hq _ σ' h')
    next => exact h.elim
def sumf (σ : qS) (w : Int) : Nat → Int → Int → Int
  | 0, _, h => h
  | n + 1, at_, h => sumf σ w n (at_ + 1) (mixf (mixf h (σ 59 (w * 1000 + at_))) (σ 60 (w * 1000 + at_)))
def P_M_sumOf (w from_ n : Int) (_σ : qS) : Prop := (0 ≤ w ∧ w < 6) ∧ 0 ≤ from_ ∧ 0 ≤ n ∧ from_ + n ≤ 1000
def Q_M_sumOf (w from_ n : Int) (σ : qS) (r : Int) (σ' : qS) : Prop := σ' = σ ∧ r = sumf σ w n.toNat from_ n
def pre_M_sumOf (av : List qA) (σ : qS) : Prop := match av with
  | [.inr (.inr o), .inl a1, .inl a2, .inl a3] => o = 900 ∧ P_M_sumOf a1 a2 a3 σ
  | _ => False
def post_M_sumOf (av : List qA) (σ : qS) (r : Option qA) (σ' : qS) : Prop := match av, r with
  | [_, .inl a1, .inl a2, .inl a3], some (.inr (.inl r)) => Q_M_sumOf a1 a2 a3 σ r σ'
  | _, _ => False
def oc_M_sumOf (K : qP) : qP := fun st ls σ => match st with
  | .inl a3 :: .inl a2 :: .inl a1 :: .inr (.inr o) :: st => o = 900 ∧ (st.map qcat).sum ≤ 8 ∧ P_M_sumOf a1 a2 a3 σ ∧ ∀ (r : Int) (σ' : qS), Q_M_sumOf a1 a2 a3 σ r σ' → K (.inr (.inl r) :: st) ls σ'
  | _ => False
def rm_M_sumOf : Room := { frames := 1, cells := 0, slots := 0, locals := 25 }
theorem sc_M_411 {l : Launch} {R : Room} {ad : Nat → Nat} {D : va_G} {cA : Nat → ClassId} {cc : ByteArray} {nL : Nat} {WW : Nat → qP} (S : qSnd l R ad D cA R_M cc nL WW) (hR : rm_M_mix.frames + 1 ≤ R.frames ∧ 8 + (6 + 11) + rm_M_mix.locals ≤ R.locals) {K : qP} {pc : Nat} (d : decode cc pc = .ok (.invokestatic 411, 3)) (h : qle K WW (pc + 3)) : qle (oc_M_mix K) WW pc := by
  intro st ls σ k
  refine S.callS (n := 2) (pre := pre_M_mix) (post := post_M_mix) ⟨lw_at 350 (by decide +kernel) rfl, lw_at 348 (by decide +kernel) rfl, lw_at 59 (by decide +kernel) rfl, by decide, by decide, by decide +kernel⟩ (lw_at 349 (by decide +kernel) rfl) ⟨rfl, rfl⟩ hR (c_M_mix l ad D cA) d h st ls σ ?_
  unfold oc_M_mix at k
  split at k
  next a2 a1 st =>
    obtain ⟨hs, hp, k⟩ := k
    refine ⟨[.inr (.inl a1), .inr (.inl a2)], st, rfl, rfl, hs, hp, fun r σ' hq => ?_⟩
    unfold post_M_mix at hq
    split at hq
    next h1 =>
      cases h1
      exact k _ _ hq
    next => exact hq.elim
  next => exact k.elim
def k_M_sumOf_57 (QR : Option qA → qS → Prop) (H : Nat → qP) : qP :=
  o_ll 4 <| o_rl QR
def k_M_sumOf_15 (QR : Option qA → qS → Prop) (H : Nat → qP) : qP :=
  o_ll 4 <| o_al 0 <| o_gA 900 59 <| o_il 1 <| o_c (.inl 1000) <| o_bi z_mul <| o_il 6 <| o_bi z_add <| o_jak 59 6000 <| oc_M_mix <| o_al 0 <| o_gA 900 60 <| o_il 1 <| o_c (.inl 1000) <| o_bi z_mul <| o_il 6 <| o_bi z_add <| o_jak 60 6000 <| oc_M_mix <| o_ls 4 <| o_inc 6 1 <| H 7
def k_M_sumOf_7 (QR : Option qA → qS → Prop) (H : Nat → qP) : qP :=
  o_il 6 <| o_il 2 <| o_il 3 <| o_bi z_add <| o_i2 (fun a b => b ≤ a) (k_M_sumOf_57 QR H) (k_M_sumOf_15 QR H)
def k_M_sumOf_0 (QR : Option qA → qS → Prop) (H : Nat → qP) : qP :=
  o_il 3 <| o_i2l <| o_ls 4 <| o_il 2 <| o_is 6 <| H 7
set_option maxRecDepth 8000 in
theorem s_M_sumOf_57 {l : Launch} {ad : Nat → Nat} {D : va_G} {cA : Nat → ClassId} {WW : Nat → qP} {QR : Option qA → qS → Prop} (S : qSnd l rm_M_sumOf ad D cA R_M b_M_sumOf 7 WW) (Q : qRet (some .long) b_M_sumOf WW QR) : qle (k_M_sumOf_57 QR WW) WW 57 :=
  S.lload d_M_sumOf_57 <| Q.2.2.1 rfl _ d_M_sumOf_59
set_option maxRecDepth 8000 in
theorem s_M_sumOf_15 {l : Launch} {ad : Nat → Nat} {D : va_G} {cA : Nat → ClassId} {WW : Nat → qP} {QR : Option qA → qS → Prop} (S : qSnd l rm_M_sumOf ad D cA R_M b_M_sumOf 7 WW) (Q : qRet (some .long) b_M_sumOf WW QR) : qle (k_M_sumOf_15 QR WW) WW 15 :=
  S.lload d_M_sumOf_15 <| S.aload_n d_M_sumOf_17 rfl <| S.gA fl_M_129 (by decide) d_M_sumOf_18 <| S.iload_n d_M_sumOf_21 rfl <| S.sipush d_M_sumOf_22 (by decide) <| S.imul d_M_sumOf_25 <| S.iload d_M_sumOf_26 <| S.iadd d_M_sumOf_28 <| S.jak (by decide) d_M_sumOf_29 <| sc_M_411 S (by decide) d_M_sumOf_30 <| S.aload_n d_M_sumOf_33 rfl <| S.gA fl_M_132 (by decide) d_M_sumOf_34 <| S.iload_n d_M_sumOf_37 rfl <| S.sipush d_M_sumOf_38 (by decide) <| S.imul d_M_sumOf_41 <| S.iload d_M_sumOf_42 <| S.iadd d_M_sumOf_44 <| S.jak (by decide) d_M_sumOf_45 <| sc_M_411 S (by decide) d_M_sumOf_46 <| S.lstore d_M_sumOf_49 (by decide) <| S.iinc d_M_sumOf_51 (by decide) <| S.goto d_M_sumOf_54 (by decide) (fun _ _ _ h => h)
set_option maxRecDepth 8000 in
theorem s_M_sumOf_7 {l : Launch} {ad : Nat → Nat} {D : va_G} {cA : Nat → ClassId} {WW : Nat → qP} {QR : Option qA → qS → Prop} (S : qSnd l rm_M_sumOf ad D cA R_M b_M_sumOf 7 WW) (Q : qRet (some .long) b_M_sumOf WW QR) : qle (k_M_sumOf_7 QR WW) WW 7 :=
  S.iload d_M_sumOf_7 <| S.iload_n d_M_sumOf_9 rfl <| S.iload_n d_M_sumOf_10 rfl <| S.iadd d_M_sumOf_11 <| S.icmp_ge d_M_sumOf_12 (by decide) (s_M_sumOf_57 S Q) (s_M_sumOf_15 S Q)
set_option maxRecDepth 8000 in
theorem s_M_sumOf_0 {l : Launch} {ad : Nat → Nat} {D : va_G} {cA : Nat → ClassId} {WW : Nat → qP} {QR : Option qA → qS → Prop} (S : qSnd l rm_M_sumOf ad D cA R_M b_M_sumOf 7 WW) (Q : qRet (some .long) b_M_sumOf WW QR) : qle (k_M_sumOf_0 QR WW) WW 0 :=
  S.iload_n d_M_sumOf_0 rfl <| S.i2l d_M_sumOf_1 <| S.lstore d_M_sumOf_2 (by decide) <| S.iload_n d_M_sumOf_4 rfl <| S.istore d_M_sumOf_5 (by decide) <| (fun _ _ _ h => h)
theorem v_M_sumOf_7 {l : Launch} {ad : Nat → Nat} {D : va_G} {cA : Nat → ClassId} {WW : Nat → qP} {QR : Option qA → qS → Prop} (S : qSnd l rm_M_sumOf ad D cA R_M b_M_sumOf 7 WW) (Q : qRet (some .long) b_M_sumOf WW QR) (σ : qS) (w fr nn : Int) (hp : P_M_sumOf w fr nn σ) (res : Int) (hq : QR (some (.inr (.inl res))) σ) : ∀ (n : Nat) (k h : Int), fr ≤ k → k + n = fr + nn → res = sumf σ w n k h → WW 7 [] [some (.inr (.inr 900)), some (.inl w), some (.inl fr), some (.inl nn), some (.inr (.inl h)), none, some (.inl k)] σ := by
  obtain ⟨h1, h2, h3, h4⟩ := hp
  intro n
  induction n with
  | zero =>
    intro k h hk hn hr
    refine s_M_sumOf_7 S Q _ _ _ ?_
    simp only [k_M_sumOf_0, k_M_sumOf_7, k_M_sumOf_15, k_M_sumOf_57, oc_M_mix, o_c, o_il, o_ll, o_al, o_is, o_as, o_ls, o_inc, o_bi, o_bid, o_bl, o_bld, o_sl, o_i2l, o_l2i, o_dup, o_dup2, o_pop, o_pop2, o_if, o_i2, o_l2, swg, o_sw, o_gI, o_gZ, o_gJ, o_gA, o_gR, o_pI, o_pZ, o_pJ, o_pR, o_ia, o_iak, o_zak, o_ja, o_jak, o_is_, o_isk, o_zsk, o_js_, o_jsk, o_len, o_ri, o_rz, o_rl, o_rv, ls1, ls2, lks, lkj, List.getD_cons_zero, List.getD_cons_succ, List.set_cons_zero, List.set_cons_succ, qcat, true_and, and_true, List.map_nil, List.map_cons, List.sum_nil, List.sum_cons, Nat.reduceAdd, Nat.reduceLeDiff, Nat.zero_le, Int.reduceAdd, Int.reduceNeg, Int.reduceEq, or_true, true_or, Decidable.not_not]
    unfold z_add; rw [w32_i _ (by omega) (by omega)]
    refine ⟨fun _ => ?_, fun h => by omega⟩
    rw [hr] at hq; exact hq
  | succ n ih =>
    intro k h hk hn hr
    refine s_M_sumOf_7 S Q _ _ _ ?_
    simp only [k_M_sumOf_0, k_M_sumOf_7, k_M_sumOf_15, k_M_sumOf_57, oc_M_mix, o_c, o_il, o_ll, o_al, o_is, o_as, o_ls, o_inc, o_bi, o_bid, o_bl, o_bld, o_sl, o_i2l, o_l2i, o_dup, o_dup2, o_pop, o_pop2, o_if, o_i2, o_l2, swg, o_sw, o_gI, o_gZ, o_gJ, o_gA, o_gR, o_pI, o_pZ, o_pJ, o_pR, o_ia, o_iak, o_zak, o_ja, o_jak, o_is_, o_isk, o_zsk, o_js_, o_jsk, o_len, o_ri, o_rz, o_rl, o_rv, ls1, ls2, lks, lkj, List.getD_cons_zero, List.getD_cons_succ, List.set_cons_zero, List.set_cons_succ, qcat, true_and, and_true, List.map_nil, List.map_cons, List.sum_nil, List.sum_cons, Nat.reduceAdd, Nat.reduceLeDiff, Nat.zero_le, Int.reduceAdd, Int.reduceNeg, Int.reduceEq, or_true, true_or, Decidable.not_not]
    have e : z_add (z_mul w 1000) k = w * 1000 + k := by unfold z_add z_mul; rw [w32_i (w * 1000) (by omega) (by omega), w32_i _ (by omega) (by omega)]
    have e2 : z_add fr nn = fr + nn := by unfold z_add; rw [w32_i _ (by omega) (by omega)]
    rw [e, e2]
    refine ⟨fun h => by omega, fun h' => ⟨by omega, trivial, fun r σ1 q1 => ?_⟩⟩
    obtain ⟨rfl, rfl⟩ := q1
    refine ⟨by omega, trivial, fun r σ2 q2 => ?_⟩
    obtain ⟨rfl, rfl⟩ := q2
    rw [w32_i _ (by omega) (by omega)]
    exact ih (k + 1) _ (by omega) (by omega) hr
theorem w_M_sumOf {l : Launch} {ad : Nat → Nat} {D : va_G} {cA : Nat → ClassId} {WW : Nat → qP} {QR : Option qA → qS → Prop} (S : qSnd l rm_M_sumOf ad D cA R_M b_M_sumOf 7 WW) (Q : qRet (some .long) b_M_sumOf WW QR) (a1 : Int) (a2 : Int) (a3 : Int) (σ : qS) (ha1 : r32 a1) (ha2 : r32 a2) (ha3 : r32 a3) (hσ : qoS σ) (h : P_M_sumOf a1 a2 a3 σ) (hq : ∀ (r : Int) σ', Q_M_sumOf a1 a2 a3 σ r σ' → QR (some (.inr (.inl r))) σ') : WW 0 [] [some (.inr (.inr 900)), some (.inl a1), some (.inl a2), some (.inl a3), none, none, none] σ := by
  refine s_M_sumOf_0 S Q _ _ _ ?_
  simp only [k_M_sumOf_0, k_M_sumOf_7, k_M_sumOf_15, k_M_sumOf_57, oc_M_mix, o_c, o_il, o_ll, o_al, o_is, o_as, o_ls, o_inc, o_bi, o_bid, o_bl, o_bld, o_sl, o_i2l, o_l2i, o_dup, o_dup2, o_pop, o_pop2, o_if, o_i2, o_l2, swg, o_sw, o_gI, o_gZ, o_gJ, o_gA, o_gR, o_pI, o_pZ, o_pJ, o_pR, o_ia, o_iak, o_zak, o_ja, o_jak, o_is_, o_isk, o_zsk, o_js_, o_jsk, o_len, o_ri, o_rz, o_rl, o_rv, ls1, ls2, lks, lkj, List.getD_cons_zero, List.getD_cons_succ, List.set_cons_zero, List.set_cons_succ, qcat, true_and, and_true, List.map_nil, List.map_cons, List.sum_nil, List.sum_cons, Nat.reduceAdd, Nat.reduceLeDiff, Nat.zero_le, Int.reduceAdd, Int.reduceNeg, Int.reduceEq, or_true, true_or, Decidable.not_not]
  have hp := h
  obtain ⟨h1, h2, h3, h4⟩ := h
  exact v_M_sumOf_7 S Q σ a1 a2 a3 hp _ (hq _ _ ⟨rfl, rfl⟩) a3.toNat a2 a3 (by omega) (by omega) rfl
theorem c_M_sumOf (l : Launch) (ad : Nat → Nat) (D : va_G) (cA : Nat → ClassId) : qC l ad D cA y_M_sumOf (Cond.code y_M_sumOf b_M_sumOf 7 (some .long) :: lw_g) rm_M_sumOf pre_M_sumOf post_M_sumOf := by
  refine qC_of (own := R_M) (by decide) rfl ⟨rfl, rfl⟩ ?_ ?_
  · intro av σ h; unfold pre_M_sumOf at h; split at h
    · simp [qen]
    · exact h.elim
  · intro WW QR S Q av σ hav hσ h hq; unfold pre_M_sumOf at h; split at h
    next o a1 a2 a3 =>
      obtain ⟨rfl, h⟩ := h
      exact w_M_sumOf S Q a1 a2 a3 σ (hav _ (List.mem_of_getElem? (i := 1) rfl)) (hav _ (List.mem_of_getElem? (i := 2) rfl)) (hav _ (List.mem_of_getElem? (i := 3) rfl)) hσ h (fun r σ' h' => hq _ σ' h')
    next => exact h.elim
def eok (f : Int → Int) : Nat → Int → Int → Int
  | 0, k, _ => k
  | n + 1, k, v => if f k = v then eok f n (k + 1) v else k
def P_M_endOfKey (from_ n : Int) (_σ : qS) : Prop := 0 ≤ from_ ∧ from_ < n ∧ n ≤ 1000
def Q_M_endOfKey (from_ n : Int) (σ : qS) (r : Int) (σ' : qS) : Prop := σ' = σ ∧ r = eok (σ 79) (n - (from_ + 1)).toNat (from_ + 1) (σ 79 from_)
def pre_M_endOfKey (av : List qA) (σ : qS) : Prop := match av with
  | [.inr (.inr o), .inl a1, .inl a2] => o = 900 ∧ P_M_endOfKey a1 a2 σ
  | _ => False
def post_M_endOfKey (av : List qA) (σ : qS) (r : Option qA) (σ' : qS) : Prop := match av, r with
  | [_, .inl a1, .inl a2], some (.inl r) => Q_M_endOfKey a1 a2 σ r σ'
  | _, _ => False
def oc_M_endOfKey (K : qP) : qP := fun st ls σ => match st with
  | .inl a2 :: .inl a1 :: .inr (.inr o) :: st => o = 900 ∧ (st.map qcat).sum ≤ 8 ∧ P_M_endOfKey a1 a2 σ ∧ ∀ (r : Int) (σ' : qS), Q_M_endOfKey a1 a2 σ r σ' → K (.inl r :: st) ls σ'
  | _ => False
def rm_M_endOfKey : Room := { frames := 0, cells := 0, slots := 0, locals := 0 }
theorem fl_M_189 : qF R_M 900 0 82 0 R_M F_M 189 79 := ⟨Or.inl ⟨rfl, rfl, rfl, rfl, rfl, rfl⟩, by decide, lw_at 157 (by decide +kernel) rfl⟩
def k_M_endOfKey_31 (QR : Option qA → qS → Prop) (H : Nat → qP) : qP :=
  o_il 3 <| o_ri QR
def k_M_endOfKey_25 (QR : Option qA → qS → Prop) (H : Nat → qP) : qP :=
  o_inc 3 1 <| H 4
def k_M_endOfKey_9 (QR : Option qA → qS → Prop) (H : Nat → qP) : qP :=
  o_al 0 <| o_gA 900 79 <| o_il 3 <| o_jak 79 1000 <| o_al 0 <| o_gA 900 79 <| o_il 1 <| o_jak 79 1000 <| o_l2 (fun a b => ¬ a = b) (k_M_endOfKey_31 QR H) (k_M_endOfKey_25 QR H)
def k_M_endOfKey_4 (QR : Option qA → qS → Prop) (H : Nat → qP) : qP :=
  o_il 3 <| o_il 2 <| o_i2 (fun a b => b ≤ a) (k_M_endOfKey_31 QR H) (k_M_endOfKey_9 QR H)
def k_M_endOfKey_0 (QR : Option qA → qS → Prop) (H : Nat → qP) : qP :=
  o_il 1 <| o_c (.inl 1) <| o_bi z_add <| o_is 3 <| H 4
set_option maxRecDepth 8000 in
theorem s_M_endOfKey_31 {l : Launch} {ad : Nat → Nat} {D : va_G} {cA : Nat → ClassId} {WW : Nat → qP} {QR : Option qA → qS → Prop} (S : qSnd l rm_M_endOfKey ad D cA R_M b_M_endOfKey 4 WW) (Q : qRet (some .int) b_M_endOfKey WW QR) : qle (k_M_endOfKey_31 QR WW) WW 31 :=
  S.iload_n d_M_endOfKey_31 rfl <| Q.1 rfl _ d_M_endOfKey_32
set_option maxRecDepth 8000 in
theorem s_M_endOfKey_25 {l : Launch} {ad : Nat → Nat} {D : va_G} {cA : Nat → ClassId} {WW : Nat → qP} {QR : Option qA → qS → Prop} (S : qSnd l rm_M_endOfKey ad D cA R_M b_M_endOfKey 4 WW) (Q : qRet (some .int) b_M_endOfKey WW QR) : qle (k_M_endOfKey_25 QR WW) WW 25 :=
  S.iinc d_M_endOfKey_25 (by decide) <| S.goto d_M_endOfKey_28 (by decide) (fun _ _ _ h => h)
set_option maxRecDepth 8000 in
theorem s_M_endOfKey_9 {l : Launch} {ad : Nat → Nat} {D : va_G} {cA : Nat → ClassId} {WW : Nat → qP} {QR : Option qA → qS → Prop} (S : qSnd l rm_M_endOfKey ad D cA R_M b_M_endOfKey 4 WW) (Q : qRet (some .int) b_M_endOfKey WW QR) : qle (k_M_endOfKey_9 QR WW) WW 9 :=
  S.aload_n d_M_endOfKey_9 rfl <| S.gA fl_M_189 (by decide) d_M_endOfKey_10 <| S.iload_n d_M_endOfKey_13 rfl <| S.jak (by decide) d_M_endOfKey_14 <| S.aload_n d_M_endOfKey_15 rfl <| S.gA fl_M_189 (by decide) d_M_endOfKey_16 <| S.iload_n d_M_endOfKey_19 rfl <| S.jak (by decide) d_M_endOfKey_20 <| S.lcmp_ne d_M_endOfKey_21 d_M_endOfKey_22 (by decide) (s_M_endOfKey_31 S Q) (s_M_endOfKey_25 S Q)
set_option maxRecDepth 8000 in
theorem s_M_endOfKey_4 {l : Launch} {ad : Nat → Nat} {D : va_G} {cA : Nat → ClassId} {WW : Nat → qP} {QR : Option qA → qS → Prop} (S : qSnd l rm_M_endOfKey ad D cA R_M b_M_endOfKey 4 WW) (Q : qRet (some .int) b_M_endOfKey WW QR) : qle (k_M_endOfKey_4 QR WW) WW 4 :=
  S.iload_n d_M_endOfKey_4 rfl <| S.iload_n d_M_endOfKey_5 rfl <| S.icmp_ge d_M_endOfKey_6 (by decide) (s_M_endOfKey_31 S Q) (s_M_endOfKey_9 S Q)
set_option maxRecDepth 8000 in
theorem s_M_endOfKey_0 {l : Launch} {ad : Nat → Nat} {D : va_G} {cA : Nat → ClassId} {WW : Nat → qP} {QR : Option qA → qS → Prop} (S : qSnd l rm_M_endOfKey ad D cA R_M b_M_endOfKey 4 WW) (Q : qRet (some .int) b_M_endOfKey WW QR) : qle (k_M_endOfKey_0 QR WW) WW 0 :=
  S.iload_n d_M_endOfKey_0 rfl <| S.iconst d_M_endOfKey_1 (by decide) <| S.iadd d_M_endOfKey_2 <| S.istore_n d_M_endOfKey_3 rfl (by decide) <| (fun _ _ _ h => h)
theorem v_M_endOfKey_4 {l : Launch} {ad : Nat → Nat} {D : va_G} {cA : Nat → ClassId} {WW : Nat → qP} {QR : Option qA → qS → Prop} (S : qSnd l rm_M_endOfKey ad D cA R_M b_M_endOfKey 4 WW) (Q : qRet (some .int) b_M_endOfKey WW QR) (σ : qS) (fr nn : Int) (hp : P_M_endOfKey fr nn σ) (res : Int) (hq : QR (some (.inl res)) σ) : ∀ (n : Nat) (k : Int), fr < k → k + n = nn → res = eok (σ 79) n k (σ 79 fr) → WW 4 [] [some (.inr (.inr 900)), some (.inl fr), some (.inl nn), some (.inl k)] σ := by
  obtain ⟨h1, h2, h3⟩ := hp
  intro n
  induction n with
  | zero =>
    intro k hk hn hr
    refine s_M_endOfKey_4 S Q _ _ _ ?_
    simp only [k_M_endOfKey_0, k_M_endOfKey_4, k_M_endOfKey_9, k_M_endOfKey_25, k_M_endOfKey_31, o_c, o_il, o_ll, o_al, o_is, o_as, o_ls, o_inc, o_bi, o_bid, o_bl, o_bld, o_sl, o_i2l, o_l2i, o_dup, o_dup2, o_pop, o_pop2, o_if, o_i2, o_l2, swg, o_sw, o_gI, o_gZ, o_gJ, o_gA, o_gR, o_pI, o_pZ, o_pJ, o_pR, o_ia, o_iak, o_zak, o_ja, o_jak, o_is_, o_isk, o_zsk, o_js_, o_jsk, o_len, o_ri, o_rz, o_rl, o_rv, ls1, ls2, lks, lkj, List.getD_cons_zero, List.getD_cons_succ, List.set_cons_zero, List.set_cons_succ, qcat, true_and, and_true, List.map_nil, List.map_cons, List.sum_nil, List.sum_cons, Nat.reduceAdd, Nat.reduceLeDiff, Nat.zero_le, Int.reduceAdd, Int.reduceNeg, Int.reduceEq, or_true, true_or, Decidable.not_not]
    refine ⟨fun _ => ?_, fun h => by omega⟩
    rw [hr] at hq; exact hq
  | succ n ih =>
    intro k hk hn hr
    refine s_M_endOfKey_4 S Q _ _ _ ?_
    simp only [k_M_endOfKey_0, k_M_endOfKey_4, k_M_endOfKey_9, k_M_endOfKey_25, k_M_endOfKey_31, o_c, o_il, o_ll, o_al, o_is, o_as, o_ls, o_inc, o_bi, o_bid, o_bl, o_bld, o_sl, o_i2l, o_l2i, o_dup, o_dup2, o_pop, o_pop2, o_if, o_i2, o_l2, swg, o_sw, o_gI, o_gZ, o_gJ, o_gA, o_gR, o_pI, o_pZ, o_pJ, o_pR, o_ia, o_iak, o_zak, o_ja, o_jak, o_is_, o_isk, o_zsk, o_js_, o_jsk, o_len, o_ri, o_rz, o_rl, o_rv, ls1, ls2, lks, lkj, List.getD_cons_zero, List.getD_cons_succ, List.set_cons_zero, List.set_cons_succ, qcat, true_and, and_true, List.map_nil, List.map_cons, List.sum_nil, List.sum_cons, Nat.reduceAdd, Nat.reduceLeDiff, Nat.zero_le, Int.reduceAdd, Int.reduceNeg, Int.reduceEq, or_true, true_or, Decidable.not_not]
    refine ⟨fun h => by omega, fun h' => ⟨by omega, by omega, fun e => ?_, fun e => ?_⟩⟩
    · rw [eok, if_neg e] at hr; rw [hr] at hq; exact hq
    · rw [eok, if_pos e] at hr
      rw [w32_i _ (by omega) (by omega)]
      exact ih (k + 1) (by omega) (by omega) hr
theorem w_M_endOfKey {l : Launch} {ad : Nat → Nat} {D : va_G} {cA : Nat → ClassId} {WW : Nat → qP} {QR : Option qA → qS → Prop} (S : qSnd l rm_M_endOfKey ad D cA R_M b_M_endOfKey 4 WW) (Q : qRet (some .int) b_M_endOfKey WW QR) (a1 : Int) (a2 : Int) (σ : qS) (ha1 : r32 a1) (ha2 : r32 a2) (hσ : qoS σ) (h : P_M_endOfKey a1 a2 σ) (hq : ∀ (r : Int) σ', Q_M_endOfKey a1 a2 σ r σ' → QR (some (.inl r)) σ') : WW 0 [] [some (.inr (.inr 900)), some (.inl a1), some (.inl a2), none] σ := by
  refine s_M_endOfKey_0 S Q _ _ _ ?_
  simp only [k_M_endOfKey_0, k_M_endOfKey_4, k_M_endOfKey_9, k_M_endOfKey_25, k_M_endOfKey_31, o_c, o_il, o_ll, o_al, o_is, o_as, o_ls, o_inc, o_bi, o_bid, o_bl, o_bld, o_sl, o_i2l, o_l2i, o_dup, o_dup2, o_pop, o_pop2, o_if, o_i2, o_l2, swg, o_sw, o_gI, o_gZ, o_gJ, o_gA, o_gR, o_pI, o_pZ, o_pJ, o_pR, o_ia, o_iak, o_zak, o_ja, o_jak, o_is_, o_isk, o_zsk, o_js_, o_jsk, o_len, o_ri, o_rz, o_rl, o_rv, ls1, ls2, lks, lkj, List.getD_cons_zero, List.getD_cons_succ, List.set_cons_zero, List.set_cons_succ, qcat, true_and, and_true, List.map_nil, List.map_cons, List.sum_nil, List.sum_cons, Nat.reduceAdd, Nat.reduceLeDiff, Nat.zero_le, Int.reduceAdd, Int.reduceNeg, Int.reduceEq, or_true, true_or, Decidable.not_not]
  have hp := h
  obtain ⟨h1, h2, h3⟩ := h
  unfold z_add; rw [w32_i _ (by omega) (by omega)]
  exact v_M_endOfKey_4 S Q σ a1 a2 hp _ (hq _ _ ⟨rfl, rfl⟩) (a2 - (a1 + 1)).toNat (a1 + 1) (by omega) (by omega) rfl
theorem c_M_endOfKey (l : Launch) (ad : Nat → Nat) (D : va_G) (cA : Nat → ClassId) : qC l ad D cA y_M_endOfKey (Cond.code y_M_endOfKey b_M_endOfKey 4 (some .int) :: lw_g) rm_M_endOfKey pre_M_endOfKey post_M_endOfKey := by
  refine qC_of (own := R_M) (by decide) rfl ⟨rfl, rfl⟩ ?_ ?_
  · intro av σ h; unfold pre_M_endOfKey at h; split at h
    · simp [qen]
    · exact h.elim
  · intro WW QR S Q av σ hav hσ h hq; unfold pre_M_endOfKey at h; split at h
    next o a1 a2 =>
      obtain ⟨rfl, h⟩ := h
      exact w_M_endOfKey S Q a1 a2 σ (hav _ (List.mem_of_getElem? (i := 1) rfl)) (hav _ (List.mem_of_getElem? (i := 2) rfl)) hσ h (fun r σ' h' => hq _ σ' h')
    next => exact h.elim
def con (σ : qS) (fr to : Int) : qS := su (su (su (su σ 22 0 (σ 79 fr)) 23 0 80) 24 0 fr) 25 0 to
def P_M_callOn (p fr to : Int) (σ : qS) : Prop := progok σ p ∧ 0 ≤ fr ∧ fr < to ∧ to ≤ 1000
def Q_M_callOn (p fr to : Int) (σ : qS) (r : Int) (σ' : qS) : Prop := F_mac (con σ fr to) σ' ∧ callres (scall (con σ fr to) p) r σ'
def pre_M_callOn (av : List qA) (σ : qS) : Prop := match av with
  | [.inr (.inr o), .inl a1, .inl a2, .inl a3] => o = 900 ∧ P_M_callOn a1 a2 a3 σ
  | _ => False
def post_M_callOn (av : List qA) (σ : qS) (r : Option qA) (σ' : qS) : Prop := match av, r with
  | [_, .inl a1, .inl a2, .inl a3], some (.inl r) => Q_M_callOn a1 a2 a3 σ r σ'
  | _, _ => False
def oc_M_callOn (K : qP) : qP := fun st ls σ => match st with
  | .inl a3 :: .inl a2 :: .inl a1 :: .inr (.inr o) :: st => o = 900 ∧ (st.map qcat).sum ≤ 8 ∧ P_M_callOn a1 a2 a3 σ ∧ ∀ (r : Int) (σ' : qS), Q_M_callOn a1 a2 a3 σ r σ' → K (.inl r :: st) ls σ'
  | _ => False
def rm_M_callOn : Room := { frames := 4, cells := 0, slots := 0, locals := 99 }
theorem fl_M_192 : qF R_M 900 0 82 0 R_M F_M 192 80 := ⟨Or.inl ⟨rfl, rfl, rfl, rfl, rfl, rfl⟩, by decide, lw_at 158 (by decide +kernel) rfl⟩
theorem sc_M_385 {l : Launch} {R : Room} {ad : Nat → Nat} {D : va_G} {cA : Nat → ClassId} {cc : ByteArray} {nL : Nat} {WW : Nat → qP} (S : qSnd l R ad D cA R_M cc nL WW) (hR : rm_M_call.frames + 1 ≤ R.frames ∧ 8 + (7 + 11) + rm_M_call.locals ≤ R.locals) {K : qP} {pc : Nat} (d : decode cc pc = .ok (.invokevirtual 385, 3)) (h : qle K WW (pc + 3)) : qle (oc_M_call K) WW pc := by
  intro st ls σ k
  refine S.callV (o := 900) (ci := 0) (N := 82) (base := 0) (C := R_M) (T := F_M) (n := 1) (pre := pre_M_call) (post := post_M_call) (Or.inl ⟨rfl, rfl, rfl, rfl, rfl, rfl⟩) ⟨lw_at 696 (by decide +kernel) rfl, lw_at 693 (by decide +kernel) rfl, lw_at 59 (by decide +kernel) rfl, by decide, by decide, by decide +kernel⟩ ⟨lw_at 695 (by decide +kernel) rfl, lw_at 42 (by decide +kernel) rfl⟩ ⟨rfl, rfl⟩ hR (c_M_call l ad D cA) ?_ d h st ls σ ?_
  · intro av σ h; unfold pre_M_call at h; split at h
    · obtain ⟨rfl, h⟩ := h; exact ⟨_, rfl⟩
    · exact h.elim
  · unfold oc_M_call at k
    split at k
    next a1 o st =>
      obtain ⟨rfl, hs, hp, k⟩ := k
      refine ⟨[.inr (.inr 900), .inl a1], st, rfl, rfl, hs, ⟨rfl, hp⟩, fun r σ' hq => ?_⟩
      unfold post_M_call at hq
      split at hq
      next h1 =>
        cases h1
        exact k _ _ hq
      next => exact hq.elim
    next => exact k.elim
def k_M_callOn_0 (QR : Option qA → qS → Prop) (H : Nat → qP) : qP :=
  o_al 0 <| o_al 0 <| o_gA 900 79 <| o_il 2 <| o_jak 79 1000 <| o_pJ 900 22 <| o_al 0 <| o_al 0 <| o_gA 900 80 <| o_pR 900 23 <| o_al 0 <| o_il 2 <| o_pI 900 24 <| o_al 0 <| o_il 3 <| o_pI 900 25 <| o_al 0 <| o_il 1 <| oc_M_call <| o_rz QR
set_option maxRecDepth 8000 in
theorem s_M_callOn_0 {l : Launch} {ad : Nat → Nat} {D : va_G} {cA : Nat → ClassId} {WW : Nat → qP} {QR : Option qA → qS → Prop} (S : qSnd l rm_M_callOn ad D cA R_M b_M_callOn 4 WW) (Q : qRet (some .boolean) b_M_callOn WW QR) : qle (k_M_callOn_0 QR WW) WW 0 :=
  S.aload_n d_M_callOn_0 rfl <| S.aload_n d_M_callOn_1 rfl <| S.gA fl_M_189 (by decide) d_M_callOn_2 <| S.iload_n d_M_callOn_5 rfl <| S.jak (by decide) d_M_callOn_6 <| S.pJ fl_M_234 (by decide) (by decide +kernel) d_M_callOn_7 <| S.aload_n d_M_callOn_10 rfl <| S.aload_n d_M_callOn_11 rfl <| S.gA fl_M_192 (by decide) d_M_callOn_12 <| S.pR fl_M_250 (by decide) (by decide +kernel) d_M_callOn_15 <| S.aload_n d_M_callOn_18 rfl <| S.iload_n d_M_callOn_19 rfl <| S.pI fl_M_241 (by decide) (by decide +kernel) d_M_callOn_20 <| S.aload_n d_M_callOn_23 rfl <| S.iload_n d_M_callOn_24 rfl <| S.pI fl_M_244 (by decide) (by decide +kernel) d_M_callOn_25 <| S.aload_n d_M_callOn_28 rfl <| S.iload_n d_M_callOn_29 rfl <| sc_M_385 S (by decide) d_M_callOn_30 <| Q.2.1 rfl _ d_M_callOn_33
theorem w_M_callOn {l : Launch} {ad : Nat → Nat} {D : va_G} {cA : Nat → ClassId} {WW : Nat → qP} {QR : Option qA → qS → Prop} (S : qSnd l rm_M_callOn ad D cA R_M b_M_callOn 4 WW) (Q : qRet (some .boolean) b_M_callOn WW QR) (a1 : Int) (a2 : Int) (a3 : Int) (σ : qS) (ha1 : r32 a1) (ha2 : r32 a2) (ha3 : r32 a3) (hσ : qoS σ) (h : P_M_callOn a1 a2 a3 σ) (hq : ∀ (r : Int) σ', Q_M_callOn a1 a2 a3 σ r σ' → QR (some (.inl r)) σ') : WW 0 [] [some (.inr (.inr 900)), some (.inl a1), some (.inl a2), some (.inl a3)] σ := by
  refine s_M_callOn_0 S Q _ _ _ ?_
  simp only [k_M_callOn_0, oc_M_call, o_c, o_il, o_ll, o_al, o_is, o_as, o_ls, o_inc, o_bi, o_bid, o_bl, o_bld, o_sl, o_i2l, o_l2i, o_dup, o_dup2, o_pop, o_pop2, o_if, o_i2, o_l2, swg, o_sw, o_gI, o_gZ, o_gJ, o_gA, o_gR, o_pI, o_pZ, o_pJ, o_pR, o_ia, o_iak, o_zak, o_ja, o_jak, o_is_, o_isk, o_zsk, o_js_, o_jsk, o_len, o_ri, o_rz, o_rl, o_rv, ls1, ls2, lks, lkj, List.getD_cons_zero, List.getD_cons_succ, List.set_cons_zero, List.set_cons_succ, qcat, true_and, and_true, List.map_nil, List.map_cons, List.sum_nil, List.sum_cons, Nat.reduceAdd, Nat.reduceLeDiff, Nat.zero_le, Int.reduceAdd, Int.reduceNeg, Int.reduceEq, or_true, true_or, Decidable.not_not]
  obtain ⟨h1, h2, h3, h4⟩ := h
  refine ⟨by omega, ?_, fun r σ1 q1 => ⟨?_, hq _ _ ⟨q1.1, q1.2⟩⟩⟩
  · refine ⟨?_, Or.inr ⟨?_, ?_⟩, ?_⟩
    · unfold progok at h1 ⊢; simp (disch := omega) only [su_k, su_s, z_add, z_sub, z_mul, w32_i]; exact h1
    · simp (disch := omega) only [su_k, su_s, z_add, z_sub, z_mul, w32_i]; rfl
    · simp (disch := omega) only [su_k, su_s, z_add, z_sub, z_mul, w32_i]; omega
    · simp (disch := omega) only [su_k, su_s, z_add, z_sub, z_mul, w32_i]; omega
  · have this : callres (scall (con σ a2 a3) a1) r σ1 := q1.2
    cases hr : scall (con σ a2 a3) a1 with
    | none => rw [hr] at this; exact Or.inl this
    | some x => rw [hr] at this; exact Or.inr this.1
theorem c_M_callOn (l : Launch) (ad : Nat → Nat) (D : va_G) (cA : Nat → ClassId) : qC l ad D cA y_M_callOn (Cond.code y_M_callOn b_M_callOn 4 (some .boolean) :: lw_g) rm_M_callOn pre_M_callOn post_M_callOn := by
  refine qC_of (own := R_M) (by decide) rfl ⟨rfl, rfl⟩ ?_ ?_
  · intro av σ h; unfold pre_M_callOn at h; split at h
    · simp [qen]
    · exact h.elim
  · intro WW QR S Q av σ hav hσ h hq; unfold pre_M_callOn at h; split at h
    next o a1 a2 a3 =>
      obtain ⟨rfl, h⟩ := h
      exact w_M_callOn S Q a1 a2 a3 σ (hav _ (List.mem_of_getElem? (i := 1) rfl)) (hav _ (List.mem_of_getElem? (i := 2) rfl)) (hav _ (List.mem_of_getElem? (i := 3) rfl)) hσ h (fun r σ' h' => hq _ σ' h')
    next => exact h.elim

