def wL : List Nat := wA ++ lA ++ SC ++ dA ++ pA
def wF (σ σ' : qS) : Prop := ∀ k, k ∉ wL → σ' k = σ k
theorem wF.rf (σ : qS) : wF σ σ := fun _ _ => rfl
theorem wF.tr {σ σ1 σ2 : qS} (h : wF σ σ1) (h' : wF σ1 σ2) : wF σ σ2 := fun k hk => (h' k hk).trans (h k hk)
theorem wF.su {σ : qS} {k : Nat} {i v : Int} (h : k ∈ wL) : wF σ (su σ k i v) := fun q hq => su_k (by intro e; subst e; exact hq h)
theorem wF.of {σ σ' : qS} {S : List Nat} (hS : ∀ k ∈ S, k ∈ wL) (h : ∀ k, k ∉ S → σ' k = σ k) : wF σ σ' := fun k hk => h k (fun e => hk (hS k e))
theorem wF.fgt (σ : qS) (w : Int) : wF σ (fgt σ w) := wF.of (S := fgL) (by decide) (fun k hk => fgt_F hk)
theorem wF.tell {σ σ' : qS} {to ty a b c d : Int} (h : Q_M_tell to ty a b c d σ σ') : wF σ σ' := wF.of (by decide) h.1
theorem wF.done {σ σ' : qS} {w t m : Int} (h : Q_M_done w t m σ σ') : wF σ σ' := by
  obtain ⟨σ1, q1, rfl⟩ := h
  exact (wF.tell q1).tr (wF.fgt σ1 w)
theorem wF.traps {σ σ' : qS} {w : Int} (h : Q_M_traps w σ σ') : wF σ σ' := by
  obtain ⟨σ1, q1, rfl⟩ := h
  exact (wF.tell q1).tr (wF.fgt σ1 w)
theorem wF.rd {σ σ' : qS} {w : Int} (h : Q_M_reads w σ σ') : wF σ σ' := by
  rcases h with ⟨-, rfl⟩ | ⟨-, q⟩ | ⟨-, q⟩ | ⟨-, rfl⟩
  · split
    · exact ((wF.fgt σ w).tr (wF.su (by decide))).tr (wF.su (by decide))
    · exact wF.rf _
  · rcases q with ⟨-, rfl⟩ | ⟨-, c, -⟩
    · exact wF.rf _
    · exact wF.of (by decide) c
  · rcases q with ⟨-, rfl⟩ | ⟨-, rfl⟩
    · exact wF.rf _
    · exact wF.of (by decide) gts_v.1
  · exact wF.rf _
theorem wF.ltr {σ σ' : qS} {w : Int} (h : Ltr w σ σ') : wF σ σ' := by
  obtain ⟨r, σ1, q, c⟩ := h
  have h1 : wF σ σ1 := by
    rcases q with ⟨-, rfl, -⟩ | ⟨i, x, f1, f2, f3, -⟩
    · exact wF.rf _
    · exact wF.of (by decide) f3
  rcases c with ⟨-, rfl⟩ | ⟨-, c⟩
  · exact h1
  · exact h1.tr (wF.rd c)
theorem wF_wk1 (σ : qS) (w : Int) : wF σ (wk1 σ w) := by
  have h0 : wF σ (wk0 σ w) := by
    unfold wk0
    split
    · exact (wF.fgt σ w).tr (wF.su (by decide))
    · exact wF.rf _
  have h1 : wF (wk0 σ w) (rnw (wk0 σ w) w) := by
    unfold rnw
    split
    · exact wF.rf _
    · refine wF.of (S := [54, 55, 56]) (by decide) (fun k hk => ?_)
      simp only [List.mem_cons, List.not_mem_nil, or_false, not_or] at hk
      rw [ra_k (by omega), su_k (by omega), su_k (by omega)]
  unfold wk1
  split
  · exact (h0.tr h1).tr (wF.fgt _ w)
  · exact h0.tr h1
theorem wF.mp {σ σ' : qS} {w : Int} (h : F_mp w σ σ') : wF σ σ' := fun k hk => h.1 k (fun e => hk ((by decide : ∀ k ∈ SC, k ∈ wL) k e)) (fun e => hk ((by decide : ∀ k ∈ 64 :: MB, k ∈ wL) k e))
theorem wF.maps {σ σ' : qS} {w : Int} (hm : WMp σ w) (hq : Q_M_maps w σ σ') : wF σ σ' := by
  obtain ⟨m1, m2, E, m3, m4, m5⟩ := hm
  rcases hq with ⟨q1, q2⟩ | ⟨q1, q2, q3⟩ | ⟨q1, q2, q3⟩
  · exact wF.done q2
  · obtain ⟨σ1, f1, c⟩ := q3 E m3
    refine (wF.mp f1).tr ?_
    rcases c with ⟨out, σ2, c1, c2, c3, c4⟩ | ⟨c1, σ2, c3, c4⟩
    · refine wF.tr (fun k hk => c3.1 k (fun e => hk ((by decide : ∀ k ∈ SC, k ∈ wL) k e)) (fun e => hk ((by decide : ∀ k ∈ [59, 60, 55, 56, 57, 58], k ∈ wL) k e))) (wF.done c4)
    · refine wF.tr (fun k hk => c3.1 k (fun e => hk ((by decide : ∀ k ∈ SC, k ∈ wL) k e)) (fun e => hk ((by decide : ∀ k ∈ [59, 60], k ∈ wL) k e))) (wF.traps c4)
  · rcases q3 with ⟨c1, σ1, f1, c2⟩ | ⟨em, c1, f1, c2, c3⟩
    · exact (wF.mp f1).tr (wF.traps c2)
    · exact wF.mp f1
theorem wF.red {σ σ' : qS} {w : Int} (hq : Q_M_reduces w σ σ') : wF σ σ' := by
  rcases hq with ⟨q1, q2⟩ | ⟨q1, q2, q3, rfl⟩ | ⟨q1, q2, q3, q4, rfl⟩ | ⟨q1, q2, q3, q4, σ1, q5, q6⟩ | ⟨q1, q2, q3⟩
  · exact wF.done q2
  · exact wF.fgt σ w
  · exact wF.su (by decide)
  · refine (wF.tell q5).tr ?_
    rcases q6 with ⟨c1, rfl⟩ | ⟨c1, σ2, c2, rfl⟩
    · exact (wF.su (by decide)).tr (wF.su (by decide))
    · exact (((wF.su (by decide)).tr (wF.su (by decide))).tr (wF.tell c2)).tr ((wF.su (by decide)).tr (wF.su (by decide)))
  · rcases q3 with ⟨out, σ1, c1, c2, c3, c4⟩ | ⟨c1, σ1, c3, c4⟩
    · refine wF.tr (fun k hk => c3.1 k (fun e => hk ((by decide : ∀ k ∈ SC, k ∈ wL) k e)) (fun e => hk ((by decide : ∀ k ∈ [42, 43, 41, 40], k ∈ wL) k e))) (wF.done c4)
    · refine wF.tr (fun k hk => c3.1 k (fun e => hk ((by decide : ∀ k ∈ SC, k ∈ wL) k e)) (fun e => hk ((by decide : ∀ k ∈ [42, 43], k ∈ wL) k e))) (wF.traps c4)
theorem wkr_F {σ σ' : qS} {w : Int} (h : JI False (-1) σ) (hw : 0 ≤ w ∧ w < 6) (hq : Q_M_worker w σ σ') : wF σ σ' := by
  obtain ⟨i1, i2⟩ := wk1_ok h hw
  obtain ⟨σ1, σ2, σ3, q1, q2, q3, q4⟩ := hq
  obtain ⟨a1, a2⟩ := ltr_ok i1 hw i2 q1
  obtain ⟨b1, b2⟩ := ltr_ok a1 hw a2 q2
  obtain ⟨c1, c2⟩ := ltr_ok b1 hw b2 q3
  have hp : -1 ≤ σ3 62 w := by
    have hW := c1.2.2.2.2.2.2.2.2.1 w hw.1 hw.2 (by omega) c2.1
    rcases hW with ⟨e, -⟩ | ⟨e1, e2, e3⟩
    · omega
    · rcases e3 (c2.2.2 e1) with hm | hr
      · have := hm.1; omega
      · have := hr.1; omega
  refine (((wF_wk1 σ w).tr (wF.ltr q1)).tr (wF.ltr q2)).tr ((wF.ltr q3).tr ?_)
  rcases q4 with ⟨e, σ4, q, rfl⟩ | ⟨e1, e2, q⟩ | ⟨e, q⟩
  · refine wF.tr ?_ (wF.su (by decide))
    rcases q with ⟨-, q⟩ | ⟨-, rfl⟩
    · exact wF.tell q
    · exact wF.rf _
  · exact wF.maps (mp_P c1 hw c2 (by omega) e2).1 q
  · exact wF.red q
def oS : List Nat := s1 ++ s2 ++ s3 ++ s4 ++ s5 ++ [14, 116, 31, 32, 29, 30, 39, 28, 0, 1] ++ sD
def RUN (N : Nat) (σ : qS) : Prop := σ 32 0 < σ 30 0 ∧ σ 28 0 = -1 ∧ σ 31 0 + (σ 30 0 - σ 32 0) ≤ 8 * N + 1 ∧ runF (jfD σ) (σ 110) (ordL σ (σ 32 0) (σ 30 0 - σ 32 0).toNat) (fM σ) = RES σ
def OUTC (c : Nat) (σ : qS) : Prop := CH σ ∧ (σ 27 0 = 0 ∨ σ 27 0 = 1) ∧ (0 ≤ σ 32 0 ∧ σ 32 0 ≤ σ 30 0) ∧ (0 : Int) ≤ c
def RJm (m : Prop) (N c : Nat) (σ : qS) : Prop := OUTC c σ ∧ (σ 27 0 = 0 → (σ 28 0, fM σ) = RES σ) ∧ (σ 27 0 ≠ 0 → RUN N σ ∧ JI m (-1) σ)
theorem jfD_k2 {σ σ' : qS} (h : ∀ k ∈ sD, σ' k = σ k) : jfD σ' = jfD σ := by
  funext j FS
  unfold jfD
  rw [dprg_keep _ (h _ (by decide)) (h _ (by decide)) (h _ (by decide)), dprg_keep _ (h _ (by decide)) (h _ (by decide)) (h _ (by decide)), dprg_keep _ (h _ (by decide)) (h _ (by decide)) (h _ (by decide)), h 111 (by decide), h 108 (by decide), h 109 (by decide)]
theorem CH_k {σ σ' : qS} (h : ∀ k ∈ [30, 117, 112, 29, 9], σ' k = σ k) (hc : CH σ) : CH σ' := by
  unfold CH
  rw [h 30 (by decide), h 117 (by decide), h 112 (by decide), h 29 (by decide), h 9 (by decide)]
  exact hc
theorem INV_k {m m' : Prop} {N c : Nat} {σ σ' : qS} (h : INVr (RJm m) N c σ) (hk : ∀ k ∈ oS, σ' k = σ k) (h7 : B7 σ') (hJ : σ 27 0 ≠ 0 → JI m' (-1) σ') : INVr (RJm m') N c σ' := by
  obtain ⟨⟨b1, b2, b3, b4, b5, b6⟩, he, hb, ⟨o1, o2, o3, o4⟩, hg0, hg1⟩ := h
  have sub : ∀ {S : List Nat}, (∀ k ∈ S, k ∈ oS) → ∀ k ∈ S, σ' k = σ k := fun hS k m => hk k (hS k m)
  have eR : RES σ' = RES σ := RES_k (sub (by decide))
  have eF : fM σ' = fM σ := fM_k (sub (by decide))
  refine ⟨⟨B1_k b1 (sub (by decide)), B2_k b2 (sub (by decide)), B3_k b3 (sub (by decide)), B4_k b4 (sub (by decide)), B5_k b5 (sub (by decide)), ?_, h7⟩, ?_, ?_, ⟨CH_k (sub (by decide)) o1, ?_, ?_, ?_⟩, fun hg => ?_, fun hg => ⟨?_, ?_⟩⟩
  · rw [hk 116 (by decide), hk 14 (by decide)]; exact b6.1
  · rw [hk 31 (by decide)]; exact he
  · rw [hk 26 (by decide)]; exact hb
  · rw [hk 27 (by decide)]; exact o2
  · rw [hk 32 (by decide), hk 30 (by decide)]; exact o3
  · exact o4
  · rw [hk 27 (by decide)] at hg
    rw [hk 28 (by decide), eF, eR]; exact hg0 hg
  · rw [hk 27 (by decide)] at hg
    unfold RUN ordL
    rw [hk 32 (by decide), hk 30 (by decide), hk 28 (by decide), hk 31 (by decide), hk 110 (by decide), hk 112 (by decide), eF, eR, jfD_k2 (sub (by decide))]
    exact (hg1 hg).1
  · rw [hk 27 (by decide)] at hg
    exact hJ hg
theorem wone_ok {N c : Nat} {σ : qS} {w : Int} (h : INVr (RJm False) N c σ) (hw : 0 ≤ w ∧ w < 6) : P_M_one w σ ∧ ∀ σ', Q_M_one w σ σ' → INVr (RJm False) N c σ' := by
  have hJ := fun hg => (h.2.2.2.2.2 hg).2
  refine ⟨fun hg => ⟨fun e => by omega, fun _ => (wkr_ok (hJ hg) hw).1⟩, fun σ' hq => ?_⟩
  rcases hq with ⟨-, rfl⟩ | ⟨-, e, -⟩ | ⟨hg, -, q⟩
  · exact h
  · omega
  · have h1 := (wkr_ok (hJ hg) hw).2 σ' q
    have hF := wkr_F (hJ hg) hw q
    exact INV_k h (fun k m => hF k ((by decide : ∀ k ∈ oS, k ∉ wL) k m)) h1.2.2.2.2.2.2.2.2.2.2 (fun _ => h1)
theorem JI_j {m m' : Prop} {u : Int} {σ σ' : qS} (h : JI m u σ) (hk : ∀ k, k ∉ jS → σ' k = σ k) (hS : JS σ') (hQ : JQ σ') (hG : GVN σ') (hm : m ∧ mapd σ → TOT σ ∨ (m' ∧ mapd σ')) : JI m' u σ' := by
  obtain ⟨j1, j2, j3, j4, j5, j6, j7, j8, j9, j10, j11⟩ := h
  have sub : ∀ {S : List Nat}, (∀ k ∈ S, k ∉ jS) → ∀ k ∈ S, σ' k = σ k := fun hS k m => hk k (hS k m)
  have hs : stE σ σ' := sub (by decide)
  have hd : ∀ k ∈ dA, σ' k = σ k := sub (by decide)
  have hwA : ∀ k ∈ wA, σ' k = σ k := sub (by decide)
  refine ⟨st_job hs j1, ?_, ?_, JD_eq hs j4 hd, hS, JP_eq hs j6 (sub (by decide)), hQ, fun x hx => ?_, fun v v0 v1 vu hv => ?_, hG, fun v v0 v1 => ⟨?_, ?_⟩, fun p p0 p1 => ?_⟩
  · unfold POK; rw [st_jb hs]; exact ⟨st_pok hs j2.1, st_pok hs j2.2.1, st_pok hs j2.2.2⟩
  · unfold lok; rw [hk _ (by decide)]; exact j3
  · rw [ln_k (sub (by decide))] at hx
    exact LOK_m j1 hs (dmon_eq hd) (pmon_eq (hk _ (by decide))) hm (j8 x hx)
  · rw [hwA 61 (by decide)] at hv
    exact WOK_sl j1 hs (WSl_eq hwA v) (j9 v v0 v1 vu hv)
  · rw [hd _ (by decide), st_era hs]; exact (j11.1 v v0 v1).1
  · rw [hwA 76 (by decide)]; exact (j11.1 v v0 v1).2
  · rw [hk _ (by decide), st_era hs]; exact j11.2 p p0 p1

