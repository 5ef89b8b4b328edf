theorem scall_con {σ : qS} {fr to p : Int} (h : fr ≤ to) : scall (con σ fr to) p = lcall (prg σ p) (p % 3) (σ 79 fr) (vls (σ 80) fr (to - fr).toNat) := by
  unfold scall
  have e1 : con σ fr to 6 = σ 6 := by unfold con; simp (disch := omega) only [su_k]
  have e2 : con σ fr to 7 = σ 7 := by unfold con; simp (disch := omega) only [su_k]
  have e3 : con σ fr to 8 = σ 8 := by unfold con; simp (disch := omega) only [su_k]
  have e4 : con σ fr to 22 0 = σ 79 fr := by unfold con; simp (disch := omega) only [su_k, su_s]
  have e5 : con σ fr to 24 0 = fr := by unfold con; simp (disch := omega) only [su_k, su_s]
  have e6 : con σ fr to 25 0 = to := by unfold con; simp (disch := omega) only [su_k, su_s]
  have e7 : crow (con σ fr to) = σ 80 := by
    unfold crow
    have : con σ fr to 23 0 = 80 := by unfold con; simp (disch := omega) only [su_k, su_s]
    rw [this]
    show con σ fr to 80 = _
    unfold con; simp (disch := omega) only [su_k]
  rw [e1, e2, e3, e4, e5, e6, e7, mcall_l h]; rfl
def SC : List Nat := [15, 16, 17, 18, 19, 20, 21, 22, 23, 24, 25, 79, 80, 81]
theorem con_F {σ : qS} {fr to : Int} {k : Nat} (hk : k ∉ [22, 23, 24, 25]) : con σ fr to k = σ k := by
  unfold con
  rw [su_k (by intro e; subst e; exact hk (by decide)), su_k (by intro e; subst e; exact hk (by decide)), su_k (by intro e; subst e; exact hk (by decide)), su_k (by intro e; subst e; exact hk (by decide))]
def F_mc (σ σ' : qS) : Prop := ∀ k, k ∉ [15, 16, 17, 18, 19, 20, 21, 22, 23, 24, 25] → σ' k = σ k
theorem F_mc_con {σ σ' : qS} {fr to : Int} (h : F_mac (con σ fr to) σ') : F_mc σ σ' := fun k hk => by
  rw [h k (fun e => hk (by simp only [List.mem_cons, List.not_mem_nil, or_false] at e ⊢; omega)), con_F (fun e => hk (by simp only [List.mem_cons, List.not_mem_nil, or_false] at e ⊢; omega))]
theorem F_mc.tr {σ σ1 σ2 : qS} (h : F_mc σ σ1) (h' : F_mc σ1 σ2) : F_mc σ σ2 := fun k hk => (h' k hk).trans (h k hk)
def F_dk (w fr : Int) (σ σ' : qS) : Prop := (∀ k, k ∉ SC → k ∉ [59, 60] → σ' k = σ k) ∧ ∀ j, (j < w * 1000 + fr ∨ w * 1000 + 1000 ≤ j) → σ' 59 j = σ 59 j ∧ σ' 60 j = σ 60 j
theorem F_dk.tr {w fr : Int} {σ σ1 σ2 : qS} (h : F_dk w fr σ σ1) (h' : F_dk w fr σ1 σ2) : F_dk w fr σ σ2 := ⟨fun k h1 h2 => (h'.1 k h1 h2).trans (h.1 k h1 h2), fun j hj => ⟨((h'.2 j hj).1).trans (h.2 j hj).1, ((h'.2 j hj).2).trans (h.2 j hj).2⟩⟩
theorem F_mc.dk {w fr : Int} {σ σ' : qS} (h : F_mc σ σ') : F_dk w fr σ σ' := ⟨fun k h1 _ => h k (fun e => h1 (by unfold SC; simp only [List.mem_cons, List.not_mem_nil, or_false] at e ⊢; omega)), fun j _ => by rw [h _ (by decide), h _ (by decide)]; exact ⟨rfl, rfl⟩⟩
theorem F_mrg.dk {w fr : Int} {σ σ' : qS} (h : F_mrg σ σ') : F_dk w fr σ σ' := ⟨fun k h1 _ => h k (fun e => h1 (by unfold SC; simp only [List.mem_cons, List.not_mem_nil, or_false] at e ⊢; omega)), fun j _ => by rw [h _ (by decide), h _ (by decide)]; exact ⟨rfl, rfl⟩⟩
def KP (σ : qS) (w : Int) (E : List Pr) : Prop := (1 ≤ σ 73 w ∧ σ 73 w ≤ 64) ∧ σ 74 (w * 65) = 0 ∧ (σ 74 (w * 65 + σ 73 w) ≤ 64 ∧ σ 74 (w * 65 + σ 73 w) = E.length) ∧ (∀ i : Nat, (i : Int) < σ 73 w → σ 74 (w * 65 + i) ≤ σ 74 (w * 65 + i + 1)) ∧ (∀ i : Nat, (i : Int) < σ 73 w → srtd (row σ 71 72 (w * 64 + σ 74 (w * 65 + i)) (σ 74 (w * 65 + i + 1) - σ 74 (w * 65 + i)).toNat)) ∧ ∀ c, fk c (row σ 71 72 (w * 64) E.length) = fk c E
def cmb (σ : qS) (E : List Pr) : Option (List Pr) := if σ 8 (jb σ * 3 + 1) = 0 then some (srt E) else gmap (fun k vs => lcall (prg σ (jb σ * 3 + 1)) 1 k vs) E.length (srt E)
def P_M_keep (w t : Int) (σ : qS) : Prop := (0 ≤ w ∧ w < 6) ∧ (0 ≤ t ∧ t < 38) ∧ lok σ ∧ (0 ≤ σ 32 0 ∧ σ 32 0 < 8) ∧ (0 ≤ jb σ ∧ jb σ < 8) ∧ progok σ (jb σ * 3 + 1) ∧ (0 ≤ σ 55 w ∧ σ 55 w ≤ 1000) ∧ ∃ E, KP σ w E
def K1 (w t : Int) (out : List Pr) (σ σ1 : qS) : Prop := (∀ k, k ∉ SC → k ∉ [59, 60, 55, 56, 57, 58] → σ1 k = σ k) ∧ (∀ j, (j < w * 1000 + σ 55 w ∨ w * 1000 + 1000 ≤ j) → σ1 59 j = σ 59 j ∧ σ1 60 j = σ 60 j) ∧ row σ1 59 60 (w * 1000 + σ 55 w) out.length = out ∧
  (∀ j, σ1 55 j = if j = w then σ 55 w + out.length else σ 55 j) ∧ (∀ j, σ1 56 j = if j = w * 38 + t then σ 55 w else σ 56 j) ∧ (∀ j, σ1 57 j = if j = w * 38 + t then (out.length : Int) else σ 57 j) ∧ ∀ j, σ1 58 j = if j = w * 38 + t then sumf σ1 w out.length (σ 55 w) out.length else σ 58 j
def Q_M_keep (w t : Int) (σ σ' : qS) : Prop := ∀ E, KP σ w E → (∃ out σ1, cmb σ E = some out ∧ σ 55 w + out.length ≤ 1000 ∧ K1 w t out σ σ1 ∧ Q_M_done w t out.length σ1 σ') ∨ ((cmb σ E = none ∨ ∃ out, cmb σ E = some out ∧ 1000 < σ 55 w + out.length) ∧ ∃ σ1, F_dk w (σ 55 w) σ σ1 ∧ Q_M_traps w σ1 σ')
def pre_M_keep (av : List qA) (σ : qS) : Prop := match av with
  | [.inr (.inr o), .inl a1, .inl a2] => o = 900 ∧ P_M_keep a1 a2 σ
  | _ => False
def post_M_keep (av : List qA) (σ : qS) (r : Option qA) (σ' : qS) : Prop := match av, r with
  | [_, .inl a1, .inl a2], none => Q_M_keep a1 a2 σ σ'
  | _, _ => False
def oc_M_keep (K : qP) : qP := fun st ls σ => match st with
  | .inl a2 :: .inl a1 :: .inr (.inr o) :: st => o = 900 ∧ (st.map qcat).sum ≤ 8 ∧ P_M_keep a1 a2 σ ∧ ∀ (σ' : qS), Q_M_keep a1 a2 σ σ' → K st ls σ'
  | _ => False
def rm_M_keep : Room := { frames := 5, cells := 0, slots := 0, locals := 122 }
theorem fl_M_123 : qF R_M 900 0 82 0 R_M F_M 123 57 := ⟨Or.inl ⟨rfl, rfl, rfl, rfl, rfl, rfl⟩, by decide, lw_at 135 (by decide +kernel) rfl⟩
theorem fl_M_126 : qF R_M 900 0 82 0 R_M F_M 126 58 := ⟨Or.inl ⟨rfl, rfl, rfl, rfl, rfl, rfl⟩, by decide, lw_at 136 (by decide +kernel) rfl⟩
theorem sc_M_403 {l : Launch} {R : Room} {ad : Nat → Nat} {D : va_G} {cA : Nat → ClassId} {cc : ByteArray} {nL : Nat} {WW : Nat → qP} (S : qSnd l R ad D cA R_M cc nL WW) (hR : rm_M_callOn.frames + 1 ≤ R.frames ∧ 8 + (4 + 11) + rm_M_callOn.locals ≤ R.locals) {K : qP} {pc : Nat} (d : decode cc pc = .ok (.invokevirtual 403, 3)) (h : qle K WW (pc + 3)) : qle (oc_M_callOn K) WW pc := by
  intro st ls σ k
  refine S.callV (o := 900) (ci := 0) (N := 82) (base := 0) (C := R_M) (T := F_M) (n := 3) (pre := pre_M_callOn) (post := post_M_callOn) (Or.inl ⟨rfl, rfl, rfl, rfl, rfl, rfl⟩) ⟨lw_at 692 (by decide +kernel) rfl, lw_at 689 (by decide +kernel) rfl, lw_at 59 (by decide +kernel) rfl, by decide, by decide, by decide +kernel⟩ ⟨lw_at 691 (by decide +kernel) rfl, lw_at 41 (by decide +kernel) rfl⟩ ⟨rfl, rfl⟩ hR (c_M_callOn l ad D cA) ?_ d h st ls σ ?_
  · intro av σ h; unfold pre_M_callOn at h; split at h
    · obtain ⟨rfl, h⟩ := h; exact ⟨_, rfl⟩
    · exact h.elim
  · unfold oc_M_callOn at k
    split at k
    next a3 a2 a1 o st =>
      obtain ⟨rfl, hs, hp, k⟩ := k
      refine ⟨[.inr (.inr 900), .inl a1, .inl a2, .inl a3], st, rfl, rfl, hs, ⟨rfl, hp⟩, fun r σ' hq => ?_⟩
      unfold post_M_callOn at hq
      split at hq
      next h1 =>
        cases h1
        exact k _ _ hq
      next => exact hq.elim
    next => exact k.elim
theorem sc_M_372 {l : Launch} {R : Room} {ad : Nat → Nat} {D : va_G} {cA : Nat → ClassId} {cc : ByteArray} {nL : Nat} {WW : Nat → qP} (S : qSnd l R ad D cA R_M cc nL WW) (hR : rm_M_done.frames + 1 ≤ R.frames ∧ 8 + (4 + 11) + rm_M_done.locals ≤ R.locals) {K : qP} {pc : Nat} (d : decode cc pc = .ok (.invokevirtual 372, 3)) (h : qle K WW (pc + 3)) : qle (oc_M_done K) WW pc := by
  intro st ls σ k
  refine S.callV (o := 900) (ci := 0) (N := 82) (base := 0) (C := R_M) (T := F_M) (n := 3) (pre := pre_M_done) (post := post_M_done) (Or.inl ⟨rfl, rfl, rfl, rfl, rfl, rfl⟩) ⟨lw_at 664 (by decide +kernel) rfl, lw_at 661 (by decide +kernel) rfl, lw_at 59 (by decide +kernel) rfl, by decide, by decide, by decide +kernel⟩ ⟨lw_at 663 (by decide +kernel) rfl, lw_at 34 (by decide +kernel) rfl⟩ ⟨rfl, rfl⟩ hR (c_M_done l ad D cA) ?_ d h st ls σ ?_
  · intro av σ h; unfold pre_M_done at h; split at h
    · obtain ⟨rfl, h⟩ := h; exact ⟨_, rfl⟩
    · exact h.elim
  · unfold oc_M_done at k
    split at k
    next a3 a2 a1 o st =>
      obtain ⟨rfl, hs, hp, k⟩ := k
      refine ⟨[.inr (.inr 900), .inl a1, .inl a2, .inl a3], st, rfl, rfl, hs, ⟨rfl, hp⟩, fun r σ' hq => ?_⟩
      unfold post_M_done at hq
      split at hq
      next h1 =>
        cases h1
        exact k _ hq
      next => exact hq.elim
    next => exact k.elim
theorem sc_M_399 {l : Launch} {R : Room} {ad : Nat → Nat} {D : va_G} {cA : Nat → ClassId} {cc : ByteArray} {nL : Nat} {WW : Nat → qP} (S : qSnd l R ad D cA R_M cc nL WW) (hR : rm_M_endOfKey.frames + 1 ≤ R.frames ∧ 8 + (4 + 11) + rm_M_endOfKey.locals ≤ R.locals) {K : qP} {pc : Nat} (d : decode cc pc = .ok (.invokevirtual 399, 3)) (h : qle K WW (pc + 3)) : qle (oc_M_endOfKey K) WW pc := by
  intro st ls σ k
  refine S.callV (o := 900) (ci := 0) (N := 82) (base := 0) (C := R_M) (T := F_M) (n := 2) (pre := pre_M_endOfKey) (post := post_M_endOfKey) (Or.inl ⟨rfl, rfl, rfl, rfl, rfl, rfl⟩) ⟨lw_at 688 (by decide +kernel) rfl, lw_at 685 (by decide +kernel) rfl, lw_at 59 (by decide +kernel) rfl, by decide, by decide, by decide +kernel⟩ ⟨lw_at 687 (by decide +kernel) rfl, lw_at 40 (by decide +kernel) rfl⟩ ⟨rfl, rfl⟩ hR (c_M_endOfKey l ad D cA) ?_ d h st ls σ ?_
  · intro av σ h; unfold pre_M_endOfKey at h; split at h
    · obtain ⟨rfl, h⟩ := h; exact ⟨_, rfl⟩
    · exact h.elim
  · unfold oc_M_endOfKey at k
    split at k
    next a2 a1 o st =>
      obtain ⟨rfl, hs, hp, k⟩ := k
      refine ⟨[.inr (.inr 900), .inl a1, .inl a2], st, rfl, rfl, hs, ⟨rfl, hp⟩, fun r σ' hq => ?_⟩
      unfold post_M_endOfKey at hq
      split at hq
      next h1 =>
        cases h1
        exact k _ _ hq
      next => exact hq.elim
    next => exact k.elim
theorem sc_M_395 {l : Launch} {R : Room} {ad : Nat → Nat} {D : va_G} {cA : Nat → ClassId} {cc : ByteArray} {nL : Nat} {WW : Nat → qP} (S : qSnd l R ad D cA R_M cc nL WW) (hR : rm_M_lay.frames + 1 ≤ R.frames ∧ 8 + (7 + 11) + rm_M_lay.locals ≤ R.locals) {K : qP} {pc : Nat} (d : decode cc pc = .ok (.invokevirtual 395, 3)) (h : qle K WW (pc + 3)) : qle (oc_M_lay K) WW pc := by
  intro st ls σ k
  refine S.callV (o := 900) (ci := 0) (N := 82) (base := 0) (C := R_M) (T := F_M) (n := 4) (pre := pre_M_lay) (post := post_M_lay) (Or.inl ⟨rfl, rfl, rfl, rfl, rfl, rfl⟩) ⟨lw_at 684 (by decide +kernel) rfl, lw_at 681 (by decide +kernel) rfl, lw_at 59 (by decide +kernel) rfl, by decide, by decide, by decide +kernel⟩ ⟨lw_at 683 (by decide +kernel) rfl, lw_at 39 (by decide +kernel) rfl⟩ ⟨rfl, rfl⟩ hR (c_M_lay l ad D cA) ?_ d h st ls σ ?_
  · intro av σ h; unfold pre_M_lay at h; split at h
    · obtain ⟨rfl, h⟩ := h; exact ⟨_, rfl⟩
    · exact h.elim
  · unfold oc_M_lay at k
    split at k
    next a4 a3 a2 a1 o st =>
      obtain ⟨rfl, hs, hp, k⟩ := k
      refine ⟨[.inr (.inr 900), .inl a1, .inl a2, .inr (.inl a3), .inr (.inl a4)], st, rfl, rfl, hs, ⟨rfl, hp⟩, fun r σ' hq => ?_⟩
      unfold post_M_lay at hq
      split at hq
      next h1 =>
        cases h1
        exact k _ hq
      next => exact hq.elim
    next => exact k.elim
theorem sc_M_391 {l : Launch} {R : Room} {ad : Nat → Nat} {D : va_G} {cA : Nat → ClassId} {cc : ByteArray} {nL : Nat} {WW : Nat → qP} (S : qSnd l R ad D cA R_M cc nL WW) (hR : rm_M_merge.frames + 1 ≤ R.frames ∧ 8 + (11 + 11) + rm_M_merge.locals ≤ R.locals) {K : qP} {pc : Nat} (d : decode cc pc = .ok (.invokevirtual 391, 3)) (h : qle K WW (pc + 3)) : qle (oc_M_merge K) WW pc := by
  intro st ls σ k
  refine S.callV (o := 900) (ci := 0) (N := 82) (base := 0) (C := R_M) (T := F_M) (n := 6) (pre := pre_M_merge) (post := post_M_merge) (Or.inl ⟨rfl, rfl, rfl, rfl, rfl, rfl⟩) ⟨lw_at 676 (by decide +kernel) rfl, lw_at 673 (by decide +kernel) rfl, lw_at 59 (by decide +kernel) rfl, by decide, by decide, by decide +kernel⟩ ⟨lw_at 675 (by decide +kernel) rfl, lw_at 37 (by decide +kernel) rfl⟩ ⟨rfl, rfl⟩ hR (c_M_merge l ad D cA) ?_ d h st ls σ ?_
  · intro av σ h; unfold pre_M_merge at h; split at h
    · obtain ⟨rfl, h⟩ := h; exact ⟨_, rfl⟩
    · exact h.elim
  · unfold oc_M_merge at k
    split at k
    next a6 a5 a4 a3 a2 a1 o st =>
      obtain ⟨rfl, hs, hp, k⟩ := k
      refine ⟨[.inr (.inr 900), .inr (.inr a1), .inr (.inr a2), .inl a3, .inr (.inr a4), .inl a5, .inl a6], st, rfl, rfl, hs, ⟨rfl, hp⟩, fun r σ' hq => ?_⟩
      unfold post_M_merge at hq
      split at hq
      next h1 =>
        cases h1
        exact k _ _ hq
      next => exact hq.elim
    next => exact k.elim
theorem sc_M_407 {l : Launch} {R : Room} {ad : Nat → Nat} {D : va_G} {cA : Nat → ClassId} {cc : ByteArray} {nL : Nat} {WW : Nat → qP} (S : qSnd l R ad D cA R_M cc nL WW) (hR : rm_M_sumOf.frames + 1 ≤ R.frames ∧ 8 + (7 + 11) + rm_M_sumOf.locals ≤ R.locals) {K : qP} {pc : Nat} (d : decode cc pc = .ok (.invokevirtual 407, 3)) (h : qle K WW (pc + 3)) : qle (oc_M_sumOf K) WW pc := by
  intro st ls σ k
  refine S.callV (o := 900) (ci := 0) (N := 82) (base := 0) (C := R_M) (T := F_M) (n := 3) (pre := pre_M_sumOf) (post := post_M_sumOf) (Or.inl ⟨rfl, rfl, rfl, rfl, rfl, rfl⟩) ⟨lw_at 347 (by decide +kernel) rfl, lw_at 344 (by decide +kernel) rfl, lw_at 59 (by decide +kernel) rfl, by decide, by decide, by decide +kernel⟩ ⟨lw_at 346 (by decide +kernel) rfl, lw_at 3 (by decide +kernel) rfl⟩ ⟨rfl, rfl⟩ hR (c_M_sumOf l ad D cA) ?_ d h st ls σ ?_
  · intro av σ h; unfold pre_M_sumOf at h; split at h
    · obtain ⟨rfl, h⟩ := h; exact ⟨_, rfl⟩
    · exact h.elim
  · unfold oc_M_sumOf at k
    split at k
    next a3 a2 a1 o st =>
      obtain ⟨rfl, hs, hp, k⟩ := k
      refine ⟨[.inr (.inr 900), .inl a1, .inl a2, .inl a3], st, rfl, rfl, hs, ⟨rfl, hp⟩, fun r σ' hq => ?_⟩
      unfold post_M_sumOf at hq
      split at hq
      next h1 =>
        cases h1
        exact k _ _ hq
      next => exact hq.elim
    next => exact k.elim
theorem sc_M_388 {l : Launch} {R : Room} {ad : Nat → Nat} {D : va_G} {cA : Nat → ClassId} {cc : ByteArray} {nL : Nat} {WW : Nat → qP} (S : qSnd l R ad D cA R_M cc nL WW) (hR : rm_M_traps.frames + 1 ≤ R.frames ∧ 8 + (2 + 11) + rm_M_traps.locals ≤ R.locals) {K : qP} {pc : Nat} (d : decode cc pc = .ok (.invokevirtual 388, 3)) (h : qle K WW (pc + 3)) : qle (oc_M_traps K) WW pc := by
  intro st ls σ k
  refine S.callV (o := 900) (ci := 0) (N := 82) (base := 0) (C := R_M) (T := F_M) (n := 1) (pre := pre_M_traps) (post := post_M_traps) (Or.inl ⟨rfl, rfl, rfl, rfl, rfl, rfl⟩) ⟨lw_at 680 (by decide +kernel) rfl, lw_at 677 (by decide +kernel) rfl, lw_at 59 (by decide +kernel) rfl, by decide, by decide, by decide +kernel⟩ ⟨lw_at 679 (by decide +kernel) rfl, lw_at 38 (by decide +kernel) rfl⟩ ⟨rfl, rfl⟩ hR (c_M_traps l ad D cA) ?_ d h st ls σ ?_
  · intro av σ h; unfold pre_M_traps at h; split at h
    · obtain ⟨rfl, h⟩ := h; exact ⟨_, rfl⟩
    · exact h.elim
  · unfold oc_M_traps at k
    split at k
    next a1 o st =>
      obtain ⟨rfl, hs, hp, k⟩ := k
      refine ⟨[.inr (.inr 900), .inl a1], st, rfl, rfl, hs, ⟨rfl, hp⟩, fun r σ' hq => ?_⟩
      unfold post_M_traps at hq
      split at hq
      next h1 =>
        cases h1
        exact k _ hq
      next => exact hq.elim
    next => exact k.elim
def k_M_keep_235 (QR : Option qA → qS → Prop) (H : Nat → qP) : qP :=
  o_al 0 <| o_gA 900 55 <| o_il 1 <| o_il 5 <| o_isk 55 6 <| o_al 0 <| o_gA 900 56 <| o_il 1 <| o_c (.inl 38) <| o_bi z_mul <| o_il 2 <| o_bi z_add <| o_il 4 <| o_isk 56 228 <| o_al 0 <| o_gA 900 57 <| o_il 1 <| o_c (.inl 38) <| o_bi z_mul <| o_il 2 <| o_bi z_add <| o_il 5 <| o_il 4 <| o_bi z_sub <| o_isk 57 228 <| o_al 0 <| o_gA 900 58 <| o_il 1 <| o_c (.inl 38) <| o_bi z_mul <| o_il 2 <| o_bi z_add <| o_al 0 <| o_il 1 <| o_il 4 <| o_il 5 <| o_il 4 <| o_bi z_sub <| oc_M_sumOf <| o_jsk 58 228 <| o_al 0 <| o_il 1 <| o_il 2 <| o_il 5 <| o_il 4 <| o_bi z_sub <| oc_M_done <| o_rv QR
def k_M_keep_219 (QR : Option qA → qS → Prop) (H : Nat → qP) : qP :=
  o_il 5 <| o_al 0 <| o_gI 900 20 <| o_bi z_add <| o_is 5 <| o_il 8 <| o_is 7 <| H 130
def k_M_keep_189 (QR : Option qA → qS → Prop) (H : Nat → qP) : qP :=
  o_al 0 <| o_il 1 <| o_il 5 <| o_il 9 <| o_bi z_add <| o_al 0 <| o_gA 900 18 <| o_il 9 <| o_jak 18 4 <| o_al 0 <| o_gA 900 19 <| o_il 9 <| o_jak 19 4 <| oc_M_lay <| o_inc 9 1 <| H 180
def k_M_keep_180 (QR : Option qA → qS → Prop) (H : Nat → qP) : qP :=
  o_il 9 <| o_al 0 <| o_gI 900 20 <| o_i2 (fun a b => b ≤ a) (k_M_keep_219 QR H) (k_M_keep_189 QR H)
def k_M_keep_177 (QR : Option qA → qS → Prop) (H : Nat → qP) : qP :=
  o_c (.inl 0) <| o_is 9 <| H 180
def k_M_keep_171 (QR : Option qA → qS → Prop) (H : Nat → qP) : qP :=
  o_al 0 <| o_il 1 <| oc_M_traps <| o_rv QR
def k_M_keep_158 (QR : Option qA → qS → Prop) (H : Nat → qP) : qP :=
  o_il 5 <| o_al 0 <| o_gI 900 20 <| o_bi z_add <| o_c (.inl 1000) <| o_i2 (fun a b => a ≤ b) (k_M_keep_177 QR H) (k_M_keep_171 QR H)
def k_M_keep_136 (QR : Option qA → qS → Prop) (H : Nat → qP) : qP :=
  o_al 0 <| o_il 7 <| o_il 3 <| oc_M_endOfKey <| o_is 8 <| o_al 0 <| o_il 6 <| o_il 7 <| o_il 8 <| oc_M_callOn <| o_if (fun a => a = 0) (k_M_keep_171 QR H) (k_M_keep_158 QR H)
def k_M_keep_130 (QR : Option qA → qS → Prop) (H : Nat → qP) : qP :=
  o_il 7 <| o_il 3 <| o_i2 (fun a b => b ≤ a) (H 235) (k_M_keep_136 QR H)
def k_M_keep_127 (QR : Option qA → qS → Prop) (H : Nat → qP) : qP :=
  o_c (.inl 0) <| o_is 7 <| H 130
def k_M_keep_118 (QR : Option qA → qS → Prop) (H : Nat → qP) : qP :=
  o_il 5 <| o_il 3 <| o_bi z_add <| o_is 5 <| H 235
def k_M_keep_88 (QR : Option qA → qS → Prop) (H : Nat → qP) : qP :=
  o_al 0 <| o_il 1 <| o_il 5 <| o_il 7 <| o_bi z_add <| o_al 0 <| o_gA 900 79 <| o_il 7 <| o_jak 79 1000 <| o_al 0 <| o_gA 900 80 <| o_il 7 <| o_jak 80 1000 <| oc_M_lay <| o_inc 7 1 <| H 82
def k_M_keep_82 (QR : Option qA → qS → Prop) (H : Nat → qP) : qP :=
  o_il 7 <| o_il 3 <| o_i2 (fun a b => b ≤ a) (k_M_keep_118 QR H) (k_M_keep_88 QR H)
def k_M_keep_79 (QR : Option qA → qS → Prop) (H : Nat → qP) : qP :=
  o_c (.inl 0) <| o_is 7 <| H 82
def k_M_keep_73 (QR : Option qA → qS → Prop) (H : Nat → qP) : qP :=
  o_al 0 <| o_il 1 <| oc_M_traps <| o_rv QR
def k_M_keep_63 (QR : Option qA → qS → Prop) (H : Nat → qP) : qP :=
  o_il 5 <| o_il 3 <| o_bi z_add <| o_c (.inl 1000) <| o_i2 (fun a b => a ≤ b) (k_M_keep_79 QR H) (k_M_keep_73 QR H)
def k_M_keep_0 (QR : Option qA → qS → Prop) (H : Nat → qP) : qP :=
  o_al 0 <| o_al 0 <| o_gA 900 71 <| o_al 0 <| o_gA 900 72 <| o_il 1 <| o_c (.inl 64) <| o_bi z_mul <| o_al 0 <| o_gA 900 74 <| o_il 1 <| o_c (.inl 65) <| o_bi z_mul <| o_al 0 <| o_gA 900 73 <| o_il 1 <| o_iak 73 6 <| oc_M_merge <| o_is 3 <| o_al 0 <| o_gA 900 55 <| o_il 1 <| o_iak 55 6 <| o_is 4 <| o_il 4 <| o_is 5 <| o_al 0 <| oc_M_job <| o_c (.inl 3) <| o_bi z_mul <| o_c (.inl 1) <| o_bi z_add <| o_is 6 <| o_al 0 <| o_gA 900 8 <| o_il 6 <| o_iak 8 24 <| o_if (fun a => ¬ a = 0) (k_M_keep_127 QR H) (k_M_keep_63 QR H)
set_option maxRecDepth 8000 in
theorem s_M_keep_235 {l : Launch} {ad : Nat → Nat} {D : va_G} {cA : Nat → ClassId} {WW : Nat → qP} {QR : Option qA → qS → Prop} (S : qSnd l rm_M_keep ad D cA R_M b_M_keep 10 WW) (Q : qRet (none) b_M_keep WW QR) : qle (k_M_keep_235 QR WW) WW 235 :=
  S.aload_n d_M_keep_235 rfl <| S.gA fl_M_117 (by decide) d_M_keep_236 <| S.iload_n d_M_keep_239 rfl <| S.iload d_M_keep_240 <| S.isk (by decide) d_M_keep_242 <| S.aload_n d_M_keep_243 rfl <| S.gA fl_M_120 (by decide) d_M_keep_244 <| S.iload_n d_M_keep_247 rfl <| S.bipush d_M_keep_248 (by decide) <| S.imul d_M_keep_250 <| S.iload_n d_M_keep_251 rfl <| S.iadd d_M_keep_252 <| S.iload d_M_keep_253 <| S.isk (by decide) d_M_keep_255 <| S.aload_n d_M_keep_256 rfl <| S.gA fl_M_123 (by decide) d_M_keep_257 <| S.iload_n d_M_keep_260 rfl <| S.bipush d_M_keep_261 (by decide) <| S.imul d_M_keep_263 <| S.iload_n d_M_keep_264 rfl <| S.iadd d_M_keep_265 <| S.iload d_M_keep_266 <| S.iload d_M_keep_268 <| S.isub d_M_keep_270 <| S.isk (by decide) d_M_keep_271 <| S.aload_n d_M_keep_272 rfl <| S.gA fl_M_126 (by decide) d_M_keep_273 <| S.iload_n d_M_keep_276 rfl <| S.bipush d_M_keep_277 (by decide) <| S.imul d_M_keep_279 <| S.iload_n d_M_keep_280 rfl <| S.iadd d_M_keep_281 <| S.aload_n d_M_keep_282 rfl <| S.iload_n d_M_keep_283 rfl <| S.iload d_M_keep_284 <| S.iload d_M_keep_286 <| S.iload d_M_keep_288 <| S.isub d_M_keep_290 <| sc_M_407 S (by decide) d_M_keep_291 <| S.jsk (by decide) d_M_keep_294 <| S.aload_n d_M_keep_295 rfl <| S.iload_n d_M_keep_296 rfl <| S.iload_n d_M_keep_297 rfl <| S.iload d_M_keep_298 <| S.iload d_M_keep_300 <| S.isub d_M_keep_302 <| sc_M_372 S (by decide) d_M_keep_303 <| Q.2.2.2 rfl _ d_M_keep_306
set_option maxRecDepth 8000 in
theorem s_M_keep_219 {l : Launch} {ad : Nat → Nat} {D : va_G} {cA : Nat → ClassId} {WW : Nat → qP} {QR : Option qA → qS → Prop} (S : qSnd l rm_M_keep ad D cA R_M b_M_keep 10 WW) (Q : qRet (none) b_M_keep WW QR) : qle (k_M_keep_219 QR WW) WW 219 :=
  S.iload d_M_keep_219 <| S.aload_n d_M_keep_221 rfl <| S.gI fl_M_215 (by decide) d_M_keep_222 <| S.iadd d_M_keep_225 <| S.istore d_M_keep_226 (by decide) <| S.iload d_M_keep_228 <| S.istore d_M_keep_230 (by decide) <| S.goto d_M_keep_232 (by decide) (fun _ _ _ h => h)
set_option maxRecDepth 8000 in
theorem s_M_keep_189 {l : Launch} {ad : Nat → Nat} {D : va_G} {cA : Nat → ClassId} {WW : Nat → qP} {QR : Option qA → qS → Prop} (S : qSnd l rm_M_keep ad D cA R_M b_M_keep 10 WW) (Q : qRet (none) b_M_keep WW QR) : qle (k_M_keep_189 QR WW) WW 189 :=
  S.aload_n d_M_keep_189 rfl <| S.iload_n d_M_keep_190 rfl <| S.iload d_M_keep_191 <| S.iload d_M_keep_193 <| S.iadd d_M_keep_195 <| S.aload_n d_M_keep_196 rfl <| S.gA fl_M_57 (by decide) d_M_keep_197 <| S.iload d_M_keep_200 <| S.jak (by decide) d_M_keep_202 <| S.aload_n d_M_keep_203 rfl <| S.gA fl_M_60 (by decide) d_M_keep_204 <| S.iload d_M_keep_207 <| S.jak (by decide) d_M_keep_209 <| sc_M_395 S (by decide) d_M_keep_210 <| S.iinc d_M_keep_213 (by decide) <| S.goto d_M_keep_216 (by decide) (fun _ _ _ h => h)
set_option maxRecDepth 8000 in
theorem s_M_keep_180 {l : Launch} {ad : Nat → Nat} {D : va_G} {cA : Nat → ClassId} {WW : Nat → qP} {QR : Option qA → qS → Prop} (S : qSnd l rm_M_keep ad D cA R_M b_M_keep 10 WW) (Q : qRet (none) b_M_keep WW QR) : qle (k_M_keep_180 QR WW) WW 180 :=
  S.iload d_M_keep_180 <| S.aload_n d_M_keep_182 rfl <| S.gI fl_M_215 (by decide) d_M_keep_183 <| S.icmp_ge d_M_keep_186 (by decide) (s_M_keep_219 S Q) (s_M_keep_189 S Q)
set_option maxRecDepth 8000 in
theorem s_M_keep_177 {l : Launch} {ad : Nat → Nat} {D : va_G} {cA : Nat → ClassId} {WW : Nat → qP} {QR : Option qA → qS → Prop} (S : qSnd l rm_M_keep ad D cA R_M b_M_keep 10 WW) (Q : qRet (none) b_M_keep WW QR) : qle (k_M_keep_177 QR WW) WW 177 :=
  S.iconst d_M_keep_177 (by decide) <| S.istore d_M_keep_178 (by decide) <| (fun _ _ _ h => h)
set_option maxRecDepth 8000 in
theorem s_M_keep_171 {l : Launch} {ad : Nat → Nat} {D : va_G} {cA : Nat → ClassId} {WW : Nat → qP} {QR : Option qA → qS → Prop} (S : qSnd l rm_M_keep ad D cA R_M b_M_keep 10 WW) (Q : qRet (none) b_M_keep WW QR) : qle (k_M_keep_171 QR WW) WW 171 :=
  S.aload_n d_M_keep_171 rfl <| S.iload_n d_M_keep_172 rfl <| sc_M_388 S (by decide) d_M_keep_173 <| Q.2.2.2 rfl _ d_M_keep_176
set_option maxRecDepth 8000 in
theorem s_M_keep_158 {l : Launch} {ad : Nat → Nat} {D : va_G} {cA : Nat → ClassId} {WW : Nat → qP} {QR : Option qA → qS → Prop} (S : qSnd l rm_M_keep ad D cA R_M b_M_keep 10 WW) (Q : qRet (none) b_M_keep WW QR) : qle (k_M_keep_158 QR WW) WW 158 :=
  S.iload d_M_keep_158 <| S.aload_n d_M_keep_160 rfl <| S.gI fl_M_215 (by decide) d_M_keep_161 <| S.iadd d_M_keep_164 <| S.sipush d_M_keep_165 (by decide) <| S.icmp_le d_M_keep_168 (by decide) (s_M_keep_177 S Q) (s_M_keep_171 S Q)
set_option maxRecDepth 8000 in
theorem s_M_keep_136 {l : Launch} {ad : Nat → Nat} {D : va_G} {cA : Nat → ClassId} {WW : Nat → qP} {QR : Option qA → qS → Prop} (S : qSnd l rm_M_keep ad D cA R_M b_M_keep 10 WW) (Q : qRet (none) b_M_keep WW QR) : qle (k_M_keep_136 QR WW) WW 136 :=
  S.aload_n d_M_keep_136 rfl <| S.iload d_M_keep_137 <| S.iload_n d_M_keep_139 rfl <| sc_M_399 S (by decide) d_M_keep_140 <| S.istore d_M_keep_143 (by decide) <| S.aload_n d_M_keep_145 rfl <| S.iload d_M_keep_146 <| S.iload d_M_keep_148 <| S.iload d_M_keep_150 <| sc_M_403 S (by decide) d_M_keep_152 <| S.if_eq d_M_keep_155 (by decide) (s_M_keep_171 S Q) (s_M_keep_158 S Q)
set_option maxRecDepth 8000 in
theorem s_M_keep_130 {l : Launch} {ad : Nat → Nat} {D : va_G} {cA : Nat → ClassId} {WW : Nat → qP} {QR : Option qA → qS → Prop} (S : qSnd l rm_M_keep ad D cA R_M b_M_keep 10 WW) (Q : qRet (none) b_M_keep WW QR) : qle (k_M_keep_130 QR WW) WW 130 :=
  S.iload d_M_keep_130 <| S.iload_n d_M_keep_132 rfl <| S.icmp_ge d_M_keep_133 (by decide) (fun _ _ _ h => h) (s_M_keep_136 S Q)
set_option maxRecDepth 8000 in
theorem s_M_keep_127 {l : Launch} {ad : Nat → Nat} {D : va_G} {cA : Nat → ClassId} {WW : Nat → qP} {QR : Option qA → qS → Prop} (S : qSnd l rm_M_keep ad D cA R_M b_M_keep 10 WW) (Q : qRet (none) b_M_keep WW QR) : qle (k_M_keep_127 QR WW) WW 127 :=
  S.iconst d_M_keep_127 (by decide) <| S.istore d_M_keep_128 (by decide) <| (fun _ _ _ h => h)
set_option maxRecDepth 8000 in
theorem s_M_keep_118 {l : Launch} {ad : Nat → Nat} {D : va_G} {cA : Nat → ClassId} {WW : Nat → qP} {QR : Option qA → qS → Prop} (S : qSnd l rm_M_keep ad D cA R_M b_M_keep 10 WW) (Q : qRet (none) b_M_keep WW QR) : qle (k_M_keep_118 QR WW) WW 118 :=
  S.iload d_M_keep_118 <| S.iload_n d_M_keep_120 rfl <| S.iadd d_M_keep_121 <| S.istore d_M_keep_122 (by decide) <| S.goto d_M_keep_124 (by decide) (fun _ _ _ h => h)
set_option maxRecDepth 8000 in
theorem s_M_keep_88 {l : Launch} {ad : Nat → Nat} {D : va_G} {cA : Nat → ClassId} {WW : Nat → qP} {QR : Option qA → qS → Prop} (S : qSnd l rm_M_keep ad D cA R_M b_M_keep 10 WW) (Q : qRet (none) b_M_keep WW QR) : qle (k_M_keep_88 QR WW) WW 88 :=
  S.aload_n d_M_keep_88 rfl <| S.iload_n d_M_keep_89 rfl <| S.iload d_M_keep_90 <| S.iload d_M_keep_92 <| S.iadd d_M_keep_94 <| S.aload_n d_M_keep_95 rfl <| S.gA fl_M_189 (by decide) d_M_keep_96 <| S.iload d_M_keep_99 <| S.jak (by decide) d_M_keep_101 <| S.aload_n d_M_keep_102 rfl <| S.gA fl_M_192 (by decide) d_M_keep_103 <| S.iload d_M_keep_106 <| S.jak (by decide) d_M_keep_108 <| sc_M_395 S (by decide) d_M_keep_109 <| S.iinc d_M_keep_112 (by decide) <| S.goto d_M_keep_115 (by decide) (fun _ _ _ h => h)
set_option maxRecDepth 8000 in
theorem s_M_keep_82 {l : Launch} {ad : Nat → Nat} {D : va_G} {cA : Nat → ClassId} {WW : Nat → qP} {QR : Option qA → qS → Prop} (S : qSnd l rm_M_keep ad D cA R_M b_M_keep 10 WW) (Q : qRet (none) b_M_keep WW QR) : qle (k_M_keep_82 QR WW) WW 82 :=
  S.iload d_M_keep_82 <| S.iload_n d_M_keep_84 rfl <| S.icmp_ge d_M_keep_85 (by decide) (s_M_keep_118 S Q) (s_M_keep_88 S Q)
set_option maxRecDepth 8000 in
theorem s_M_keep_79 {l : Launch} {ad : Nat → Nat} {D : va_G} {cA : Nat → ClassId} {WW : Nat → qP} {QR : Option qA → qS → Prop} (S : qSnd l rm_M_keep ad D cA R_M b_M_keep 10 WW) (Q : qRet (none) b_M_keep WW QR) : qle (k_M_keep_79 QR WW) WW 79 :=
  S.iconst d_M_keep_79 (by decide) <| S.istore d_M_keep_80 (by decide) <| (fun _ _ _ h => h)
set_option maxRecDepth 8000 in
theorem s_M_keep_73 {l : Launch} {ad : Nat → Nat} {D : va_G} {cA : Nat → ClassId} {WW : Nat → qP} {QR : Option qA → qS → Prop} (S : qSnd l rm_M_keep ad D cA R_M b_M_keep 10 WW) (Q : qRet (none) b_M_keep WW QR) : qle (k_M_keep_73 QR WW) WW 73 :=
  S.aload_n d_M_keep_73 rfl <| S.iload_n d_M_keep_74 rfl <| sc_M_388 S (by decide) d_M_keep_75 <| Q.2.2.2 rfl _ d_M_keep_78
set_option maxRecDepth 8000 in
theorem s_M_keep_63 {l : Launch} {ad : Nat → Nat} {D : va_G} {cA : Nat → ClassId} {WW : Nat → qP} {QR : Option qA → qS → Prop} (S : qSnd l rm_M_keep ad D cA R_M b_M_keep 10 WW) (Q : qRet (none) b_M_keep WW QR) : qle (k_M_keep_63 QR WW) WW 63 :=
  S.iload d_M_keep_63 <| S.iload_n d_M_keep_65 rfl <| S.iadd d_M_keep_66 <| S.sipush d_M_keep_67 (by decide) <| S.icmp_le d_M_keep_70 (by decide) (s_M_keep_79 S Q) (s_M_keep_73 S Q)
set_option maxRecDepth 8000 in
theorem s_M_keep_0 {l : Launch} {ad : Nat → Nat} {D : va_G} {cA : Nat → ClassId} {WW : Nat → qP} {QR : Option qA → qS → Prop} (S : qSnd l rm_M_keep ad D cA R_M b_M_keep 10 WW) (Q : qRet (none) b_M_keep WW QR) : qle (k_M_keep_0 QR WW) WW 0 :=
  S.aload_n d_M_keep_0 rfl <| S.aload_n d_M_keep_1 rfl <| S.gA fl_M_165 (by decide) d_M_keep_2 <| S.aload_n d_M_keep_5 rfl <| S.gA fl_M_168 (by decide) d_M_keep_6 <| S.iload_n d_M_keep_9 rfl <| S.bipush d_M_keep_10 (by decide) <| S.imul d_M_keep_12 <| S.aload_n d_M_keep_13 rfl <| S.gA fl_M_174 (by decide) d_M_keep_14 <| S.iload_n d_M_keep_17 rfl <| S.bipush d_M_keep_18 (by decide) <| S.imul d_M_keep_20 <| S.aload_n d_M_keep_21 rfl <| S.gA fl_M_171 (by decide) d_M_keep_22 <| S.iload_n d_M_keep_25 rfl <| S.iak (by decide) d_M_keep_26 <| sc_M_391 S (by decide) d_M_keep_27 <| S.istore_n d_M_keep_30 rfl (by decide) <| S.aload_n d_M_keep_31 rfl <| S.gA fl_M_117 (by decide) d_M_keep_32 <| S.iload_n d_M_keep_35 rfl <| S.iak (by decide) d_M_keep_36 <| S.istore d_M_keep_37 (by decide) <| S.iload d_M_keep_39 <| S.istore d_M_keep_41 (by decide) <| S.aload_n d_M_keep_43 rfl <| sc_M_256 S (by decide) d_M_keep_44 <| S.iconst d_M_keep_47 (by decide) <| S.imul d_M_keep_48 <| S.iconst d_M_keep_49 (by decide) <| S.iadd d_M_keep_50 <| S.istore d_M_keep_51 (by decide) <| S.aload_n d_M_keep_53 rfl <| S.gA fl_M_32 (by decide) d_M_keep_54 <| S.iload d_M_keep_57 <| S.iak (by decide) d_M_keep_59 <| S.if_ne d_M_keep_60 (by decide) (s_M_keep_127 S Q) (s_M_keep_63 S Q)
theorem sumf_keep {σ σ' : qS} (h1 : σ' 59 = σ 59) (h2 : σ' 60 = σ 60) (w : Int) : ∀ (n : Nat) (a h : Int), sumf σ' w n a h = sumf σ w n a h
  | 0, a, h => rfl
  | n + 1, a, h => by rw [sumf, sumf, h1, h2]; exact sumf_keep h1 h2 w n _ _
theorem v_M_keep_235 {l : Launch} {ad : Nat → Nat} {D : va_G} {cA : Nat → ClassId} {WW : Nat → qP} {QR : Option qA → qS → Prop} (S : qSnd l rm_M_keep ad D cA R_M b_M_keep 10 WW) (Q : qRet (none) b_M_keep WW QR) (σ0 σ : qS) (w t n to p : Int) (E out : List Pr) (hE : KP σ0 w E) (hc : cmb σ0 E = some out) (hp : P_M_keep w t σ0) (hto : to = σ0 55 w + out.length) (hle : to ≤ 1000) (hF : F_dk w (σ0 55 w) σ0 σ) (hrow : row σ 59 60 (w * 1000 + σ0 55 w) out.length = out) (hq : ∀ σ', (∃ out σ1, cmb σ0 E = some out ∧ σ0 55 w + out.length ≤ 1000 ∧ K1 w t out σ0 σ1 ∧ Q_M_done w t out.length σ1 σ') → QR none σ') : WW 235 [] [some (.inr (.inr 900)), some (.inl w), some (.inl t), none, some (.inl (σ0 55 w)), some (.inl to), none, none, none, none] σ := by
  obtain ⟨hw, ht, hl, hpl, hj, hpr, hd, -⟩ := hp
  refine s_M_keep_235 S Q _ _ _ ?_
  simp only [k_M_keep_0, k_M_keep_63, k_M_keep_73, k_M_keep_79, k_M_keep_82, k_M_keep_88, k_M_keep_118, k_M_keep_127, k_M_keep_130, k_M_keep_136, k_M_keep_158, k_M_keep_171, k_M_keep_177, k_M_keep_180, k_M_keep_189, k_M_keep_219, k_M_keep_235, oc_M_callOn, oc_M_done, oc_M_endOfKey, oc_M_job, oc_M_lay, oc_M_merge, oc_M_sumOf, oc_M_traps, o_c, o_il, o_ll, o_al, o_is, o_as, o_ls, o_inc, o_bi, o_bid, o_bl, o_bld, o_sl, o_i2l, o_l2i, o_dup, o_dup2, o_pop, o_pop2, o_if, o_i2, o_l2, swg, o_sw, o_gI, o_gZ, o_gJ, o_gA, o_gR, o_pI, o_pZ, o_pJ, o_pR, o_ia, o_iak, o_zak, o_ja, o_jak, o_is_, o_isk, o_zsk, o_js_, o_jsk, o_len, o_ri, o_rz, o_rl, o_rv, ls1, ls2, lks, lkj, List.getD_cons_zero, List.getD_cons_succ, List.set_cons_zero, List.set_cons_succ, qcat, true_and, and_true, List.map_nil, List.map_cons, List.sum_nil, List.sum_cons, Nat.reduceAdd, Nat.reduceLeDiff, Nat.zero_le, Int.reduceAdd, Int.reduceNeg, Int.reduceEq, or_true, true_or, Decidable.not_not, false_implies, not_false_eq_true, true_implies, not_true_eq_false, Int.reduceLT, Int.reduceLE]
  have e1 : z_add (z_mul w 38) t = w * 38 + t := by unfold z_add z_mul; rw [w32_i (w * 38) (by omega) (by omega), w32_i _ (by omega) (by omega)]
  have e2 : z_sub to (σ0 55 w) = out.length := by unfold z_sub; rw [hto]; rw [w32_i _ (by omega) (by omega)]; omega
  rw [e1, e2]
  refine ⟨hw, by omega, by omega, ⟨hw, hd.1, by omega, by omega⟩, fun r σ1 q1 => ?_⟩
  obtain ⟨rfl, rfl⟩ := q1
  refine ⟨by omega, ?_⟩
  have hsum : ∀ (X : qS), X 59 = σ 59 → X 60 = σ 60 → ∀ a b c, sumf X w a b c = sumf σ w a b c := fun X x1 x2 a b c => sumf_keep x1 x2 w a b c
  generalize hT : su (su (su (su σ 55 w to) 56 (w * 38 + t) (σ0 55 w)) 57 (w * 38 + t) (out.length : Int)) 58 (w * 38 + t) (sumf (su (su (su σ 55 w to) 56 (w * 38 + t) (σ0 55 w)) 57 (w * 38 + t) (out.length : Int)) w (out.length : Int).toNat (σ0 55 w) (out.length : Int)) = σ1
  have k0 : ∀ k, k ∉ [55, 56, 57, 58] → σ1 k = σ k := fun k hk => by
    rw [← hT, su_k (by intro e; subst e; exact hk (by decide)), su_k (by intro e; subst e; exact hk (by decide)), su_k (by intro e; subst e; exact hk (by decide)), su_k (by intro e; subst e; exact hk (by decide))]
  have hlok : lok σ1 := by unfold lok; rw [k0 _ (by decide), hF.1 _ (by decide) (by decide)]; exact hl
  refine ⟨⟨hlok, hw⟩, fun σ2 q2 => hq _ ⟨out, σ1, hc, by omega, ⟨fun k h1 h2 => ?_, fun j hj => ?_, ?_, fun j => ?_, fun j => ?_, fun j => ?_, fun j => ?_⟩, q2⟩⟩
  · rw [k0 k (fun e => h2 (by simp only [List.mem_cons, List.not_mem_nil, or_false] at e ⊢; omega)), hF.1 k h1 (fun e => h2 (by simp only [List.mem_cons, List.not_mem_nil, or_false] at e ⊢; omega))]
  · rw [k0 _ (by decide), k0 _ (by decide)]; exact hF.2 j hj
  · rw [row_keep (σ := σ) (fun i _ _ => by rw [k0 _ (by decide), k0 _ (by decide)]; exact ⟨rfl, rfl⟩)]; exact hrow
  · rw [← hT]; simp (disch := omega) only [su_k]; rw [su_e, hF.1 _ (by decide) (by decide), hto]
  · rw [← hT]; simp (disch := omega) only [su_k]; rw [su_e]; simp (disch := omega) only [su_k]; rw [hF.1 _ (by decide) (by decide)]
  · rw [← hT]; simp (disch := omega) only [su_k]; rw [su_e]; simp (disch := omega) only [su_k]; rw [hF.1 _ (by decide) (by decide)]
  · rw [hsum σ1 (k0 _ (by decide)) (k0 _ (by decide)), ← hT, su_e, hsum _ (by simp (disch := omega) only [su_k]) (by simp (disch := omega) only [su_k])]
    simp (disch := omega) only [su_k]; rw [hF.1 _ (by decide) (by decide), show ((out.length : Int)).toNat = out.length by omega]
def LY (σA σ : qS) (w to k : Int) (kk kv : Nat) : Prop := (∀ q, q ∉ [59, 60] → σ q = σA q) ∧ (∀ j, (j < w * 1000 + to ∨ w * 1000 + to + k ≤ j) → σ 59 j = σA 59 j ∧ σ 60 j = σA 60 j) ∧ ∀ j, 0 ≤ j → j < k → σ 59 (w * 1000 + to + j) = σA kk j ∧ σ 60 (w * 1000 + to + j) = σA kv j
theorem LY_0 {σA : qS} {w to : Int} {kk kv : Nat} : LY σA σA w to 0 kk kv := ⟨fun _ _ => rfl, fun _ _ => ⟨rfl, rfl⟩, fun j h1 h2 => by omega⟩
theorem LY_s {σA σ : qS} {w to k : Int} {kk kv : Nat} (h : LY σA σ w to k kk kv) (hk : 0 ≤ k) : LY σA (su (su σ 59 (w * 1000 + (to + k)) (σA kk k)) 60 (w * 1000 + (to + k)) (σA kv k)) w to (k + 1) kk kv := by
  obtain ⟨h1, h2, h3⟩ := h
  refine ⟨fun q hq => by rw [su_k (by intro e; subst e; exact hq (by decide)), su_k (by intro e; subst e; exact hq (by decide))]; exact h1 q hq, fun j hj => ?_, fun j j0 j1 => ?_⟩
  · rw [su_k (by decide), su_e, su_e, if_neg (by omega), if_neg (by omega), su_k (by decide)]; exact h2 j (by omega)
  · rw [su_k (by decide), su_e, su_e, su_k (by decide)]
    by_cases e : j = k
    · subst e; rw [if_pos (by omega), if_pos (by omega)]; exact ⟨rfl, rfl⟩
    · rw [if_neg (by omega), if_neg (by omega)]; exact h3 j j0 (by omega)
theorem v_M_keep_82 {l : Launch} {ad : Nat → Nat} {D : va_G} {cA : Nat → ClassId} {WW : Nat → qP} {QR : Option qA → qS → Prop} (S : qSnd l rm_M_keep ad D cA R_M b_M_keep 10 WW) (Q : qRet (none) b_M_keep WW QR) (σ0 σA : qS) (w t n p : Int) (E : List Pr) (hE : KP σ0 w E) (hn : n = E.length) (hc : cmb σ0 E = some (srt E)) (hp : P_M_keep w t σ0) (hF : F_dk w (σ0 55 w) σ0 σA) (hm : row σA 79 80 0 E.length = srt E) (hle : σ0 55 w + n ≤ 1000) (hq : ∀ σ', (∃ out σ1, cmb σ0 E = some out ∧ σ0 55 w + out.length ≤ 1000 ∧ K1 w t out σ0 σ1 ∧ Q_M_done w t out.length σ1 σ') → QR none σ') :
    ∀ (m k : Nat) (σ : qS), ((k + m : Nat) : Int) = n → LY σA σ w (σ0 55 w) k 79 80 → WW 82 [] [some (.inr (.inr 900)), some (.inl w), some (.inl t), some (.inl n), some (.inl (σ0 55 w)), some (.inl (σ0 55 w)), some (.inl p), some (.inl (k : Int)), none, none] σ := by
  have hp' := hp
  obtain ⟨hw, ht, hl, hpl, hj, hpr, hd, -⟩ := hp
  have hlen : (srt E).length = E.length := SS_len (srt_SS E)
  have hEl : (E.length : Int) ≤ 64 := by have := hE.2.2.1; omega
  intro m
  induction m with
  | zero =>
    intro k σ hk hL
    refine s_M_keep_82 S Q _ _ _ ?_
    simp only [k_M_keep_0, k_M_keep_63, k_M_keep_73, k_M_keep_79, k_M_keep_82, k_M_keep_88, k_M_keep_118, k_M_keep_127, k_M_keep_130, k_M_keep_136, k_M_keep_158, k_M_keep_171, k_M_keep_177, k_M_keep_180, k_M_keep_189, k_M_keep_219, k_M_keep_235, oc_M_callOn, oc_M_done, oc_M_endOfKey, oc_M_job, oc_M_lay, oc_M_merge, oc_M_sumOf, oc_M_traps, o_c, o_il, o_ll, o_al, o_is, o_as, o_ls, o_inc, o_bi, o_bid, o_bl, o_bld, o_sl, o_i2l, o_l2i, o_dup, o_dup2, o_pop, o_pop2, o_if, o_i2, o_l2, swg, o_sw, o_gI, o_gZ, o_gJ, o_gA, o_gR, o_pI, o_pZ, o_pJ, o_pR, o_ia, o_iak, o_zak, o_ja, o_jak, o_is_, o_isk, o_zsk, o_js_, o_jsk, o_len, o_ri, o_rz, o_rl, o_rv, ls1, ls2, lks, lkj, List.getD_cons_zero, List.getD_cons_succ, List.set_cons_zero, List.set_cons_succ, qcat, true_and, and_true, List.map_nil, List.map_cons, List.sum_nil, List.sum_cons, Nat.reduceAdd, Nat.reduceLeDiff, Nat.zero_le, Int.reduceAdd, Int.reduceNeg, Int.reduceEq, or_true, true_or, Decidable.not_not, false_implies, not_false_eq_true, true_implies, not_true_eq_false, Int.reduceLT, Int.reduceLE]
    refine ⟨fun _ => ?_, fun h => by omega⟩
    have e1 : z_add (σ0 55 w) n = σ0 55 w + n := by unfold z_add; exact w32_i _ (by omega) (by omega)
    rw [e1]
    refine S.fg (ls' := [some (.inr (.inr 900)), some (.inl w), some (.inl t), none, some (.inl (σ0 55 w)), some (.inl (σ0 55 w + n)), none, none, none, none]) ⟨rfl, rfl, rfl, rfl, rfl, trivial⟩ ?_
    refine v_M_keep_235 S Q σ0 σ w t n _ p E (srt E) hE hc hp' (by rw [hlen, hn]) hle ⟨fun q h1 h2 => (hL.1 q h2).trans (hF.1 q h1 h2), fun j hj' => ?_⟩ ?_ hq
    · obtain ⟨a1, a2⟩ := hL.2.1 j (by omega)
      obtain ⟨b1, b2⟩ := hF.2 j hj'
      exact ⟨a1.trans b1, a2.trans b2⟩
    · rw [hlen]
      conv => rhs; rw [← hm]
      unfold row
      apply List.map_congr_left
      intro i hi
      have := List.mem_range.mp hi
      obtain ⟨a1, a2⟩ := hL.2.2 i (by omega) (by omega)
      rw [a1, a2]; simp
  | succ m ih =>
    intro k σ hk hL
    refine s_M_keep_82 S Q _ _ _ ?_
    simp only [k_M_keep_0, k_M_keep_63, k_M_keep_73, k_M_keep_79, k_M_keep_82, k_M_keep_88, k_M_keep_118, k_M_keep_127, k_M_keep_130, k_M_keep_136, k_M_keep_158, k_M_keep_171, k_M_keep_177, k_M_keep_180, k_M_keep_189, k_M_keep_219, k_M_keep_235, oc_M_callOn, oc_M_done, oc_M_endOfKey, oc_M_job, oc_M_lay, oc_M_merge, oc_M_sumOf, oc_M_traps, o_c, o_il, o_ll, o_al, o_is, o_as, o_ls, o_inc, o_bi, o_bid, o_bl, o_bld, o_sl, o_i2l, o_l2i, o_dup, o_dup2, o_pop, o_pop2, o_if, o_i2, o_l2, swg, o_sw, o_gI, o_gZ, o_gJ, o_gA, o_gR, o_pI, o_pZ, o_pJ, o_pR, o_ia, o_iak, o_zak, o_ja, o_jak, o_is_, o_isk, o_zsk, o_js_, o_jsk, o_len, o_ri, o_rz, o_rl, o_rv, ls1, ls2, lks, lkj, List.getD_cons_zero, List.getD_cons_succ, List.set_cons_zero, List.set_cons_succ, qcat, true_and, and_true, List.map_nil, List.map_cons, List.sum_nil, List.sum_cons, Nat.reduceAdd, Nat.reduceLeDiff, Nat.zero_le, Int.reduceAdd, Int.reduceNeg, Int.reduceEq, or_true, true_or, Decidable.not_not, false_implies, not_false_eq_true, true_implies, not_true_eq_false, Int.reduceLT, Int.reduceLE]
    have e1 : z_add (σ0 55 w) (k : Int) = σ0 55 w + k := by unfold z_add; exact w32_i _ (by omega) (by omega)
    rw [e1, w32_i _ (by omega) (by omega), hL.1 _ (by decide), hL.1 _ (by decide)]
    refine ⟨fun h => by omega, fun _ => ⟨by omega, by omega, ⟨hw, by omega, by omega⟩, fun σ1 q1 => ?_⟩⟩
    cases q1
    exact ih (k + 1) _ (by omega) (LY_s hL (by omega))
theorem gm_len {f : Int → List Int → Option (List Pr)} : True := trivial
def GI (σ0 σ : qS) (w n k to : Int) (E : List Pr) : Prop := F_dk w (σ0 55 w) σ0 σ ∧ row σ 79 80 0 E.length = srt E ∧ (0 ≤ k ∧ k ≤ n) ∧ (σ0 55 w ≤ to ∧ to ≤ 1000) ∧ gmap (fun k vs => lcall (prg σ0 (jb σ0 * 3 + 1)) 1 k vs) E.length (srt E) = (gmap (fun k vs => lcall (prg σ0 (jb σ0 * 3 + 1)) 1 k vs) (n - k).toNat (row σ 79 80 k (n - k).toNat)).map (fun b => row σ 59 60 (w * 1000 + σ0 55 w) (to - σ0 55 w).toNat ++ b)
theorem Em_row {σ : qS} {em : List Pr} (h : Em σ em) : row σ 18 19 0 em.length = em := by
  apply List.ext_getElem?
  intro i
  by_cases hi : i < em.length
  · rw [row_at hi]
    have he : em[i]? = some em[i] := List.getElem?_eq_getElem hi
    obtain ⟨a, b⟩ := h.2.2 i _ he
    rw [he]; simp only [Int.zero_add]; rw [a, b]
  · rw [row_no hi, List.getElem?_eq_none (by omega)]
theorem v_M_keep_180 {l : Launch} {ad : Nat → Nat} {D : va_G} {cA : Nat → ClassId} {WW : Nat → qP} {QR : Option qA → qS → Prop} (S : qSnd l rm_M_keep ad D cA R_M b_M_keep 10 WW) (Q : qRet (none) b_M_keep WW QR) (σA : qS) (w t n fr to p k nx : Int) (em : List Pr) (hem : Em σA em) (hw : 0 ≤ w ∧ w < 6) (hto : 0 ≤ to ∧ to + em.length ≤ 1000) (K : ∀ σ, LY σA σ w to em.length 18 19 → WW 130 [] [some (.inr (.inr 900)), some (.inl w), some (.inl t), some (.inl n), some (.inl fr), some (.inl (to + em.length)), some (.inl p), some (.inl nx), none, none] σ) :
    ∀ (m j : Nat) (σ : qS), j + m = em.length → LY σA σ w to j 18 19 → WW 180 [] [some (.inr (.inr 900)), some (.inl w), some (.inl t), some (.inl n), some (.inl fr), some (.inl to), some (.inl p), some (.inl k), some (.inl nx), some (.inl (j : Int))] σ := by
  have he := hem.1
  have he4 := hem.2.1
  intro m
  induction m with
  | zero =>
    intro j σ hj hL
    refine s_M_keep_180 S Q _ _ _ ?_
    simp only [k_M_keep_0, k_M_keep_63, k_M_keep_73, k_M_keep_79, k_M_keep_82, k_M_keep_88, k_M_keep_118, k_M_keep_127, k_M_keep_130, k_M_keep_136, k_M_keep_158, k_M_keep_171, k_M_keep_177, k_M_keep_180, k_M_keep_189, k_M_keep_219, k_M_keep_235, oc_M_callOn, oc_M_done, oc_M_endOfKey, oc_M_job, oc_M_lay, oc_M_merge, oc_M_sumOf, oc_M_traps, o_c, o_il, o_ll, o_al, o_is, o_as, o_ls, o_inc, o_bi, o_bid, o_bl, o_bld, o_sl, o_i2l, o_l2i, o_dup, o_dup2, o_pop, o_pop2, o_if, o_i2, o_l2, swg, o_sw, o_gI, o_gZ, o_gJ, o_gA, o_gR, o_pI, o_pZ, o_pJ, o_pR, o_ia, o_iak, o_zak, o_ja, o_jak, o_is_, o_isk, o_zsk, o_js_, o_jsk, o_len, o_ri, o_rz, o_rl, o_rv, ls1, ls2, lks, lkj, List.getD_cons_zero, List.getD_cons_succ, List.set_cons_zero, List.set_cons_succ, qcat, true_and, and_true, List.map_nil, List.map_cons, List.sum_nil, List.sum_cons, Nat.reduceAdd, Nat.reduceLeDiff, Nat.zero_le, Int.reduceAdd, Int.reduceNeg, Int.reduceEq, or_true, true_or, Decidable.not_not, false_implies, not_false_eq_true, true_implies, not_true_eq_false, Int.reduceLT, Int.reduceLE]
    rw [hL.1 _ (by decide), he]
    have e1 : z_add to (em.length : Int) = to + em.length := by unfold z_add; exact w32_i _ (by omega) (by omega)
    rw [e1]
    refine ⟨fun _ => S.fg (ls' := [some (.inr (.inr 900)), some (.inl w), some (.inl t), some (.inl n), some (.inl fr), some (.inl (to + em.length)), some (.inl p), some (.inl nx), none, none]) ⟨rfl, rfl, rfl, rfl, rfl, rfl, rfl, rfl, trivial⟩ (K σ ?_), fun h => by omega⟩
    rw [show em.length = j by omega]; exact hL
  | succ m ih =>
    intro j σ hj hL
    refine s_M_keep_180 S Q _ _ _ ?_
    simp only [k_M_keep_0, k_M_keep_63, k_M_keep_73, k_M_keep_79, k_M_keep_82, k_M_keep_88, k_M_keep_118, k_M_keep_127, k_M_keep_130, k_M_keep_136, k_M_keep_158, k_M_keep_171, k_M_keep_177, k_M_keep_180, k_M_keep_189, k_M_keep_219, k_M_keep_235, oc_M_callOn, oc_M_done, oc_M_endOfKey, oc_M_job, oc_M_lay, oc_M_merge, oc_M_sumOf, oc_M_traps, o_c, o_il, o_ll, o_al, o_is, o_as, o_ls, o_inc, o_bi, o_bid, o_bl, o_bld, o_sl, o_i2l, o_l2i, o_dup, o_dup2, o_pop, o_pop2, o_if, o_i2, o_l2, swg, o_sw, o_gI, o_gZ, o_gJ, o_gA, o_gR, o_pI, o_pZ, o_pJ, o_pR, o_ia, o_iak, o_zak, o_ja, o_jak, o_is_, o_isk, o_zsk, o_js_, o_jsk, o_len, o_ri, o_rz, o_rl, o_rv, ls1, ls2, lks, lkj, List.getD_cons_zero, List.getD_cons_succ, List.set_cons_zero, List.set_cons_succ, qcat, true_and, and_true, List.map_nil, List.map_cons, List.sum_nil, List.sum_cons, Nat.reduceAdd, Nat.reduceLeDiff, Nat.zero_le, Int.reduceAdd, Int.reduceNeg, Int.reduceEq, or_true, true_or, Decidable.not_not, false_implies, not_false_eq_true, true_implies, not_true_eq_false, Int.reduceLT, Int.reduceLE]
    rw [hL.1 _ (by decide), he, hL.1 _ (by decide), hL.1 _ (by decide)]
    have e1 : z_add to (j : Int) = to + j := by unfold z_add; exact w32_i _ (by omega) (by omega)
    rw [e1, w32_i _ (by omega) (by omega)]
    refine ⟨fun h => by omega, fun _ => ⟨by omega, by omega, ⟨hw, by omega, by omega⟩, fun σ1 q1 => ?_⟩⟩
    cases q1
    exact ih (j + 1) _ (by omega) (LY_s hL (by omega))
theorem v_M_keep_130 {l : Launch} {ad : Nat → Nat} {D : va_G} {cA : Nat → ClassId} {WW : Nat → qP} {QR : Option qA → qS → Prop} (S : qSnd l rm_M_keep ad D cA R_M b_M_keep 10 WW) (Q : qRet (none) b_M_keep WW QR) (σ0 : qS) (w t n : Int) (E : List Pr) (hE : KP σ0 w E) (hn : n = E.length) (hlen : σ0 8 (jb σ0 * 3 + 1) ≠ 0) (hp : P_M_keep w t σ0) (hq : ∀ σ', Q_M_keep w t σ0 σ' → QR none σ') (hun : ∀ E', KP σ0 w E' → cmb σ0 E' = cmb σ0 E) :
    ∀ (m : Nat) (k to : Int) (σ : qS), (n - k).toNat ≤ m → GI σ0 σ w n k to E → WW 130 [] [some (.inr (.inr 900)), some (.inl w), some (.inl t), some (.inl n), some (.inl (σ0 55 w)), some (.inl to), some (.inl (jb σ0 * 3 + 1)), some (.inl k), none, none] σ := by
  have hp' := hp
  obtain ⟨hw, ht, hl, hpl, hj, hpr, hd, -⟩ := hp
  have hEl : (E.length : Int) ≤ 64 := by have := hE.2.2.1; omega
  have hcm : cmb σ0 E = gmap (fun k vs => lcall (prg σ0 (jb σ0 * 3 + 1)) 1 k vs) E.length (srt E) := by unfold cmb; rw [if_neg hlen]
  intro m
  induction m with
  | zero =>
    intro k to σ hm hG
    obtain ⟨hF, hrow, hk, hto, hgm⟩ := hG
    refine s_M_keep_130 S Q _ _ _ ?_
    simp only [k_M_keep_0, k_M_keep_63, k_M_keep_73, k_M_keep_79, k_M_keep_82, k_M_keep_88, k_M_keep_118, k_M_keep_127, k_M_keep_130, k_M_keep_136, k_M_keep_158, k_M_keep_171, k_M_keep_177, k_M_keep_180, k_M_keep_189, k_M_keep_219, k_M_keep_235, oc_M_callOn, oc_M_done, oc_M_endOfKey, oc_M_job, oc_M_lay, oc_M_merge, oc_M_sumOf, oc_M_traps, o_c, o_il, o_ll, o_al, o_is, o_as, o_ls, o_inc, o_bi, o_bid, o_bl, o_bld, o_sl, o_i2l, o_l2i, o_dup, o_dup2, o_pop, o_pop2, o_if, o_i2, o_l2, swg, o_sw, o_gI, o_gZ, o_gJ, o_gA, o_gR, o_pI, o_pZ, o_pJ, o_pR, o_ia, o_iak, o_zak, o_ja, o_jak, o_is_, o_isk, o_zsk, o_js_, o_jsk, o_len, o_ri, o_rz, o_rl, o_rv, ls1, ls2, lks, lkj, List.getD_cons_zero, List.getD_cons_succ, List.set_cons_zero, List.set_cons_succ, qcat, true_and, and_true, List.map_nil, List.map_cons, List.sum_nil, List.sum_cons, Nat.reduceAdd, Nat.reduceLeDiff, Nat.zero_le, Int.reduceAdd, Int.reduceNeg, Int.reduceEq, or_true, true_or, Decidable.not_not, false_implies, not_false_eq_true, true_implies, not_true_eq_false, Int.reduceLT, Int.reduceLE]
    refine ⟨fun _ => ?_, fun h => by omega⟩
    rw [show (n - k).toNat = 0 by omega] at hgm
    have hc : cmb σ0 E = some (row σ 59 60 (w * 1000 + σ0 55 w) (to - σ0 55 w).toNat) := by rw [hcm, hgm]; simp [gmap]
    refine S.fg (ls' := [some (.inr (.inr 900)), some (.inl w), some (.inl t), none, some (.inl (σ0 55 w)), some (.inl to), none, none, none, none]) ⟨rfl, rfl, rfl, rfl, rfl, trivial⟩ ?_
    refine v_M_keep_235 S Q σ0 σ w t n to 0 E _ hE hc hp' (by rw [row_len]; omega) hto.2 hF (by rw [row_len]) (fun σ' hx => hq _ (fun E' hE' => Or.inl ?_))
    rw [hun E' hE']; exact hx
  | succ m ih =>
    intro k to σ hm hG
    by_cases hkn : n ≤ k
    · exact ih k to σ (by omega) hG
    obtain ⟨hF, hrow, hk, hto, hgm⟩ := hG
    refine s_M_keep_130 S Q _ _ _ ?_
    simp only [k_M_keep_0, k_M_keep_63, k_M_keep_73, k_M_keep_79, k_M_keep_82, k_M_keep_88, k_M_keep_118, k_M_keep_127, k_M_keep_130, k_M_keep_136, k_M_keep_158, k_M_keep_171, k_M_keep_177, k_M_keep_180, k_M_keep_189, k_M_keep_219, k_M_keep_235, oc_M_callOn, oc_M_done, oc_M_endOfKey, oc_M_job, oc_M_lay, oc_M_merge, oc_M_sumOf, oc_M_traps, o_c, o_il, o_ll, o_al, o_is, o_as, o_ls, o_inc, o_bi, o_bid, o_bl, o_bld, o_sl, o_i2l, o_l2i, o_dup, o_dup2, o_pop, o_pop2, o_if, o_i2, o_l2, swg, o_sw, o_gI, o_gZ, o_gJ, o_gA, o_gR, o_pI, o_pZ, o_pJ, o_pR, o_ia, o_iak, o_zak, o_ja, o_jak, o_is_, o_isk, o_zsk, o_js_, o_jsk, o_len, o_ri, o_rz, o_rl, o_rv, ls1, ls2, lks, lkj, List.getD_cons_zero, List.getD_cons_succ, List.set_cons_zero, List.set_cons_succ, qcat, true_and, and_true, List.map_nil, List.map_cons, List.sum_nil, List.sum_cons, Nat.reduceAdd, Nat.reduceLeDiff, Nat.zero_le, Int.reduceAdd, Int.reduceNeg, Int.reduceEq, or_true, true_or, Decidable.not_not, false_implies, not_false_eq_true, true_implies, not_true_eq_false, Int.reduceLT, Int.reduceLE]
    refine ⟨fun h => by omega, fun _ => ⟨⟨hk.1, by omega, by omega⟩, fun r σ1 q1 => ?_⟩⟩
    obtain ⟨e9, rfl⟩ := q1
    replace e9 := e9.symm
    subst e9
    rw [eok_tw (kv := 80)]
    generalize hQ : ((row σ 79 80 (k + 1) (n - (k + 1)).toNat).takeWhile (fun p => p.1 == σ 79 k)).length = q
    obtain ⟨hq1, hq2⟩ := grp_step (σ := σ) (kk := 79) (kv := 80) (k := k) (n := (n - (k + 1)).toNat) (fun k vs => lcall (prg σ0 (jb σ0 * 3 + 1)) 1 k vs) q hQ.symm
    rw [show (n - (k + 1)).toNat + 1 = (n - k).toNat by omega] at hq2
    rw [hq2] at hgm
    have hprog : progok σ (jb σ0 * 3 + 1) := by
      unfold progok at hpr ⊢; rw [hF.1 8 (by decide) (by decide), hF.1 6 (by decide) (by decide), hF.1 7 (by decide) (by decide)]; exact hpr
    refine ⟨⟨hprog, hk.1, by omega, by omega⟩, fun r σ1 q1 => ?_⟩
    obtain ⟨c1, c2⟩ := q1
    have hpg : prg σ (jb σ0 * 3 + 1) = prg σ0 (jb σ0 * 3 + 1) := by unfold prg; rw [hF.1 8 (by decide) (by decide), hF.1 6 (by decide) (by decide), hF.1 7 (by decide) (by decide)]
    rw [scall_con (by omega), hpg, show (jb σ0 * 3 + 1) % 3 = 1 by omega, show (k + 1 + (q : Int) - k).toNat = q + 1 by omega] at c2
    have hF1 : F_dk w (σ0 55 w) σ0 σ1 := hF.tr (F_mc_con c1).dk
    have hlok : lok σ1 := by unfold lok; rw [hF1.1 _ (by decide) (by decide)]; exact hl
    have trap : (cmb σ0 E = none ∨ ∃ out, cmb σ0 E = some out ∧ 1000 < σ0 55 w + out.length) → P_M_traps w σ1 ∧ ∀ σ', Q_M_traps w σ1 σ' → QR none σ' := by
      intro hc
      refine ⟨⟨hlok, hw⟩, fun σ' q => hq _ (fun E' hE' => Or.inr ⟨?_, σ1, hF1, q⟩)⟩
      rw [hun E' hE']; exact hc
    cases hcl : lcall (prg σ0 (jb σ0 * 3 + 1)) 1 (σ 79 k) (vls (σ 80) k (q + 1)) with
    | none =>
      rw [hcl] at c2 hgm
      have hr0 : r = 0 := c2
      have := trap (Or.inl (by rw [hcm, hgm]; rfl))
      subst hr0
      simp only [not_true_eq_false, false_implies, and_true]
      exact fun _ => this
    | some em =>
      rw [hcl] at c2 hgm
      obtain ⟨hr1, hem⟩ : r = 1 ∧ Em σ1 em := c2
      subst hr1
      rw [hem.1]
      have he4 := hem.2.1
      have e1 : z_add to (em.length : Int) = to + em.length := by unfold z_add; exact w32_i _ (by omega) (by omega)
      rw [e1]
      have mK : σ1 79 = σ 79 := F_mc_con c1 _ (by decide)
      have mV : σ1 80 = σ 80 := F_mc_con c1 _ (by decide)
      have dK : σ1 59 = σ 59 := F_mc_con c1 _ (by decide)
      have dV : σ1 60 = σ 60 := F_mc_con c1 _ (by decide)
      refine ⟨fun h => by omega, fun _ => ⟨fun hle => ?_, fun hgt => ?_⟩⟩
      · refine v_M_keep_180 S Q σ1 w t n _ to _ k _ em hem hw (by omega) (fun σ2 hL => ?_) em.length 0 σ1 (by omega) LY_0
        have eK : σ2 79 = σ 79 := by rw [hL.1 _ (by decide), mK]
        have eV : σ2 80 = σ 80 := by rw [hL.1 _ (by decide), mV]
        refine ih (k + 1 + q) (to + em.length) σ2 (by omega) ⟨⟨fun x h1 h2 => (hL.1 x h2).trans (hF1.1 x h1 h2), fun j hj' => ?_⟩, ?_, by omega, by omega, ?_⟩
        · obtain ⟨a1, a2⟩ := hL.2.1 j (by omega)
          obtain ⟨b1, b2⟩ := hF1.2 j hj'
          exact ⟨a1.trans b1, a2.trans b2⟩
        · rw [row_keep (σ := σ) (fun i _ _ => by rw [eK, eV]; exact ⟨rfl, rfl⟩)]; exact hrow
        · rw [hgm, row_keep (σ := σ) (σ' := σ2) (kk := 79) (fun i _ _ => by rw [eK, eV]; exact ⟨rfl, rfl⟩)]
          rw [show (n - (k + 1)).toNat - q = (n - (k + 1 + q)).toNat by omega]
          have hr : row σ2 59 60 (w * 1000 + σ0 55 w) (to + em.length - σ0 55 w).toNat = row σ 59 60 (w * 1000 + σ0 55 w) (to - σ0 55 w).toNat ++ em := by
            rw [show (to + (em.length : Int) - σ0 55 w).toNat = (to - σ0 55 w).toNat + em.length by omega, row_app]
            congr 1
            · apply row_keep
              intro i i0 i1
              obtain ⟨a1, a2⟩ := hL.2.1 i (by omega)
              rw [a1, a2, dK, dV]; exact ⟨rfl, rfl⟩
            · conv => rhs; rw [← Em_row hem]
              unfold row
              apply List.map_congr_left
              intro i hi
              have := List.mem_range.mp hi
              obtain ⟨a1, a2⟩ := hL.2.2 i (by omega) (by omega)
              rw [show w * 1000 + σ0 55 w + (((to - σ0 55 w).toNat : Nat) : Int) + (i : Int) = w * 1000 + to + (i : Int) by omega, a1, a2]; simp
          rw [hr]
          cases gmap (fun k vs => lcall (prg σ0 (jb σ0 * 3 + 1)) 1 k vs) (n - (k + 1 + (q : Int))).toNat (row σ 79 80 (k + 1 + (q : Int)) (n - (k + 1 + (q : Int))).toNat) with
          | none => rfl
          | some b => simp
      · apply trap
        rw [hcm, hgm]
        cases gmap (fun k vs => lcall (prg σ0 (jb σ0 * 3 + 1)) 1 k vs) ((n - (k + 1)).toNat - q) (row σ 79 80 (k + 1 + (q : Int)) ((n - (k + 1)).toNat - q)) with
        | none => exact Or.inl rfl
        | some b => exact Or.inr ⟨_, rfl, by simp [row_len]; omega⟩
theorem w_M_keep {l : Launch} {ad : Nat → Nat} {D : va_G} {cA : Nat → ClassId} {WW : Nat → qP} {QR : Option qA → qS → Prop} (S : qSnd l rm_M_keep ad D cA R_M b_M_keep 10 WW) (Q : qRet (none) b_M_keep WW QR) (a1 : Int) (a2 : Int) (σ : qS) (ha1 : r32 a1) (ha2 : r32 a2) (hσ : qoS σ) (h : P_M_keep a1 a2 σ) (hq : ∀ σ', Q_M_keep a1 a2 σ σ' → QR none σ') : WW 0 [] [some (.inr (.inr 900)), some (.inl a1), some (.inl a2), none, none, none, none, none, none, none] σ := by
  refine s_M_keep_0 S Q _ _ _ ?_
  simp only [k_M_keep_0, k_M_keep_63, k_M_keep_73, k_M_keep_79, k_M_keep_82, k_M_keep_88, k_M_keep_118, k_M_keep_127, k_M_keep_130, k_M_keep_136, k_M_keep_158, k_M_keep_171, k_M_keep_177, k_M_keep_180, k_M_keep_189, k_M_keep_219, k_M_keep_235, oc_M_callOn, oc_M_done, oc_M_endOfKey, oc_M_job, oc_M_lay, oc_M_merge, oc_M_sumOf, oc_M_traps, o_c, o_il, o_ll, o_al, o_is, o_as, o_ls, o_inc, o_bi, o_bid, o_bl, o_bld, o_sl, o_i2l, o_l2i, o_dup, o_dup2, o_pop, o_pop2, o_if, o_i2, o_l2, swg, o_sw, o_gI, o_gZ, o_gJ, o_gA, o_gR, o_pI, o_pZ, o_pJ, o_pR, o_ia, o_iak, o_zak, o_ja, o_jak, o_is_, o_isk, o_zsk, o_js_, o_jsk, o_len, o_ri, o_rz, o_rl, o_rv, ls1, ls2, lks, lkj, List.getD_cons_zero, List.getD_cons_succ, List.set_cons_zero, List.set_cons_succ, qcat, true_and, and_true, List.map_nil, List.map_cons, List.sum_nil, List.sum_cons, Nat.reduceAdd, Nat.reduceLeDiff, Nat.zero_le, Int.reduceAdd, Int.reduceNeg, Int.reduceEq, or_true, true_or, Decidable.not_not, false_implies, not_false_eq_true, true_implies, not_true_eq_false, Int.reduceLT, Int.reduceLE]
  have hp := h
  obtain ⟨hw, ht, hl, hpl, hj, hpr, hd, E, hE⟩ := h
  have hE' := hE
  obtain ⟨k1, k2, k3, k4, k5, k6⟩ := hE
  have e1 : z_mul a1 64 = a1 * 64 := by unfold z_mul; exact w32_i _ (by omega) (by omega)
  have e2 : z_mul a1 65 = a1 * 65 := by unfold z_mul; exact w32_i _ (by omega) (by omega)
  rw [e1, e2]
  have hAA : ∀ i : Nat, AA σ 74 (a1 * 65) i = σ 74 (a1 * 65 + i) := fun i => rfl
  have hA0 : AA σ 74 (a1 * 65) 0 = 0 := by rw [hAA]; simpa using k2
  have hAr : AA σ 74 (a1 * 65) (σ 73 a1).toNat = E.length := by rw [hAA, show a1 * 65 + (((σ 73 a1).toNat : Nat) : Int) = a1 * 65 + σ 73 a1 by omega]; exact k3.2
  have hsc : ∀ i : Nat, a1 * 65 + ((i + 1 : Nat) : Int) = a1 * 65 + i + 1 := fun i => by omega
  have hsrt : ∀ E', KP σ a1 E' → srt E' = srt E ∧ E'.length = E.length := by
    intro E2 h2
    have hl2 : E2.length = E.length := by have := h2.2.2.1.2; have := k3.2; omega
    have f2 := h2.2.2.2.2.2
    rw [hl2] at f2
    exact ⟨(srt_eq ⟨(srt_SS E2).1, fun c => ((srt_SS E2).2 c).trans ((f2 c).symm.trans (k6 c))⟩), hl2⟩
  have hun : ∀ E', KP σ a1 E' → cmb σ E' = cmb σ E := fun E2 h2 => by unfold cmb; rw [(hsrt E2 h2).1, (hsrt E2 h2).2]
  refine ⟨hw, ⟨⟨by decide, by decide, by decide, by decide, by decide, by decide⟩, ⟨by decide, by decide, by decide⟩, by omega, ⟨by omega, by show a1 * 65 + σ 73 a1 < (390 : Int); omega⟩, by omega, by rw [hA0]; omega, ⟨by rw [hAr]; show a1 * 64 + (E.length : Int) ≤ (384 : Int); omega, by rw [hAr]; show a1 * 64 + (E.length : Int) ≤ (384 : Int); omega⟩, by rw [hAr, hA0]; omega, fun i hi => by rw [hAA, hAA, hsc]; exact k4 i hi, fun i hi => by rw [hAA, hAA, hsc]; exact k5 i hi⟩, fun n σ1 q1 => ?_⟩
  obtain ⟨c1, c2, c3⟩ := q1
  rw [hAr, hA0] at c2
  have hn : n = E.length := by omega
  subst hn
  rw [hA0, show a1 * 64 + 0 = a1 * 64 by omega, show ((E.length : Int)).toNat = E.length by omega] at c3
  have hm : row σ1 79 80 0 E.length = srt E := by
    rw [c3]
    exact srt_eq ⟨(srt_SS _).1, fun c => ((srt_SS _).2 c).trans (k6 c)⟩
  have hF1 : F_dk a1 (σ 55 a1) σ σ1 := c1.dk
  have ed : σ1 55 = σ 55 := c1 _ (by decide)
  have epl : σ1 32 = σ 32 := c1 _ (by decide)
  have ejb : jb σ1 = jb σ := by unfold jb; rw [epl, c1 29 (by decide)]
  have eln : σ1 8 = σ 8 := c1 _ (by decide)
  refine ⟨hw, by rw [show P_M_job σ1 = (0 ≤ σ1 32 0 ∧ σ1 32 0 < 8) from rfl, epl]; exact hpl, fun r σ2 q2 => ?_⟩
  obtain ⟨e9, rfl⟩ := q2
  replace e9 := e9.symm
  subst e9
  have e3 : z_add (z_mul (jb σ1) 3) 1 = jb σ * 3 + 1 := by rw [ejb]; unfold z_add z_mul; rw [w32_i (jb σ * 3) (by omega) (by omega), w32_i _ (by omega) (by omega)]
  have e4 : z_add (σ 55 a1) (E.length : Int) = σ 55 a1 + E.length := by unfold z_add; exact w32_i _ (by omega) (by omega)
  rw [e3, ed, eln, e4]
  have hlok : lok σ1 := by unfold lok; rw [c1 _ (by decide)]; exact hl
  refine ⟨by omega, fun hne => ?_, fun he => ⟨fun hle => ?_, fun hgt => ⟨⟨hlok, hw⟩, fun σ' q => hq _ (fun E2 h2 => Or.inr ⟨?_, σ1, hF1, q⟩)⟩⟩⟩
  · refine v_M_keep_130 S Q σ a1 a2 E.length E hE' rfl hne hp hq hun E.length 0 (σ 55 a1) σ1 (by omega) ⟨hF1, hm, by omega, by omega, ?_⟩
    rw [show ((E.length : Int) - 0).toNat = E.length by omega, hm, show (σ 55 a1 - σ 55 a1).toNat = 0 by omega]
    cases gmap (fun k vs => lcall (prg σ (jb σ * 3 + 1)) 1 k vs) E.length (srt E) <;> simp [row]
  · have hc : cmb σ E = some (srt E) := by unfold cmb; rw [if_pos he]
    exact v_M_keep_82 S Q σ σ1 a1 a2 E.length _ E hE' rfl hc hp hF1 hm hle (fun σ' hx => hq _ (fun E2 h2 => Or.inl (by rw [hun E2 h2]; exact hx))) E.length 0 σ1 (by omega) LY_0
  · rw [hun E2 h2]
    have hc : cmb σ E = some (srt E) := by unfold cmb; rw [if_pos he]
    exact Or.inr ⟨_, hc, by rw [SS_len (srt_SS E)]; omega⟩
theorem c_M_keep (l : Launch) (ad : Nat → Nat) (D : va_G) (cA : Nat → ClassId) : qC l ad D cA y_M_keep (Cond.code y_M_keep b_M_keep 10 (none) :: lw_g) rm_M_keep pre_M_keep post_M_keep := by
  refine qC_of (own := R_M) (by decide) rfl ⟨rfl, rfl⟩ ?_ ?_
  · intro av σ h; unfold pre_M_keep at h; split at h
    · simp [qen]
    · exact h.elim
  · intro WW QR S Q av σ hav hσ h hq; unfold pre_M_keep at h; split at h
    next o a1 a2 =>
      obtain ⟨rfl, h⟩ := h
      exact w_M_keep S Q a1 a2 σ (hav _ (List.mem_of_getElem? (i := 1) rfl)) (hav _ (List.mem_of_getElem? (i := 2) rfl)) hσ h (fun σ' h' => hq _ σ' h')
    next => exact h.elim

