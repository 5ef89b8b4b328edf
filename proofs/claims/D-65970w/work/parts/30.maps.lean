theorem rat_b {σ : qS} (h : jobok σ) {i : Int} (h0 : 0 ≤ i) (h1 : i < all_ σ) : 0 ≤ rat σ i ∧ rat σ i < 4800 := by
  have hA := h.2.2.1
  have hB := h.2.2.2.1
  have hf := h.2.2.2.2.2.2
  have a1 := hf _ hA.1 hA.2
  unfold all_ rc at h1
  rw [if_neg (by omega)] at h1
  unfold rat
  split
  · omega
  · by_cases e : σ 11 (jb σ) = -1
    · rw [if_pos e] at h1; omega
    · rw [if_neg e] at h1
      have := hf (σ 11 (jb σ)) (by omega) hB.2
      omega
def BF (σ : qS) (w : Int) (E : List Pr) : Prop := 0 ≤ σ 73 w ∧ (0 ≤ σ 67 w ∧ σ 67 w ≤ 8) ∧ σ 70 w = 8 * σ 73 w ∧ (E.length : Int) = 8 * σ 73 w + σ 67 w ∧ E.length ≤ 64 ∧ (∀ i : Nat, (i : Int) < σ 73 w → σ 74 (w * 65 + i) = 8 * i ∧ σ 74 (w * 65 + i + 1) = 8 * i + 8) ∧ (∀ i : Nat, (i : Int) < σ 73 w → row σ 71 72 (w * 64 + 8 * i) 8 = srt ((E.drop (8 * i)).take 8)) ∧ row σ 68 69 (w * 8) (σ 67 w).toNat = E.drop (8 * (σ 73 w).toNat)
theorem BF_P {σ : qS} {w : Int} {E : List Pr} (h : BF σ w E) (hw : 0 ≤ w ∧ w < 6) : P_M_spill w σ := by
  obtain ⟨h1, h2, h3, h4, h5, -⟩ := h
  exact ⟨hw, h2, ⟨h1, by omega⟩, by omega, by omega⟩
theorem BF_sp {σ σ' : qS} {w : Int} {E : List Pr} (h : BF σ w E) (hb : σ 67 w = 8) (hq : Q_M_spill w σ σ') : BF σ' w E ∧ σ' 67 w = 0 := by
  obtain ⟨h1, h2, h3, h4, h5, h6, h7, h8⟩ := h
  obtain ⟨q1, q2, q3, q4, q5, q6, q7, q8, q9⟩ := hq
  refine ⟨⟨by omega, by omega, by omega, by omega, h5, fun i hi => ?_, fun i hi => ?_, ?_⟩, q4⟩
  · by_cases e : (i : Int) = σ 73 w
    · rw [e]
      exact ⟨by rw [q6, h3], by rw [q7, h3, hb]⟩
    · obtain ⟨a1, a2⟩ := h6 i (by omega)
      rw [q5 _ (by omega) (by omega)]
      refine ⟨a1, ?_⟩
      by_cases e2 : (i : Int) + 1 = σ 73 w
      · rw [show w * 65 + (i : Int) + 1 = w * 65 + σ 73 w by omega, q6, h3]; omega
      · rw [q5 _ (by omega) (by omega)]; exact a2
  · by_cases e : (i : Int) = σ 73 w
    · rw [h8, hb, h3] at q9
      rw [show w * 64 + 8 * (i : Int) = w * 64 + 8 * σ 73 w by omega, show (8 : Nat) = (8 : Int).toNat by rfl, q9, show (σ 73 w).toNat = i by omega, List.take_of_length_le]
      · rfl
      · rw [List.length_drop, show Int.toNat 8 = 8 by rfl]; omega
    · rw [row_keep (σ := σ) (fun j j0 j1 => q8 j (by omega)), h7 i (by omega)]
  · rw [q4, q3]
    rw [List.drop_of_length_le (by omega)]; rfl
theorem BF_pu {σ σ' : qS} {w : Int} {E : List Pr} {x : Pr} (h : BF σ w E) (hb : σ 67 w < 8) (hl : E.length < 64) (f1 : ∀ k, k ∉ [68, 69, 67] → σ' k = σ k) (f2 : ∀ j, j ≠ w * 8 + σ 67 w → σ' 68 j = σ 68 j ∧ σ' 69 j = σ 69 j) (f3 : σ' 68 (w * 8 + σ 67 w) = x.1 ∧ σ' 69 (w * 8 + σ 67 w) = x.2) (f4 : σ' 67 w = σ 67 w + 1) : BF σ' w (E ++ [x]) := by
  obtain ⟨h1, h2, h3, h4, h5, h6, h7, h8⟩ := h
  have e1 : σ' 73 = σ 73 := f1 _ (by decide)
  have e2 : σ' 74 = σ 74 := f1 _ (by decide)
  have e3 : σ' 70 = σ 70 := f1 _ (by decide)
  refine ⟨by rw [e1]; exact h1, by omega, by rw [e1, e3]; exact h3, by rw [e1, f4]; simp; omega, by simp; omega, fun i hi => by rw [e2]; rw [e1] at hi; exact h6 i hi, fun i hi => ?_, ?_⟩
  · rw [e1] at hi
    rw [row_keep (σ := σ) (fun j _ _ => by rw [f1 _ (by decide), f1 _ (by decide)]; exact ⟨rfl, rfl⟩), h7 i hi, List.drop_append_of_le_length (by omega), List.take_append_of_le_length (by rw [List.length_drop]; omega)]
  · rw [f4, e1, show (σ 67 w + 1).toNat = (σ 67 w).toNat + 1 by omega, row_s, List.drop_append_of_le_length (by omega), ← h8]
    congr 1
    · exact row_keep (fun j j0 j1 => f2 j (by omega))
    · rw [show w * 8 + (((σ 67 w).toNat : Nat) : Int) = w * 8 + σ 67 w by omega, f3.1, f3.2]
theorem fk_chunks {σ : qS} {w : Int} {E : List Pr} (hc : ∀ i : Nat, 8 * i < E.length → ∀ c, fk c (row σ 71 72 (w * 64 + 8 * i) (min 8 (E.length - 8 * i))) = fk c ((E.drop (8 * i)).take 8)) : ∀ (n : Nat) c, fk c (row σ 71 72 (w * 64) (min (8 * n) E.length)) = fk c (E.take (8 * n)) := by
  intro n
  induction n with
  | zero => intro c; simp [row]
  | succ n ih =>
    intro c
    by_cases h : 8 * n < E.length
    · have e : min (8 * (n + 1)) E.length = 8 * n + min 8 (E.length - 8 * n) := by omega
      have e2 := ih c
      rw [show min (8 * n) E.length = 8 * n by omega] at e2
      rw [e, row_app, fk_app, e2, show w * 64 + ((8 * n : Nat) : Int) = w * 64 + 8 * (n : Int) by omega, hc n h c, ← fk_app, show 8 * (n + 1) = 8 * n + 8 by omega, List.take_add]
    · have e2 := ih c
      rw [show min (8 * n) E.length = E.length by omega, List.take_of_length_le (by omega)] at e2
      rw [show min (8 * (n + 1)) E.length = E.length by omega, List.take_of_length_le (by omega)]
      exact e2
theorem BF_KP {σ σ' : qS} {w : Int} {E : List Pr} (h : BF σ w E) (hq : Q_M_spill w σ σ') : KP σ' w E := by
  obtain ⟨h1, h2, h3, h4, h5, h6, h7, h8⟩ := h
  obtain ⟨q1, q2, q3, q4, q5, q6, q7, q8, q9⟩ := hq
  have hat : ∀ i : Nat, (i : Int) ≤ σ 73 w → σ' 74 (w * 65 + i) = 8 * i := by
    intro i hi
    by_cases e : (i : Int) = σ 73 w
    · rw [e, q6, h3]
    · rw [q5 _ (by omega) (by omega)]; exact (h6 i (by omega)).1
  have hat1 : ∀ i : Nat, (i : Int) < σ 73 w → σ' 74 (w * 65 + i + 1) = 8 * i + 8 := by
    intro i hi
    have := hat (i + 1) (by omega)
    rw [show w * 65 + (i : Int) + 1 = w * 65 + ((i + 1 : Nat) : Int) by omega, this]; omega
  have hrow : ∀ i : Nat, (i : Int) < σ 73 w → row σ' 71 72 (w * 64 + 8 * i) 8 = srt ((E.drop (8 * i)).take 8) := by
    intro i hi
    rw [row_keep (σ := σ) (fun j j0 j1 => q8 j (by omega)), h7 i hi]
  rw [h8, h3] at q9
  refine ⟨by omega, by have := hat 0 (by omega); simpa using this, ⟨?_, ?_⟩, fun i hi => ?_, fun i hi => ?_, fun c => ?_⟩
  · rw [q3, show w * 65 + (σ 73 w + 1) = w * 65 + σ 73 w + 1 by omega, q7]; omega
  · rw [q3, show w * 65 + (σ 73 w + 1) = w * 65 + σ 73 w + 1 by omega, q7]; omega
  · rw [hat i (by omega)]
    by_cases e : (i : Int) = σ 73 w
    · rw [e, q7]; omega
    · rw [hat1 i (by omega)]; omega
  · rw [hat i (by omega)]
    by_cases e : (i : Int) = σ 73 w
    · rw [e, q7, h3, show (8 * σ 73 w + σ 67 w - 8 * σ 73 w).toNat = (σ 67 w).toNat by omega, q9]
      exact (srt_SS _).1
    · rw [hat1 i (by omega), show (8 * (i : Int) + 8 - 8 * (i : Int)).toNat = 8 by omega, hrow i (by omega)]
      exact (srt_SS _).1
  · have key := fk_chunks (σ := σ') (w := w) (E := E) (fun i hi c => ?_) (E.length) c
    · rw [show min (8 * E.length) E.length = E.length by omega, List.take_of_length_le (by omega)] at key
      exact key
    · by_cases e : (i : Int) < σ 73 w
      · rw [show min 8 (E.length - 8 * i) = 8 by omega, hrow i e]
        exact (srt_SS _).2 c
      · have hi2 : (i : Int) = σ 73 w := by omega
        rw [show min 8 (E.length - 8 * i) = (σ 67 w).toNat by omega, show w * 64 + 8 * (i : Int) = w * 64 + 8 * σ 73 w by omega, q9, show (σ 73 w).toNat = i by omega, List.take_of_length_le (by rw [List.length_drop]; omega)]
        exact (srt_SS _).2 c
def mcon (σ : qS) (r : Int) : qS := su (su (su (su σ 22 0 (σ 0 r)) 23 0 1) 24 0 r) 25 0 (r + 1)
theorem scall_mcon {σ : qS} {r p : Int} : scall (mcon σ r) p = lcall (prg σ p) (p % 3) (σ 0 r) [σ 1 r] := by
  unfold scall
  have e1 : mcon σ r 6 = σ 6 := by unfold mcon; simp (disch := omega) only [su_k]
  have e2 : mcon σ r 7 = σ 7 := by unfold mcon; simp (disch := omega) only [su_k]
  have e3 : mcon σ r 8 = σ 8 := by unfold mcon; simp (disch := omega) only [su_k]
  have e4 : mcon σ r 22 0 = σ 0 r := by unfold mcon; simp (disch := omega) only [su_k, su_s]
  have e5 : mcon σ r 24 0 = r := by unfold mcon; simp (disch := omega) only [su_k, su_s]
  have e6 : mcon σ r 25 0 = r + 1 := by unfold mcon; simp (disch := omega) only [su_k, su_s]
  have e7 : crow (mcon σ r) = σ 1 := by
    unfold crow
    have : mcon σ r 23 0 = 1 := by unfold mcon; simp (disch := omega) only [su_k, su_s]
    rw [this]
    show mcon σ r 1 = _
    unfold mcon; simp (disch := omega) only [su_k]
  rw [e1, e2, e3, e4, e5, e6, e7, mcall_l (by omega), show (r + 1 - r).toNat = 1 by omega]
  simp [vls, prg]
def P_M_maps (w : Int) (σ : qS) : Prop := (0 ≤ w ∧ w < 6) ∧ (0 ≤ σ 62 w ∧ σ 62 w < 38) ∧ lok σ ∧ jobok σ ∧ progok σ (jb σ * 3) ∧ progok σ (jb σ * 3 + 1) ∧ (0 ≤ σ 55 w ∧ σ 55 w ≤ 1000) ∧ (0 ≤ σ 64 w ∧ σ 64 w ≤ 16) ∧ (σ 56 (w * 38 + σ 62 w) = -1 → ∃ E, BF σ w E ∧ (E.length : Int) ≤ 4 * σ 64 w)
def mrec (σ : qS) (i : Int) : Option (List Pr) := lcall (prg σ (jb σ * 3)) 0 (σ 0 (rat σ i)) [σ 1 (rat σ i)]
def MB : List Nat := [68, 69, 74, 71, 72, 70, 73, 67]
def F_mp (w : Int) (σ σ' : qS) : Prop := (∀ k, k ∉ SC → k ∉ 64 :: MB → σ' k = σ k) ∧ (∀ j, j ≠ w → σ' 64 j = σ 64 j) ∧ (∀ j, (j < w * 8 ∨ w * 8 + 8 ≤ j) → σ' 68 j = σ 68 j ∧ σ' 69 j = σ 69 j) ∧ (∀ j, j ≠ w → σ' 70 j = σ 70 j ∧ σ' 73 j = σ 73 j ∧ σ' 67 j = σ 67 j) ∧
  (∀ j, (j < w * 65 ∨ w * 65 + 65 ≤ j) → σ' 74 j = σ 74 j) ∧ (∀ j, (j < w * 64 ∨ w * 64 + 64 ≤ j) → σ' 71 j = σ 71 j ∧ σ' 72 j = σ 72 j)
def Q_M_maps (w : Int) (σ σ' : qS) : Prop :=
  (σ 56 (w * 38 + σ 62 w) ≠ -1 ∧ Q_M_done w (σ 62 w) (σ 57 (w * 38 + σ 62 w)) σ σ') ∨
  (σ 56 (w * 38 + σ 62 w) = -1 ∧ (σ 64 w = 16 ∨ all_ σ ≤ σ 62 w * 16 + σ 64 w) ∧ ∀ E, BF σ w E → ∃ σ1, F_mp w σ σ1 ∧ ((∃ out σ2, cmb σ E = some out ∧ σ 55 w + out.length ≤ 1000 ∧ K1 w (σ 62 w) out σ1 σ2 ∧ Q_M_done w (σ 62 w) out.length σ2 σ') ∨ ((cmb σ E = none ∨ ∃ out, cmb σ E = some out ∧ 1000 < σ 55 w + out.length) ∧ ∃ σ2, F_dk w (σ 55 w) σ1 σ2 ∧ Q_M_traps w σ2 σ'))) ∨
  (σ 56 (w * 38 + σ 62 w) = -1 ∧ (σ 64 w < 16 ∧ σ 62 w * 16 + σ 64 w < all_ σ) ∧ ((mrec σ (σ 62 w * 16 + σ 64 w) = none ∧ ∃ σ1, F_mp w σ σ1 ∧ Q_M_traps w σ1 σ') ∨ ∃ em, mrec σ (σ 62 w * 16 + σ 64 w) = some em ∧ F_mp w σ σ' ∧ σ' 64 w = σ 64 w + 1 ∧ ∀ E, BF σ w E → (E.length : Int) ≤ 4 * σ 64 w → BF σ' w (E ++ em) ∧ ((E ++ em).length : Int) ≤ 4 * σ' 64 w))
def pre_M_maps (av : List qA) (σ : qS) : Prop := match av with
  | [.inr (.inr o), .inl a1] => o = 900 ∧ P_M_maps a1 σ
  | _ => False
def post_M_maps (av : List qA) (σ : qS) (r : Option qA) (σ' : qS) : Prop := match av, r with
  | [_, .inl a1], none => Q_M_maps a1 σ σ'
  | _, _ => False
def oc_M_maps (K : qP) : qP := fun st ls σ => match st with
  | .inl a1 :: .inr (.inr o) :: st => o = 900 ∧ (st.map qcat).sum ≤ 8 ∧ P_M_maps a1 σ ∧ ∀ (σ' : qS), Q_M_maps a1 σ σ' → K st ls σ'
  | _ => False
def rm_M_maps : Room := { frames := 6, cells := 0, slots := 0, locals := 151 }
theorem fl_M_9 : qF R_M 900 0 82 0 R_M F_M 9 0 := ⟨Or.inl ⟨rfl, rfl, rfl, rfl, rfl, rfl⟩, by decide, lw_at 78 (by decide +kernel) rfl⟩
theorem fl_M_13 : qF R_M 900 0 82 0 R_M F_M 13 1 := ⟨Or.inl ⟨rfl, rfl, rfl, rfl, rfl, rfl⟩, by decide, lw_at 79 (by decide +kernel) rfl⟩
theorem sc_M_379 {l : Launch} {R : Room} {ad : Nat → Nat} {D : va_G} {cA : Nat → ClassId} {cc : ByteArray} {nL : Nat} {WW : Nat → qP} (S : qSnd l R ad D cA R_M cc nL WW) (hR : rm_M_keep.frames + 1 ≤ R.frames ∧ 8 + (10 + 11) + rm_M_keep.locals ≤ R.locals) {K : qP} {pc : Nat} (d : decode cc pc = .ok (.invokevirtual 379, 3)) (h : qle K WW (pc + 3)) : qle (oc_M_keep K) WW pc := by
  intro st ls σ k
  refine S.callV (o := 900) (ci := 0) (N := 82) (base := 0) (C := R_M) (T := F_M) (n := 2) (pre := pre_M_keep) (post := post_M_keep) (Or.inl ⟨rfl, rfl, rfl, rfl, rfl, rfl⟩) ⟨lw_at 672 (by decide +kernel) rfl, lw_at 669 (by decide +kernel) rfl, lw_at 59 (by decide +kernel) rfl, by decide, by decide, by decide +kernel⟩ ⟨lw_at 671 (by decide +kernel) rfl, lw_at 36 (by decide +kernel) rfl⟩ ⟨rfl, rfl⟩ hR (c_M_keep l ad D cA) ?_ d h st ls σ ?_
  · intro av σ h; unfold pre_M_keep at h; split at h
    · obtain ⟨rfl, h⟩ := h; exact ⟨_, rfl⟩
    · exact h.elim
  · unfold oc_M_keep at k
    split at k
    next a2 a1 o st =>
      obtain ⟨rfl, hs, hp, k⟩ := k
      refine ⟨[.inr (.inr 900), .inl a1, .inl a2], st, rfl, rfl, hs, ⟨rfl, hp⟩, fun r σ' hq => ?_⟩
      unfold post_M_keep at hq
      split at hq
      next h1 =>
        cases h1
        exact k _ hq
      next => exact hq.elim
    next => exact k.elim
theorem sc_M_382 {l : Launch} {R : Room} {ad : Nat → Nat} {D : va_G} {cA : Nat → ClassId} {cc : ByteArray} {nL : Nat} {WW : Nat → qP} (S : qSnd l R ad D cA R_M cc nL WW) (hR : rm_M_recordAt.frames + 1 ≤ R.frames ∧ 8 + (3 + 11) + rm_M_recordAt.locals ≤ R.locals) {K : qP} {pc : Nat} (d : decode cc pc = .ok (.invokevirtual 382, 3)) (h : qle K WW (pc + 3)) : qle (oc_M_recordAt K) WW pc := by
  intro st ls σ k
  refine S.callV (o := 900) (ci := 0) (N := 82) (base := 0) (C := R_M) (T := F_M) (n := 1) (pre := pre_M_recordAt) (post := post_M_recordAt) (Or.inl ⟨rfl, rfl, rfl, rfl, rfl, rfl⟩) ⟨lw_at 724 (by decide +kernel) rfl, lw_at 721 (by decide +kernel) rfl, lw_at 59 (by decide +kernel) rfl, by decide, by decide, by decide +kernel⟩ ⟨lw_at 723 (by decide +kernel) rfl, lw_at 49 (by decide +kernel) rfl⟩ ⟨rfl, rfl⟩ hR (c_M_recordAt l ad D cA) ?_ d h st ls σ ?_
  · intro av σ h; unfold pre_M_recordAt at h; split at h
    · obtain ⟨rfl, h⟩ := h; exact ⟨_, rfl⟩
    · exact h.elim
  · unfold oc_M_recordAt at k
    split at k
    next a1 o st =>
      obtain ⟨rfl, hs, hp, k⟩ := k
      refine ⟨[.inr (.inr 900), .inl a1], st, rfl, rfl, hs, ⟨rfl, hp⟩, fun r σ' hq => ?_⟩
      unfold post_M_recordAt at hq
      split at hq
      next h1 =>
        cases h1
        exact k _ _ hq
      next => exact hq.elim
    next => exact k.elim
theorem sc_M_376 {l : Launch} {R : Room} {ad : Nat → Nat} {D : va_G} {cA : Nat → ClassId} {cc : ByteArray} {nL : Nat} {WW : Nat → qP} (S : qSnd l R ad D cA R_M cc nL WW) (hR : rm_M_spill.frames + 1 ≤ R.frames ∧ 8 + (10 + 11) + rm_M_spill.locals ≤ R.locals) {K : qP} {pc : Nat} (d : decode cc pc = .ok (.invokevirtual 376, 3)) (h : qle K WW (pc + 3)) : qle (oc_M_spill K) WW pc := by
  intro st ls σ k
  refine S.callV (o := 900) (ci := 0) (N := 82) (base := 0) (C := R_M) (T := F_M) (n := 1) (pre := pre_M_spill) (post := post_M_spill) (Or.inl ⟨rfl, rfl, rfl, rfl, rfl, rfl⟩) ⟨lw_at 668 (by decide +kernel) rfl, lw_at 665 (by decide +kernel) rfl, lw_at 59 (by decide +kernel) rfl, by decide, by decide, by decide +kernel⟩ ⟨lw_at 667 (by decide +kernel) rfl, lw_at 35 (by decide +kernel) rfl⟩ ⟨rfl, rfl⟩ hR (c_M_spill l ad D cA) ?_ d h st ls σ ?_
  · intro av σ h; unfold pre_M_spill at h; split at h
    · obtain ⟨rfl, h⟩ := h; exact ⟨_, rfl⟩
    · exact h.elim
  · unfold oc_M_spill at k
    split at k
    next a1 o st =>
      obtain ⟨rfl, hs, hp, k⟩ := k
      refine ⟨[.inr (.inr 900), .inl a1], st, rfl, rfl, hs, ⟨rfl, hp⟩, fun r σ' hq => ?_⟩
      unfold post_M_spill at hq
      split at hq
      next h1 =>
        cases h1
        exact k _ hq
      next => exact hq.elim
    next => exact k.elim
def k_M_maps_272 (QR : Option qA → qS → Prop) (H : Nat → qP) : qP :=
  o_rv QR
def k_M_maps_210 (QR : Option qA → qS → Prop) (H : Nat → qP) : qP :=
  o_al 0 <| o_gA 900 68 <| o_il 1 <| o_c (.inl 8) <| o_bi z_mul <| o_al 0 <| o_gA 900 67 <| o_il 1 <| o_iak 67 6 <| o_bi z_add <| o_al 0 <| o_gA 900 18 <| o_il 6 <| o_jak 18 4 <| o_jsk 68 48 <| o_al 0 <| o_gA 900 69 <| o_il 1 <| o_c (.inl 8) <| o_bi z_mul <| o_al 0 <| o_gA 900 67 <| o_il 1 <| o_iak 67 6 <| o_bi z_add <| o_al 0 <| o_gA 900 19 <| o_il 6 <| o_jak 19 4 <| o_jsk 69 48 <| o_al 0 <| o_gA 900 67 <| o_il 1 <| o_dup2 <| o_iak 67 6 <| o_c (.inl 1) <| o_bi z_add <| o_isk 67 6 <| o_inc 6 1 <| H 185
def k_M_maps_205 (QR : Option qA → qS → Prop) (H : Nat → qP) : qP :=
  o_al 0 <| o_il 1 <| oc_M_spill <| H 210
def k_M_maps_194 (QR : Option qA → qS → Prop) (H : Nat → qP) : qP :=
  o_al 0 <| o_gA 900 67 <| o_il 1 <| o_iak 67 6 <| o_c (.inl 8) <| o_i2 (fun a b => ¬ a = b) (H 210) (k_M_maps_205 QR H)
def k_M_maps_185 (QR : Option qA → qS → Prop) (H : Nat → qP) : qP :=
  o_il 6 <| o_al 0 <| o_gI 900 20 <| o_i2 (fun a b => b ≤ a) (k_M_maps_272 QR H) (k_M_maps_194 QR H)
def k_M_maps_182 (QR : Option qA → qS → Prop) (H : Nat → qP) : qP :=
  o_c (.inl 0) <| o_is 6 <| H 185
def k_M_maps_176 (QR : Option qA → qS → Prop) (H : Nat → qP) : qP :=
  o_al 0 <| o_il 1 <| oc_M_traps <| o_rv QR
def k_M_maps_110 (QR : Option qA → qS → Prop) (H : Nat → qP) : qP :=
  o_al 0 <| o_gA 900 64 <| o_il 1 <| o_dup2 <| o_iak 64 6 <| o_c (.inl 1) <| o_bi z_add <| o_isk 64 6 <| o_al 0 <| o_il 4 <| oc_M_recordAt <| o_is 5 <| o_al 0 <| o_al 0 <| o_gA 900 0 <| o_il 5 <| o_jak 0 4800 <| o_pJ 900 22 <| o_al 0 <| o_al 0 <| o_gA 900 1 <| o_pR 900 23 <| o_al 0 <| o_il 5 <| o_pI 900 24 <| o_al 0 <| o_il 5 <| o_c (.inl 1) <| o_bi z_add <| o_pI 900 25 <| o_al 0 <| o_al 0 <| oc_M_job <| o_c (.inl 3) <| o_bi z_mul <| o_c (.inl 0) <| o_bi z_add <| oc_M_call <| o_if (fun a => ¬ a = 0) (k_M_maps_182 QR H) (k_M_maps_176 QR H)
def k_M_maps_98 (QR : Option qA → qS → Prop) (H : Nat → qP) : qP :=
  o_al 0 <| o_il 1 <| oc_M_spill <| o_al 0 <| o_il 1 <| o_il 2 <| oc_M_keep <| o_rv QR
def k_M_maps_92 (QR : Option qA → qS → Prop) (H : Nat → qP) : qP :=
  o_il 4 <| o_il 3 <| o_i2 (fun a b => a < b) (k_M_maps_110 QR H) (k_M_maps_98 QR H)
def k_M_maps_40 (QR : Option qA → qS → Prop) (H : Nat → qP) : qP :=
  o_al 0 <| o_al 0 <| o_gA 900 10 <| o_al 0 <| oc_M_job <| o_iak 10 8 <| oc_M_records <| o_al 0 <| o_al 0 <| o_gA 900 11 <| o_al 0 <| oc_M_job <| o_iak 11 8 <| oc_M_records <| o_bi z_add <| o_is 3 <| o_il 2 <| o_c (.inl 16) <| o_bi z_mul <| o_al 0 <| o_gA 900 64 <| o_il 1 <| o_iak 64 6 <| o_bi z_add <| o_is 4 <| o_al 0 <| o_gA 900 64 <| o_il 1 <| o_iak 64 6 <| o_c (.inl 16) <| o_i2 (fun a b => a = b) (k_M_maps_98 QR H) (k_M_maps_92 QR H)
def k_M_maps_22 (QR : Option qA → qS → Prop) (H : Nat → qP) : qP :=
  o_al 0 <| o_il 1 <| o_il 2 <| o_al 0 <| o_gA 900 57 <| o_il 1 <| o_c (.inl 38) <| o_bi z_mul <| o_il 2 <| o_bi z_add <| o_iak 57 228 <| oc_M_done <| o_rv QR
def k_M_maps_0 (QR : Option qA → qS → Prop) (H : Nat → qP) : qP :=
  o_al 0 <| o_gA 900 62 <| o_il 1 <| o_iak 62 6 <| o_is 2 <| o_al 0 <| o_gA 900 56 <| o_il 1 <| o_c (.inl 38) <| o_bi z_mul <| o_il 2 <| o_bi z_add <| o_iak 56 228 <| o_c (.inl (-1)) <| o_i2 (fun a b => a = b) (k_M_maps_40 QR H) (k_M_maps_22 QR H)
set_option maxRecDepth 8000 in
theorem s_M_maps_272 {l : Launch} {ad : Nat → Nat} {D : va_G} {cA : Nat → ClassId} {WW : Nat → qP} {QR : Option qA → qS → Prop} (S : qSnd l rm_M_maps ad D cA R_M b_M_maps 7 WW) (Q : qRet (none) b_M_maps WW QR) : qle (k_M_maps_272 QR WW) WW 272 :=
  Q.2.2.2 rfl _ d_M_maps_272
set_option maxRecDepth 8000 in
theorem s_M_maps_210 {l : Launch} {ad : Nat → Nat} {D : va_G} {cA : Nat → ClassId} {WW : Nat → qP} {QR : Option qA → qS → Prop} (S : qSnd l rm_M_maps ad D cA R_M b_M_maps 7 WW) (Q : qRet (none) b_M_maps WW QR) : qle (k_M_maps_210 QR WW) WW 210 :=
  S.aload_n d_M_maps_210 rfl <| S.gA fl_M_156 (by decide) d_M_maps_211 <| S.iload_n d_M_maps_214 rfl <| S.bipush d_M_maps_215 (by decide) <| S.imul d_M_maps_217 <| S.aload_n d_M_maps_218 rfl <| S.gA fl_M_153 (by decide) d_M_maps_219 <| S.iload_n d_M_maps_222 rfl <| S.iak (by decide) d_M_maps_223 <| S.iadd d_M_maps_224 <| S.aload_n d_M_maps_225 rfl <| S.gA fl_M_57 (by decide) d_M_maps_226 <| S.iload d_M_maps_229 <| S.jak (by decide) d_M_maps_231 <| S.jsk (by decide) d_M_maps_232 <| S.aload_n d_M_maps_233 rfl <| S.gA fl_M_159 (by decide) d_M_maps_234 <| S.iload_n d_M_maps_237 rfl <| S.bipush d_M_maps_238 (by decide) <| S.imul d_M_maps_240 <| S.aload_n d_M_maps_241 rfl <| S.gA fl_M_153 (by decide) d_M_maps_242 <| S.iload_n d_M_maps_245 rfl <| S.iak (by decide) d_M_maps_246 <| S.iadd d_M_maps_247 <| S.aload_n d_M_maps_248 rfl <| S.gA fl_M_60 (by decide) d_M_maps_249 <| S.iload d_M_maps_252 <| S.jak (by decide) d_M_maps_254 <| S.jsk (by decide) d_M_maps_255 <| S.aload_n d_M_maps_256 rfl <| S.gA fl_M_153 (by decide) d_M_maps_257 <| S.iload_n d_M_maps_260 rfl <| S.dup2 d_M_maps_261 <| S.iak (by decide) d_M_maps_262 <| S.iconst d_M_maps_263 (by decide) <| S.iadd d_M_maps_264 <| S.isk (by decide) d_M_maps_265 <| S.iinc d_M_maps_266 (by decide) <| S.goto d_M_maps_269 (by decide) (fun _ _ _ h => h)
set_option maxRecDepth 8000 in
theorem s_M_maps_205 {l : Launch} {ad : Nat → Nat} {D : va_G} {cA : Nat → ClassId} {WW : Nat → qP} {QR : Option qA → qS → Prop} (S : qSnd l rm_M_maps ad D cA R_M b_M_maps 7 WW) (Q : qRet (none) b_M_maps WW QR) : qle (k_M_maps_205 QR WW) WW 205 :=
  S.aload_n d_M_maps_205 rfl <| S.iload_n d_M_maps_206 rfl <| sc_M_376 S (by decide) d_M_maps_207 <| (fun _ _ _ h => h)
set_option maxRecDepth 8000 in
theorem s_M_maps_194 {l : Launch} {ad : Nat → Nat} {D : va_G} {cA : Nat → ClassId} {WW : Nat → qP} {QR : Option qA → qS → Prop} (S : qSnd l rm_M_maps ad D cA R_M b_M_maps 7 WW) (Q : qRet (none) b_M_maps WW QR) : qle (k_M_maps_194 QR WW) WW 194 :=
  S.aload_n d_M_maps_194 rfl <| S.gA fl_M_153 (by decide) d_M_maps_195 <| S.iload_n d_M_maps_198 rfl <| S.iak (by decide) d_M_maps_199 <| S.bipush d_M_maps_200 (by decide) <| S.icmp_ne d_M_maps_202 (by decide) (fun _ _ _ h => h) (s_M_maps_205 S Q)
set_option maxRecDepth 8000 in
theorem s_M_maps_185 {l : Launch} {ad : Nat → Nat} {D : va_G} {cA : Nat → ClassId} {WW : Nat → qP} {QR : Option qA → qS → Prop} (S : qSnd l rm_M_maps ad D cA R_M b_M_maps 7 WW) (Q : qRet (none) b_M_maps WW QR) : qle (k_M_maps_185 QR WW) WW 185 :=
  S.iload d_M_maps_185 <| S.aload_n d_M_maps_187 rfl <| S.gI fl_M_215 (by decide) d_M_maps_188 <| S.icmp_ge d_M_maps_191 (by decide) (s_M_maps_272 S Q) (s_M_maps_194 S Q)
set_option maxRecDepth 8000 in
theorem s_M_maps_182 {l : Launch} {ad : Nat → Nat} {D : va_G} {cA : Nat → ClassId} {WW : Nat → qP} {QR : Option qA → qS → Prop} (S : qSnd l rm_M_maps ad D cA R_M b_M_maps 7 WW) (Q : qRet (none) b_M_maps WW QR) : qle (k_M_maps_182 QR WW) WW 182 :=
  S.iconst d_M_maps_182 (by decide) <| S.istore d_M_maps_183 (by decide) <| (fun _ _ _ h => h)
set_option maxRecDepth 8000 in
theorem s_M_maps_176 {l : Launch} {ad : Nat → Nat} {D : va_G} {cA : Nat → ClassId} {WW : Nat → qP} {QR : Option qA → qS → Prop} (S : qSnd l rm_M_maps ad D cA R_M b_M_maps 7 WW) (Q : qRet (none) b_M_maps WW QR) : qle (k_M_maps_176 QR WW) WW 176 :=
  S.aload_n d_M_maps_176 rfl <| S.iload_n d_M_maps_177 rfl <| sc_M_388 S (by decide) d_M_maps_178 <| Q.2.2.2 rfl _ d_M_maps_181
set_option maxRecDepth 8000 in
theorem s_M_maps_110 {l : Launch} {ad : Nat → Nat} {D : va_G} {cA : Nat → ClassId} {WW : Nat → qP} {QR : Option qA → qS → Prop} (S : qSnd l rm_M_maps ad D cA R_M b_M_maps 7 WW) (Q : qRet (none) b_M_maps WW QR) : qle (k_M_maps_110 QR WW) WW 110 :=
  S.aload_n d_M_maps_110 rfl <| S.gA fl_M_144 (by decide) d_M_maps_111 <| S.iload_n d_M_maps_114 rfl <| S.dup2 d_M_maps_115 <| S.iak (by decide) d_M_maps_116 <| S.iconst d_M_maps_117 (by decide) <| S.iadd d_M_maps_118 <| S.isk (by decide) d_M_maps_119 <| S.aload_n d_M_maps_120 rfl <| S.iload d_M_maps_121 <| sc_M_382 S (by decide) d_M_maps_123 <| S.istore d_M_maps_126 (by decide) <| S.aload_n d_M_maps_128 rfl <| S.aload_n d_M_maps_129 rfl <| S.gA fl_M_9 (by decide) d_M_maps_130 <| S.iload d_M_maps_133 <| S.jak (by decide) d_M_maps_135 <| S.pJ fl_M_234 (by decide) (by decide +kernel) d_M_maps_136 <| S.aload_n d_M_maps_139 rfl <| S.aload_n d_M_maps_140 rfl <| S.gA fl_M_13 (by decide) d_M_maps_141 <| S.pR fl_M_250 (by decide) (by decide +kernel) d_M_maps_144 <| S.aload_n d_M_maps_147 rfl <| S.iload d_M_maps_148 <| S.pI fl_M_241 (by decide) (by decide +kernel) d_M_maps_150 <| S.aload_n d_M_maps_153 rfl <| S.iload d_M_maps_154 <| S.iconst d_M_maps_156 (by decide) <| S.iadd d_M_maps_157 <| S.pI fl_M_244 (by decide) (by decide +kernel) d_M_maps_158 <| S.aload_n d_M_maps_161 rfl <| S.aload_n d_M_maps_162 rfl <| sc_M_256 S (by decide) d_M_maps_163 <| S.iconst d_M_maps_166 (by decide) <| S.imul d_M_maps_167 <| S.iconst d_M_maps_168 (by decide) <| S.iadd d_M_maps_169 <| sc_M_385 S (by decide) d_M_maps_170 <| S.if_ne d_M_maps_173 (by decide) (s_M_maps_182 S Q) (s_M_maps_176 S Q)
set_option maxRecDepth 8000 in
theorem s_M_maps_98 {l : Launch} {ad : Nat → Nat} {D : va_G} {cA : Nat → ClassId} {WW : Nat → qP} {QR : Option qA → qS → Prop} (S : qSnd l rm_M_maps ad D cA R_M b_M_maps 7 WW) (Q : qRet (none) b_M_maps WW QR) : qle (k_M_maps_98 QR WW) WW 98 :=
  S.aload_n d_M_maps_98 rfl <| S.iload_n d_M_maps_99 rfl <| sc_M_376 S (by decide) d_M_maps_100 <| S.aload_n d_M_maps_103 rfl <| S.iload_n d_M_maps_104 rfl <| S.iload_n d_M_maps_105 rfl <| sc_M_379 S (by decide) d_M_maps_106 <| Q.2.2.2 rfl _ d_M_maps_109
set_option maxRecDepth 8000 in
theorem s_M_maps_92 {l : Launch} {ad : Nat → Nat} {D : va_G} {cA : Nat → ClassId} {WW : Nat → qP} {QR : Option qA → qS → Prop} (S : qSnd l rm_M_maps ad D cA R_M b_M_maps 7 WW) (Q : qRet (none) b_M_maps WW QR) : qle (k_M_maps_92 QR WW) WW 92 :=
  S.iload d_M_maps_92 <| S.iload_n d_M_maps_94 rfl <| S.icmp_lt d_M_maps_95 (by decide) (s_M_maps_110 S Q) (s_M_maps_98 S Q)
set_option maxRecDepth 8000 in
theorem s_M_maps_40 {l : Launch} {ad : Nat → Nat} {D : va_G} {cA : Nat → ClassId} {WW : Nat → qP} {QR : Option qA → qS → Prop} (S : qSnd l rm_M_maps ad D cA R_M b_M_maps 7 WW) (Q : qRet (none) b_M_maps WW QR) : qle (k_M_maps_40 QR WW) WW 40 :=
  S.aload_n d_M_maps_40 rfl <| S.aload_n d_M_maps_41 rfl <| S.gA fl_M_39 (by decide) d_M_maps_42 <| S.aload_n d_M_maps_45 rfl <| sc_M_256 S (by decide) d_M_maps_46 <| S.iak (by decide) d_M_maps_49 <| sc_M_260 S (by decide) d_M_maps_50 <| S.aload_n d_M_maps_53 rfl <| S.aload_n d_M_maps_54 rfl <| S.gA fl_M_42 (by decide) d_M_maps_55 <| S.aload_n d_M_maps_58 rfl <| sc_M_256 S (by decide) d_M_maps_59 <| S.iak (by decide) d_M_maps_62 <| sc_M_260 S (by decide) d_M_maps_63 <| S.iadd d_M_maps_66 <| S.istore_n d_M_maps_67 rfl (by decide) <| S.iload_n d_M_maps_68 rfl <| S.bipush d_M_maps_69 (by decide) <| S.imul d_M_maps_71 <| S.aload_n d_M_maps_72 rfl <| S.gA fl_M_144 (by decide) d_M_maps_73 <| S.iload_n d_M_maps_76 rfl <| S.iak (by decide) d_M_maps_77 <| S.iadd d_M_maps_78 <| S.istore d_M_maps_79 (by decide) <| S.aload_n d_M_maps_81 rfl <| S.gA fl_M_144 (by decide) d_M_maps_82 <| S.iload_n d_M_maps_85 rfl <| S.iak (by decide) d_M_maps_86 <| S.bipush d_M_maps_87 (by decide) <| S.icmp_eq d_M_maps_89 (by decide) (s_M_maps_98 S Q) (s_M_maps_92 S Q)
set_option maxRecDepth 8000 in
theorem s_M_maps_22 {l : Launch} {ad : Nat → Nat} {D : va_G} {cA : Nat → ClassId} {WW : Nat → qP} {QR : Option qA → qS → Prop} (S : qSnd l rm_M_maps ad D cA R_M b_M_maps 7 WW) (Q : qRet (none) b_M_maps WW QR) : qle (k_M_maps_22 QR WW) WW 22 :=
  S.aload_n d_M_maps_22 rfl <| S.iload_n d_M_maps_23 rfl <| S.iload_n d_M_maps_24 rfl <| S.aload_n d_M_maps_25 rfl <| S.gA fl_M_123 (by decide) d_M_maps_26 <| S.iload_n d_M_maps_29 rfl <| S.bipush d_M_maps_30 (by decide) <| S.imul d_M_maps_32 <| S.iload_n d_M_maps_33 rfl <| S.iadd d_M_maps_34 <| S.iak (by decide) d_M_maps_35 <| sc_M_372 S (by decide) d_M_maps_36 <| Q.2.2.2 rfl _ d_M_maps_39
set_option maxRecDepth 8000 in
theorem s_M_maps_0 {l : Launch} {ad : Nat → Nat} {D : va_G} {cA : Nat → ClassId} {WW : Nat → qP} {QR : Option qA → qS → Prop} (S : qSnd l rm_M_maps ad D cA R_M b_M_maps 7 WW) (Q : qRet (none) b_M_maps WW QR) : qle (k_M_maps_0 QR WW) WW 0 :=
  S.aload_n d_M_maps_0 rfl <| S.gA fl_M_138 (by decide) d_M_maps_1 <| S.iload_n d_M_maps_4 rfl <| S.iak (by decide) d_M_maps_5 <| S.istore_n d_M_maps_6 rfl (by decide) <| S.aload_n d_M_maps_7 rfl <| S.gA fl_M_120 (by decide) d_M_maps_8 <| S.iload_n d_M_maps_11 rfl <| S.bipush d_M_maps_12 (by decide) <| S.imul d_M_maps_14 <| S.iload_n d_M_maps_15 rfl <| S.iadd d_M_maps_16 <| S.iak (by decide) d_M_maps_17 <| S.iconst d_M_maps_18 (by decide) <| S.icmp_eq d_M_maps_19 (by decide) (s_M_maps_40 S Q) (s_M_maps_22 S Q)
theorem F_mp.rf (w : Int) (σ : qS) : F_mp w σ σ := ⟨fun _ _ _ => rfl, fun _ _ => rfl, fun _ _ => ⟨rfl, rfl⟩, fun _ _ => ⟨rfl, rfl, rfl⟩, fun _ _ => rfl, fun _ _ => ⟨rfl, rfl⟩⟩
theorem F_mp.tr {w : Int} {σ σ1 σ2 : qS} (h : F_mp w σ σ1) (h' : F_mp w σ1 σ2) : F_mp w σ σ2 := by
  obtain ⟨a1, a2, a3, a4, a5, a6⟩ := h
  obtain ⟨b1, b2, b3, b4, b5, b6⟩ := h'
  exact ⟨fun k h1 h2 => (b1 k h1 h2).trans (a1 k h1 h2), fun j hj => (b2 j hj).trans (a2 j hj), fun j hj => ⟨(b3 j hj).1.trans (a3 j hj).1, (b3 j hj).2.trans (a3 j hj).2⟩, fun j hj => ⟨(b4 j hj).1.trans (a4 j hj).1, (b4 j hj).2.1.trans (a4 j hj).2.1, (b4 j hj).2.2.trans (a4 j hj).2.2⟩, fun j hj => (b5 j hj).trans (a5 j hj), fun j hj => ⟨(b6 j hj).1.trans (a6 j hj).1, (b6 j hj).2.trans (a6 j hj).2⟩⟩
theorem F_spl.mp {w : Int} {σ σ' : qS} (h : F_spl w σ σ') : F_mp w σ σ' := by
  obtain ⟨a1, a2, a3, a4, a5⟩ := h
  exact ⟨fun k _ h2 => a1 k (fun e => h2 (List.mem_cons_of_mem _ e)), fun j _ => by rw [a1 _ (by decide)], a2, a3, a4, a5⟩
theorem F_mc.mp {w : Int} {σ σ' : qS} (h : F_mc σ σ') : F_mp w σ σ' := by
  refine ⟨fun k h1 _ => h k (fun e => h1 (by unfold SC; simp only [List.mem_cons, List.not_mem_nil, or_false] at e ⊢; omega)), fun j _ => by rw [h _ (by decide)], fun j _ => by rw [h _ (by decide), h _ (by decide)]; exact ⟨rfl, rfl⟩, fun j _ => by rw [h _ (by decide), h _ (by decide), h _ (by decide)]; exact ⟨rfl, rfl, rfl⟩, fun j _ => by rw [h _ (by decide)], fun j _ => by rw [h _ (by decide), h _ (by decide)]; exact ⟨rfl, rfl⟩⟩
def MI (σ0 σ : qS) (w : Int) (em : List Pr) (k : Nat) : Prop := F_mp w σ0 σ ∧ Em σ em ∧ σ 64 w = σ0 64 w + 1 ∧ ∀ E, BF σ0 w E → (E.length : Int) ≤ 4 * σ0 64 w → BF σ w (E ++ em.take k)
theorem v_M_maps_210 {l : Launch} {ad : Nat → Nat} {D : va_G} {cA : Nat → ClassId} {WW : Nat → qP} {QR : Option qA → qS → Prop} (S : qSnd l rm_M_maps ad D cA R_M b_M_maps 7 WW) (Q : qRet (none) b_M_maps WW QR) (σ0 σ : qS) (w t al i r : Int) (em : List Pr) (k : Nat) (hw : 0 ≤ w ∧ w < 6) (hs : 0 ≤ σ0 64 w ∧ σ0 64 w < 16) (hE : ∃ E, BF σ0 w E ∧ (E.length : Int) ≤ 4 * σ0 64 w) (hk : k < em.length) (hM : MI σ0 σ w em k) (hb : σ 67 w < 8) (K : ∀ σ', MI σ0 σ' w em (k + 1) → WW 185 [] [some (.inr (.inr 900)), some (.inl w), some (.inl t), some (.inl al), some (.inl i), some (.inl r), some (.inl ((k + 1 : Nat) : Int))] σ') : WW 210 [] [some (.inr (.inr 900)), some (.inl w), some (.inl t), some (.inl al), some (.inl i), some (.inl r), some (.inl (k : Int))] σ := by
  obtain ⟨hF, hem, hst, hB⟩ := hM
  obtain ⟨E0, hE0, hE1⟩ := hE
  have hB0 := hB E0 hE0 hE1
  have hb0 := hB0.2.1.1
  have he4 := hem.2.1
  refine s_M_maps_210 S Q _ _ _ ?_
  simp only [k_M_maps_0, k_M_maps_22, k_M_maps_40, k_M_maps_92, k_M_maps_98, k_M_maps_110, k_M_maps_176, k_M_maps_182, k_M_maps_185, k_M_maps_194, k_M_maps_205, k_M_maps_210, k_M_maps_272, oc_M_call, oc_M_done, oc_M_job, oc_M_keep, oc_M_recordAt, oc_M_records, oc_M_spill, oc_M_traps, o_c, o_il, o_ll, o_al, o_is, o_as, o_ls, o_inc, o_bi, o_bid, o_bl, o_bld, o_sl, o_i2l, o_l2i, o_dup, o_dup2, o_pop, o_pop2, o_if, o_i2, o_l2, swg, o_sw, o_gI, o_gZ, o_gJ, o_gA, o_gR, o_pI, o_pZ, o_pJ, o_pR, o_ia, o_iak, o_zak, o_ja, o_jak, o_is_, o_isk, o_zsk, o_js_, o_jsk, o_len, o_ri, o_rz, o_rl, o_rv, ls1, ls2, lks, lkj, List.getD_cons_zero, List.getD_cons_succ, List.set_cons_zero, List.set_cons_succ, qcat, true_and, and_true, List.map_nil, List.map_cons, List.sum_nil, List.sum_cons, Nat.reduceAdd, Nat.reduceLeDiff, Nat.zero_le, Int.reduceAdd, Int.reduceNeg, Int.reduceEq, or_true, true_or, Decidable.not_not, false_implies, not_false_eq_true, true_implies, not_true_eq_false, Int.reduceLT, Int.reduceLE]
  have e1 : z_add (z_mul w 8) (σ 67 w) = w * 8 + σ 67 w := by unfold z_add z_mul; rw [w32_i (w * 8) (by omega) (by omega), w32_i _ (by omega) (by omega)]
  have e2 : z_add (σ 67 w) 1 = σ 67 w + 1 := by unfold z_add; exact w32_i _ (by omega) (by omega)
  simp (disch := omega) only [su_k]
  rw [e1, e2, w32_i _ (by omega) (by omega)]
  refine ⟨hw, by omega, by omega, hw, by omega, by omega, hw, hw, ?_⟩
  generalize hT : su (su (su σ 68 (w * 8 + σ 67 w) (σ 18 (k : Int))) 69 (w * 8 + σ 67 w) (σ 19 (k : Int))) 67 w (σ 67 w + 1) = σ'
  have f1 : ∀ q, q ∉ [68, 69, 67] → σ' q = σ q := fun q hq => by
    rw [← hT, su_k (by intro e; subst e; exact hq (by decide)), su_k (by intro e; subst e; exact hq (by decide)), su_k (by intro e; subst e; exact hq (by decide))]
  have f2 : ∀ j, j ≠ w * 8 + σ 67 w → σ' 68 j = σ 68 j ∧ σ' 69 j = σ 69 j := fun j hj => by
    rw [← hT]; simp (disch := omega) only [su_k]; rw [su_e, su_e, if_neg hj, if_neg hj, su_k (by decide)]; exact ⟨rfl, rfl⟩
  have hek : em[k]? = some em[k] := List.getElem?_eq_getElem hk
  obtain ⟨x1, x2⟩ := hem.2.2 k _ hek
  have f3 : σ' 68 (w * 8 + σ 67 w) = (em[k]).1 ∧ σ' 69 (w * 8 + σ 67 w) = (em[k]).2 := by
    rw [← hT]; simp (disch := omega) only [su_k, su_s]; exact ⟨x1, x2⟩
  have f4 : σ' 67 w = σ 67 w + 1 := by rw [← hT, su_s]
  refine K σ' ⟨hF.tr ⟨fun q h1 h2 => f1 q (fun e => h2 (by unfold MB; simp only [List.mem_cons, List.not_mem_nil, or_false] at e ⊢; omega)), fun j _ => by rw [f1 _ (by decide)], fun j hj => f2 j (by omega), fun j hj => ⟨by rw [f1 _ (by decide)], by rw [f1 _ (by decide)], by rw [← hT, su_e, if_neg hj]; simp (disch := omega) only [su_k]⟩, fun j _ => by rw [f1 _ (by decide)], fun j _ => by rw [f1 _ (by decide), f1 _ (by decide)]; exact ⟨rfl, rfl⟩⟩, Em_keep hem (by rw [f1 _ (by decide)]) (f1 _ (by decide)) (f1 _ (by decide)), by rw [f1 _ (by decide)]; exact hst, fun E g1 g2 => ?_⟩
  have hlE : (E ++ em.take k).length < 64 := by rw [List.length_append, List.length_take]; omega
  have := BF_pu (x := em[k]) (hB E g1 g2) hb hlE f1 f2 f3 f4
  rw [List.append_assoc, List.take_append_getElem hk] at this
  exact this
theorem v_M_maps_185 {l : Launch} {ad : Nat → Nat} {D : va_G} {cA : Nat → ClassId} {WW : Nat → qP} {QR : Option qA → qS → Prop} (S : qSnd l rm_M_maps ad D cA R_M b_M_maps 7 WW) (Q : qRet (none) b_M_maps WW QR) (σ0 : qS) (w t al i r : Int) (em : List Pr) (hw : 0 ≤ w ∧ w < 6) (hs : 0 ≤ σ0 64 w ∧ σ0 64 w < 16) (hE : ∃ E, BF σ0 w E ∧ (E.length : Int) ≤ 4 * σ0 64 w) (hq : ∀ σ', MI σ0 σ' w em em.length → QR none σ') :
    ∀ (m k : Nat) (σ : qS), k + m = em.length → MI σ0 σ w em k → WW 185 [] [some (.inr (.inr 900)), some (.inl w), some (.inl t), some (.inl al), some (.inl i), some (.inl r), some (.inl (k : Int))] σ := by
  intro m
  induction m with
  | zero =>
    intro k σ hk hM
    refine s_M_maps_185 S Q _ _ _ ?_
    simp only [k_M_maps_0, k_M_maps_22, k_M_maps_40, k_M_maps_92, k_M_maps_98, k_M_maps_110, k_M_maps_176, k_M_maps_182, k_M_maps_185, k_M_maps_194, k_M_maps_205, k_M_maps_210, k_M_maps_272, oc_M_call, oc_M_done, oc_M_job, oc_M_keep, oc_M_recordAt, oc_M_records, oc_M_spill, oc_M_traps, o_c, o_il, o_ll, o_al, o_is, o_as, o_ls, o_inc, o_bi, o_bid, o_bl, o_bld, o_sl, o_i2l, o_l2i, o_dup, o_dup2, o_pop, o_pop2, o_if, o_i2, o_l2, swg, o_sw, o_gI, o_gZ, o_gJ, o_gA, o_gR, o_pI, o_pZ, o_pJ, o_pR, o_ia, o_iak, o_zak, o_ja, o_jak, o_is_, o_isk, o_zsk, o_js_, o_jsk, o_len, o_ri, o_rz, o_rl, o_rv, ls1, ls2, lks, lkj, List.getD_cons_zero, List.getD_cons_succ, List.set_cons_zero, List.set_cons_succ, qcat, true_and, and_true, List.map_nil, List.map_cons, List.sum_nil, List.sum_cons, Nat.reduceAdd, Nat.reduceLeDiff, Nat.zero_le, Int.reduceAdd, Int.reduceNeg, Int.reduceEq, or_true, true_or, Decidable.not_not, false_implies, not_false_eq_true, true_implies, not_true_eq_false, Int.reduceLT, Int.reduceLE]
    rw [hM.2.1.1]
    refine ⟨fun _ => hq σ ?_, fun h => by omega⟩
    rw [show em.length = k by omega]; exact hM
  | succ m ih =>
    intro k σ hk hM
    refine s_M_maps_185 S Q _ _ _ ?_
    simp only [k_M_maps_0, k_M_maps_22, k_M_maps_40, k_M_maps_92, k_M_maps_98, k_M_maps_110, k_M_maps_176, k_M_maps_182, k_M_maps_185, k_M_maps_194, k_M_maps_205, k_M_maps_210, k_M_maps_272, oc_M_call, oc_M_done, oc_M_job, oc_M_keep, oc_M_recordAt, oc_M_records, oc_M_spill, oc_M_traps, o_c, o_il, o_ll, o_al, o_is, o_as, o_ls, o_inc, o_bi, o_bid, o_bl, o_bld, o_sl, o_i2l, o_l2i, o_dup, o_dup2, o_pop, o_pop2, o_if, o_i2, o_l2, swg, o_sw, o_gI, o_gZ, o_gJ, o_gA, o_gR, o_pI, o_pZ, o_pJ, o_pR, o_ia, o_iak, o_zak, o_ja, o_jak, o_is_, o_isk, o_zsk, o_js_, o_jsk, o_len, o_ri, o_rz, o_rl, o_rv, ls1, ls2, lks, lkj, List.getD_cons_zero, List.getD_cons_succ, List.set_cons_zero, List.set_cons_succ, qcat, true_and, and_true, List.map_nil, List.map_cons, List.sum_nil, List.sum_cons, Nat.reduceAdd, Nat.reduceLeDiff, Nat.zero_le, Int.reduceAdd, Int.reduceNeg, Int.reduceEq, or_true, true_or, Decidable.not_not, false_implies, not_false_eq_true, true_implies, not_true_eq_false, Int.reduceLT, Int.reduceLE]
    rw [hM.2.1.1]
    obtain ⟨E0, hE0, hE1⟩ := hE
    have hB0 := hM.2.2.2 E0 hE0 hE1
    refine ⟨fun h => by omega, fun _ => ⟨hw, fun hn8 => ?_, fun h8 => ⟨BF_P hB0 hw, fun σ1 q1 => ?_⟩⟩⟩
    · exact v_M_maps_210 S Q σ0 σ w t al i r em k hw hs ⟨E0, hE0, hE1⟩ (by omega) hM (by have := hB0.2.1.2; omega) (fun σ' hM' => ih (k + 1) σ' (by omega) hM')
    · have hF1 := q1.1
      refine v_M_maps_210 S Q σ0 σ1 w t al i r em k hw hs ⟨E0, hE0, hE1⟩ (by omega) ⟨hM.1.tr hF1.mp, Em_keep hM.2.1 (by rw [hF1.1 _ (by decide)]) (hF1.1 _ (by decide)) (hF1.1 _ (by decide)), by rw [hF1.1 _ (by decide)]; exact hM.2.2.1, fun E g1 g2 => (BF_sp (hM.2.2.2 E g1 g2) h8 q1).1⟩ (by rw [(BF_sp hB0 h8 q1).2]; omega) (fun σ' hM' => ih (k + 1) σ' (by omega) hM')
theorem jobok_keep {σ σ' : qS} (h : jobok σ) (hk : ∀ k, k ∈ [32, 29, 10, 11, 12, 13, 2] → σ' k = σ k) : jobok σ' ∧ jb σ' = jb σ ∧ all_ σ' = all_ σ ∧ spl σ' = spl σ := by
  have e1 := hk 32 (by decide)
  have e2 := hk 29 (by decide)
  have e3 := hk 10 (by decide)
  have e4 := hk 11 (by decide)
  have e5 := hk 12 (by decide)
  have e6 := hk 13 (by decide)
  have e7 := hk 2 (by decide)
  have ej : jb σ' = jb σ := by unfold jb; rw [e1, e2]
  have er : rc σ' = rc σ := by unfold rc; rw [e7]
  have ea : all_ σ' = all_ σ := by unfold all_; rw [ej, er, e3, e4]
  refine ⟨?_, ej, ea, by unfold spl; rw [ea]⟩
  unfold jobok; rw [ej, e1, e3, e4, e5, e6, e7]; exact h
theorem progok_keep {σ σ' : qS} {p : Int} (h : progok σ p) (h1 : σ' 8 = σ 8) (h2 : σ' 6 = σ 6) (h3 : σ' 7 = σ 7) : progok σ' p := by
  unfold progok; rw [h1, h2, h3]; exact h
theorem prg_keep {σ σ' : qS} (p : Int) (h1 : σ' 8 = σ 8) (h2 : σ' 6 = σ 6) (h3 : σ' 7 = σ 7) : prg σ' p = prg σ p := by
  unfold prg; rw [h1, h2, h3]
theorem cmb_keep {σ σ' : qS} (E : List Pr) (hj : jb σ' = jb σ) (h1 : σ' 8 = σ 8) (h2 : σ' 6 = σ 6) (h3 : σ' 7 = σ 7) : cmb σ' E = cmb σ E := by
  unfold cmb; rw [hj, h1, prg_keep _ h1 h2 h3]
theorem w_M_maps {l : Launch} {ad : Nat → Nat} {D : va_G} {cA : Nat → ClassId} {WW : Nat → qP} {QR : Option qA → qS → Prop} (S : qSnd l rm_M_maps ad D cA R_M b_M_maps 7 WW) (Q : qRet (none) b_M_maps WW QR) (a1 : Int) (σ : qS) (ha1 : r32 a1) (hσ : qoS σ) (h : P_M_maps a1 σ) (hq : ∀ σ', Q_M_maps a1 σ σ' → QR none σ') : WW 0 [] [some (.inr (.inr 900)), some (.inl a1), none, none, none, none, none] σ := by
  refine s_M_maps_0 S Q _ _ _ ?_
  simp only [k_M_maps_0, k_M_maps_22, k_M_maps_40, k_M_maps_92, k_M_maps_98, k_M_maps_110, k_M_maps_176, k_M_maps_182, k_M_maps_185, k_M_maps_194, k_M_maps_205, k_M_maps_210, k_M_maps_272, oc_M_call, oc_M_done, oc_M_job, oc_M_keep, oc_M_recordAt, oc_M_records, oc_M_spill, oc_M_traps, o_c, o_il, o_ll, o_al, o_is, o_as, o_ls, o_inc, o_bi, o_bid, o_bl, o_bld, o_sl, o_i2l, o_l2i, o_dup, o_dup2, o_pop, o_pop2, o_if, o_i2, o_l2, swg, o_sw, o_gI, o_gZ, o_gJ, o_gA, o_gR, o_pI, o_pZ, o_pJ, o_pR, o_ia, o_iak, o_zak, o_ja, o_jak, o_is_, o_isk, o_zsk, o_js_, o_jsk, o_len, o_ri, o_rz, o_rl, o_rv, ls1, ls2, lks, lkj, List.getD_cons_zero, List.getD_cons_succ, List.set_cons_zero, List.set_cons_succ, qcat, true_and, and_true, List.map_nil, List.map_cons, List.sum_nil, List.sum_cons, Nat.reduceAdd, Nat.reduceLeDiff, Nat.zero_le, Int.reduceAdd, Int.reduceNeg, Int.reduceEq, or_true, true_or, Decidable.not_not, false_implies, not_false_eq_true, true_implies, not_true_eq_false, Int.reduceLT, Int.reduceLE]
  have hp := h
  obtain ⟨hw, ht, hl, hj, hpm, hpc, hd, hst, hBE⟩ := h
  have e1 : z_add (z_mul a1 38) (σ 62 a1) = a1 * 38 + σ 62 a1 := by unfold z_add z_mul; rw [w32_i (a1 * 38) (by omega) (by omega), w32_i _ (by omega) (by omega)]
  rw [e1]
  have hA := all_b hj
  have fin : (σ 56 (a1 * 38 + σ 62 a1) = -1) → (σ 64 a1 = 16 ∨ all_ σ ≤ σ 62 a1 * 16 + σ 64 a1) → P_M_spill a1 σ ∧ ∀ σ', Q_M_spill a1 σ σ' → P_M_keep a1 (σ 62 a1) σ' ∧ ∀ σ3, Q_M_keep a1 (σ 62 a1) σ' σ3 → QR none σ3 := by
    intro hk hc
    obtain ⟨E, hE, hE2⟩ := hBE hk
    refine ⟨BF_P hE hw, fun σ1 q1 => ?_⟩
    have hK := BF_KP hE q1
    have f := q1.1
    have jk := jobok_keep hj (σ' := σ1) (fun k hk' => f.1 k (by simp only [List.mem_cons, List.not_mem_nil, or_false] at hk' ⊢; omega))
    have eL : σ1 8 = σ 8 := f.1 _ (by decide)
    have eO : σ1 6 = σ 6 := f.1 _ (by decide)
    have eA : σ1 7 = σ 7 := f.1 _ (by decide)
    have eD : σ1 55 = σ 55 := f.1 _ (by decide)
    refine ⟨⟨hw, ht, by unfold lok; rw [f.1 _ (by decide)]; exact hl, by rw [f.1 _ (by decide)]; exact hj.1, by rw [jk.2.1]; exact hj.2.1, by rw [jk.2.1]; exact progok_keep hpc eL eO eA, by rw [eD]; exact hd, E, hK⟩, fun σ3 q3 => hq _ (Or.inr (Or.inl ⟨hk, hc, fun E' hE' => ⟨σ1, f.mp, ?_⟩⟩))⟩
    have := q3 E' (BF_KP hE' q1)
    rw [cmb_keep E' jk.2.1 eL eO eA, eD] at this
    exact this
  refine ⟨hw, by omega, fun hk => ?_, fun hk => ⟨by omega, ⟨hl, hw⟩, fun σ1 q1 => hq _ (Or.inl ⟨hk, q1⟩)⟩⟩
  refine ⟨hj.1, fun r σ1 q1 => ?_⟩
  obtain ⟨e9, rfl⟩ := q1; replace e9 := e9.symm; subst e9
  refine ⟨hj.2.1, ⟨by have := hj.2.2.1; omega, hj.2.2.1.2⟩, fun r σ1 q1 => ?_⟩
  obtain ⟨e9, rfl⟩ := q1; replace e9 := e9.symm; subst e9
  refine ⟨hj.1, fun r σ1 q1 => ?_⟩
  obtain ⟨e9, rfl⟩ := q1; replace e9 := e9.symm; subst e9
  refine ⟨hj.2.1, hj.2.2.2.1, fun r σ1 q1 => ?_⟩
  obtain ⟨e9, rfl⟩ := q1; replace e9 := e9.symm; subst e9
  have e2 : z_add (rc σ (σ 10 (jb σ))) (rc σ (σ 11 (jb σ))) = all_ σ := by unfold z_add; exact w32_i (all_ σ) (by omega) (by omega)
  have e3 : z_add (z_mul (σ 62 a1) 16) (σ 64 a1) = σ 62 a1 * 16 + σ 64 a1 := by unfold z_add z_mul; rw [w32_i (σ 62 a1 * 16) (by omega) (by omega), w32_i _ (by omega) (by omega)]
  rw [e2, e3]
  refine ⟨hw, hw, fun h16 => fin hk (Or.inl h16), fun h16 => ⟨fun hlt => ?_, fun hge => fin hk (Or.inr (by omega))⟩⟩
  have e4 : z_add (σ 64 a1) 1 = σ 64 a1 + 1 := by unfold z_add; exact w32_i _ (by omega) (by omega)
  rw [e4]
  have jk := jobok_keep hj (σ' := su σ 64 a1 (σ 64 a1 + 1)) (fun k hk' => su_k (by simp only [List.mem_cons, List.not_mem_nil, or_false] at hk'; omega))
  refine ⟨hw, hw, ⟨jk.1, by omega, by rw [jk.2.2.1]; exact hlt⟩, fun r σ1 q1 => ?_⟩
  obtain ⟨e9, rfl⟩ := q1; replace e9 := e9.symm; subst e9
  have hr : rat (su σ 64 a1 (σ 64 a1 + 1)) (σ 62 a1 * 16 + σ 64 a1) = rat σ (σ 62 a1 * 16 + σ 64 a1) := by
    unfold rat; rw [jk.2.1]; simp (disch := omega) only [su_k]
  rw [hr]
  have hrb := rat_b hj (i := σ 62 a1 * 16 + σ 64 a1) (by omega) hlt
  have e5 : z_add (rat σ (σ 62 a1 * 16 + σ 64 a1)) 1 = rat σ (σ 62 a1 * 16 + σ 64 a1) + 1 := by unfold z_add; exact w32_i _ (by omega) (by omega)
  rw [e5]
  generalize hS : su σ 64 a1 (σ 64 a1 + 1) = σs at *
  have hsk : ∀ k, k ≠ 64 → σs k = σ k := fun k hk' => by rw [← hS]; exact su_k hk'
  generalize hR : rat σ (σ 62 a1 * 16 + σ 64 a1) = rr at *
  show (0 ≤ rr ∧ rr < 4800) ∧ P_M_job (mcon σs rr) ∧ ∀ r3 σ3, Q_M_job (mcon σs rr) r3 σ3 → _
  have mk : ∀ k, k ∉ [22, 23, 24, 25] → mcon σs rr k = σs k := fun k hk' => by
    unfold mcon
    rw [su_k (by intro e; subst e; exact hk' (by decide)), su_k (by intro e; subst e; exact hk' (by decide)), su_k (by intro e; subst e; exact hk' (by decide)), su_k (by intro e; subst e; exact hk' (by decide))]
  refine ⟨hrb, by rw [show P_M_job (mcon σs rr) = (0 ≤ mcon σs rr 32 0 ∧ mcon σs rr 32 0 < 8) from rfl, mk _ (by decide), hsk _ (by decide)]; exact hj.1, fun r3 σ3 q3 => ?_⟩
  obtain ⟨e9, rfl⟩ := q3; replace e9 := e9.symm; subst e9
  have ejb : jb (mcon σs rr) = jb σ := by unfold jb; rw [mk _ (by decide), mk _ (by decide), hsk _ (by decide), hsk _ (by decide)]
  have e6 : z_add (z_mul (jb (mcon σs rr)) 3) 0 = jb σ * 3 := by rw [ejb]; unfold z_add z_mul; have := hj.2.1; rw [w32_i (jb σ * 3) (by omega) (by omega), w32_i _ (by omega) (by omega)]; omega
  rw [e6]
  refine ⟨⟨progok_keep hpm (by rw [mk _ (by decide), hsk _ (by decide)]) (by rw [mk _ (by decide), hsk _ (by decide)]) (by rw [mk _ (by decide), hsk _ (by decide)]), Or.inl ⟨?_, ?_⟩, ?_⟩, fun r4 σ4 q4 => ?_⟩
  · unfold mcon; simp (disch := omega) only [su_k, su_s]
  · unfold mcon; simp (disch := omega) only [su_k, su_s]; omega
  · unfold mcon; simp (disch := omega) only [su_k, su_s]; omega
  obtain ⟨c1, c2⟩ := q4
  have c2 : callres (scall (mcon σs rr) (jb σ * 3)) r4 σ4 := c2
  rw [scall_mcon, prg_keep (σ := σ) _ (hsk _ (by decide)) (hsk _ (by decide)) (hsk _ (by decide)), show (jb σ * 3) % 3 = 0 by omega, hsk _ (by decide), hsk _ (by decide)] at c2
  have hmr : mrec σ (σ 62 a1 * 16 + σ 64 a1) = lcall (prg σ (jb σ * 3)) 0 (σ 0 rr) [σ 1 rr] := by unfold mrec; rw [hR]
  have hFc : F_mc σs σ4 := fun k hk' => by
    rw [c1 k (fun e => hk' (by simp only [List.mem_cons, List.not_mem_nil, or_false] at e ⊢; omega)), mk k (fun e => hk' (by simp only [List.mem_cons, List.not_mem_nil, or_false] at e ⊢; omega))]
  have hFs : F_mp a1 σ σs := ⟨fun k _ h2 => hsk k (by intro e; subst e; exact h2 List.mem_cons_self), fun j hj' => by rw [← hS, su_e, if_neg hj'], fun j _ => by rw [hsk _ (by decide), hsk _ (by decide)]; exact ⟨rfl, rfl⟩, fun j _ => by rw [hsk _ (by decide), hsk _ (by decide), hsk _ (by decide)]; exact ⟨rfl, rfl, rfl⟩, fun j _ => by rw [hsk _ (by decide)], fun j _ => by rw [hsk _ (by decide), hsk _ (by decide)]; exact ⟨rfl, rfl⟩⟩
  have hF4 : F_mp a1 σ σ4 := hFs.tr hFc.mp
  have hst4 : σ4 64 a1 = σ 64 a1 + 1 := by rw [hFc _ (by decide), ← hS, su_s]
  cases hcl : lcall (prg σ (jb σ * 3)) 0 (σ 0 rr) [σ 1 rr] with
  | none =>
    rw [hcl] at c2
    have hr0 : r4 = 0 := c2
    refine ⟨fun h => absurd hr0 h, fun _ => ⟨⟨by unfold lok; rw [hFc _ (by decide), hsk _ (by decide)]; exact hl, hw⟩, fun σ5 q5 => hq _ (Or.inr (Or.inr ⟨hk, ⟨by omega, hlt⟩, Or.inl ⟨by rw [hmr, hcl], σ4, hF4, q5⟩⟩))⟩⟩
  | some em =>
    rw [hcl] at c2
    obtain ⟨hr1, hem⟩ : r4 = 1 ∧ Em σ4 em := c2
    refine ⟨fun _ => ?_, fun h => by omega⟩
    refine v_M_maps_185 S Q σ a1 _ _ _ _ em hw (by omega) (hBE hk) (fun σ' hM => hq _ (Or.inr (Or.inr ⟨hk, ⟨by omega, hlt⟩, Or.inr ⟨em, by rw [hmr, hcl], hM.1, hM.2.2.1, fun E g1 g2 => ?_⟩⟩))) em.length 0 σ4 (by omega) ⟨hF4, hem, hst4, fun E g1 g2 => ?_⟩
    · have := hM.2.2.2 E g1 g2
      rw [List.take_length] at this
      refine ⟨this, ?_⟩
      have he4 := hem.2.1
      rw [List.length_append, hM.2.2.1]; omega
    · simp only [List.take_zero, List.append_nil]
      have fb : ∀ k, k ∈ MB → σ4 k = σ k := fun k hk' => by
        rw [hFc k (by unfold MB at hk'; simp only [List.mem_cons, List.not_mem_nil, or_false] at hk' ⊢; omega), hsk k (by unfold MB at hk'; simp only [List.mem_cons, List.not_mem_nil, or_false] at hk' ⊢; omega)]
      obtain ⟨h1, h2, h3, h4, h5, h6, h7, h8⟩ := g1
      refine ⟨by rw [fb _ (by decide)]; exact h1, by rw [fb _ (by decide)]; exact h2, by rw [fb _ (by decide), fb 73 (by decide)]; exact h3, by rw [fb 73 (by decide), fb 67 (by decide)]; exact h4, h5, fun i hi => by rw [fb 73 (by decide)] at hi; rw [fb 74 (by decide)]; exact h6 i hi, fun i hi => ?_, ?_⟩
      · rw [fb 73 (by decide)] at hi
        rw [row_keep (σ := σ) (fun j _ _ => by rw [fb _ (by decide), fb _ (by decide)]; exact ⟨rfl, rfl⟩)]; exact h7 i hi
      · rw [fb 73 (by decide), fb 67 (by decide), row_keep (σ := σ) (fun j _ _ => by rw [fb _ (by decide), fb _ (by decide)]; exact ⟨rfl, rfl⟩)]; exact h8
theorem c_M_maps (l : Launch) (ad : Nat → Nat) (D : va_G) (cA : Nat → ClassId) : qC l ad D cA y_M_maps (Cond.code y_M_maps b_M_maps 7 (none) :: lw_g) rm_M_maps pre_M_maps post_M_maps := by
  refine qC_of (own := R_M) (by decide) rfl ⟨rfl, rfl⟩ ?_ ?_
  · intro av σ h; unfold pre_M_maps at h; split at h
    · simp [qen]
    · exact h.elim
  · intro WW QR S Q av σ hav hσ h hq; unfold pre_M_maps at h; split at h
    next o a1 =>
      obtain ⟨rfl, h⟩ := h
      exact w_M_maps S Q a1 σ (hav _ (List.mem_of_getElem? (i := 1) rfl)) hσ h (fun σ' h' => hq _ σ' h')
    next => exact h.elim

