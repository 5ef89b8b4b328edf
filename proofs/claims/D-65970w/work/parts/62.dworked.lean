def gmapf (f : Int → List Int → Option (List Pr)) (P : Int → Bool) : Nat → List Pr → Option (List Pr)
  | 0, _ => some []
  | _ + 1, [] => some []
  | n + 1, x :: t => if P x.1 then (match f x.1 (x.2 :: (t.takeWhile (fun p => p.1 == x.1)).map (fun p => p.2)) with
    | none => none
    | some e => (gmapf f P n (t.dropWhile (fun p => p.1 == x.1))).map (fun b => e ++ b)) else gmapf f P n (t.dropWhile (fun p => p.1 == x.1))
theorem gmapf_fuel {f : Int → List Int → Option (List Pr)} {P : Int → Bool} : ∀ (n m : Nat) (l : List Pr), l.length ≤ n → l.length ≤ m → gmapf f P n l = gmapf f P m l
  | 0, 0, l, _, _ => rfl
  | 0, m + 1, l, h, _ => by have : l = [] := List.eq_nil_of_length_eq_zero (by omega); subst this; rfl
  | n + 1, 0, l, _, h => by have : l = [] := List.eq_nil_of_length_eq_zero (by omega); subst this; rfl
  | n + 1, m + 1, [], _, _ => rfl
  | n + 1, m + 1, x :: t, h1, h2 => by
    have hd : (t.dropWhile (fun p => p.1 == x.1)).length ≤ t.length := List.Sublist.length_le (List.dropWhile_sublist _)
    simp only [List.length_cons] at h1 h2
    simp only [gmapf, gmapf_fuel n m (t.dropWhile (fun p => p.1 == x.1)) (by omega) (by omega)]
theorem grp_stepf {σ : qS} {kk kv : Nat} {k : Int} {n : Nat} (f : Int → List Int → Option (List Pr)) (P : Int → Bool) (q : Nat) (hq : q = ((row σ kk kv (k + 1) n).takeWhile (fun p => p.1 == σ kk k)).length) : q ≤ n ∧ gmapf f P (n + 1) (row σ kk kv k (n + 1)) = (if P (σ kk k) then (match f (σ kk k) (vls (σ kv) k (q + 1)) with
    | none => none
    | some e => (gmapf f P (n - q) (row σ kk kv (k + 1 + q) (n - q))).map (fun b => e ++ b)) else gmapf f P (n - q) (row σ kk kv (k + 1 + q) (n - q))) := by
  have hle : q ≤ n := by
    rw [hq]
    have := List.Sublist.length_le (List.takeWhile_sublist (l := row σ kk kv (k + 1) n) (fun p => p.1 == σ kk k))
    rw [row_len] at this; exact this
  refine ⟨hle, ?_⟩
  rw [row_c, gmapf]
  have e1 : (row σ kk kv (k + 1) n).takeWhile (fun p => p.1 == σ kk k) = row σ kk kv (k + 1) q := by rw [tw_take, ← hq, row_take hle]
  have e2 : (row σ kk kv (k + 1) n).dropWhile (fun p => p.1 == σ kk k) = row σ kk kv (k + 1 + q) (n - q) := by rw [dw_drop, ← hq, row_drop hle]
  simp only
  rw [e1, e2, row_snd, vls_s, gmapf_fuel n (n - q) _ (by rw [row_len]; omega) (by rw [row_len]; omega)]
def dsps (σ : qS) (j s : Int) (m : Nat) : List (Option (List Pr)) := (List.range m).map (fun i : Nat => dspl σ j (s + 16 * i) (if dall σ j ≤ s + 16 * i + 16 then dall σ j else s + 16 * i + 16))
theorem dsps_s (σ : qS) (j s : Int) (m : Nat) : dsps σ j s (m + 1) = dspl σ j s (if dall σ j ≤ s + 16 then dall σ j else s + 16) :: dsps σ j (s + 16) m := by
  unfold dsps
  rw [List.range_succ_eq_map, List.map_cons, List.map_map]
  congr 1
  · simp
  · apply List.map_congr_left
    intro i _
    show dspl _ _ _ _ = dspl _ _ _ _
    have e : s + 16 * ((i + 1 : Nat) : Int) = s + 16 + 16 * i := by omega
    show dspl σ j (s + 16 * ((i + 1 : Nat) : Int)) _ = _
    rw [e]
def dprs (σ : qS) (j : Int) : Option (List Pr) := ocat (dsps σ j 0 ((dall σ j + 15) / 16).toNat)
def dpar (σ : qS) (j : Int) (L : List Pr) (p : Nat) : Option (List Pr) := gmapf (fun k vs => lcall (dprg σ (3 * j + 2)) 2 k vs) (fun k => k % σ 111 j == p) L.length (srt L)
def dred (σ : qS) (j : Int) (L : List Pr) (p m : Nat) : Option (List Pr) := ocat ((List.range m).map (fun i => dpar σ j L (p + i)))
theorem dred_s (σ : qS) (j : Int) (L : List Pr) (p m : Nat) : dred σ j L p (m + 1) = (dpar σ j L p).bind (fun a => (dred σ j L (p + 1) m).map (fun b => a ++ b)) := by
  unfold dred
  rw [List.range_succ_eq_map, List.map_cons, List.map_map]
  have e : List.map ((fun i => dpar σ j L (p + i)) ∘ Nat.succ) (List.range m) = List.map (fun i => dpar σ j L (p + 1 + i)) (List.range m) := by
    apply List.map_congr_left
    intro i _
    show dpar _ _ _ (p + (i + 1)) = _
    congr 1
    omega
  rw [e, Nat.add_zero]
  cases dpar σ j L p with
  | none => rfl
  | some a => rfl
def dout (σ : qS) (j : Int) : Option (List Pr) := match dprs σ j with
  | none => none
  | some L => if 1000 < L.length then none else (match dred σ j L 0 (σ 111 j).toNat with
    | none => none
    | some O => if 300 < O.length then none else some O)
def F_dwk (σ σ' : qS) : Prop := ∀ q, q ∉ [126, 127, 128, 129, 131, 120, 121, 122, 123, 130, 124, 125] → σ' q = σ q
def F_dwo (σ σ' : qS) : Prop := ∀ q, q ∉ [126, 127, 128, 129, 131, 120, 121, 122, 123, 130, 124, 125, 102, 100, 101] → σ' q = σ q
def P_D_worked (j : Int) (σ : qS) : Prop := djbk σ j ∧ (dprok σ (3 * j) ∧ dprok σ (3 * j + 1) ∧ dprok σ (3 * j + 2)) ∧ (1 ≤ σ 111 j ∧ σ 111 j ≤ 6) ∧ (0 ≤ σ 110 j ∧ σ 110 j < 16)
def dwo (σ : qS) (f : Int) (O : List Pr) (σ' : qS) : Prop := F_dwo σ σ' ∧ (∀ i, σ' 102 i = if i = f then (O.length : Int) else σ 102 i) ∧ (∀ i, (i < 300 * f ∨ 300 * f + O.length ≤ i) → σ' 100 i = σ 100 i ∧ σ' 101 i = σ 101 i) ∧ row σ' 100 101 (300 * f) O.length = O
def Q_D_worked (j : Int) (σ : qS) (r : Int) (σ' : qS) : Prop := match dout σ j with
  | none => r = 0 ∧ F_dwk σ σ'
  | some O => r = 1 ∧ O.length ≤ 300 ∧ dwo σ (σ 110 j) O σ'
def pre_D_worked (av : List qA) (σ : qS) : Prop := match av with
  | [.inr (.inr o), .inl a1] => o = 901 ∧ P_D_worked a1 σ
  | _ => False
def post_D_worked (av : List qA) (σ : qS) (r : Option qA) (σ' : qS) : Prop := match av, r with
  | [_, .inl a1], some (.inl r) => Q_D_worked a1 σ r σ'
  | _, _ => False
def oc_D_worked (K : qP) : qP := fun st ls σ => match st with
  | .inl a1 :: .inr (.inr o) :: st => o = 901 ∧ (st.map qcat).sum ≤ 8 ∧ P_D_worked a1 σ ∧ ∀ (r : Int) (σ' : qS), Q_D_worked a1 σ r σ' → K (.inl r :: st) ls σ'
  | _ => False
def rm_D_worked : Room := { frames := 2, cells := 0, slots := 0, locals := 67 }
theorem fl_D_69 : qF R_D 901 1 32 100 R_D F_D 69 24 := ⟨Or.inr ⟨rfl, rfl, rfl, rfl, rfl, rfl⟩, by decide, lw_at 813 (by decide +kernel) rfl⟩
theorem fl_D_72 : qF R_D 901 1 32 100 R_D F_D 72 25 := ⟨Or.inr ⟨rfl, rfl, rfl, rfl, rfl, rfl⟩, by decide, lw_at 814 (by decide +kernel) rfl⟩
theorem sc_D_115 {l : Launch} {R : Room} {ad : Nat → Nat} {D : va_G} {cA : Nat → ClassId} {cc : ByteArray} {nL : Nat} {WW : Nat → qP} (S : qSnd l R ad D cA R_D cc nL WW) (hR : rm_D_mapped.frames + 1 ≤ R.frames ∧ 8 + (8 + 11) + rm_D_mapped.locals ≤ R.locals) {K : qP} {pc : Nat} (d : decode cc pc = .ok (.invokevirtual 115, 3)) (h : qle K WW (pc + 3)) : qle (oc_D_mapped K) WW pc := by
  intro st ls σ k
  refine S.callV (o := 901) (ci := 1) (N := 32) (base := 100) (C := R_D) (T := F_D) (n := 3) (pre := pre_D_mapped) (post := post_D_mapped) (Or.inr ⟨rfl, rfl, rfl, rfl, rfl, rfl⟩) ⟨lw_at 957 (by decide +kernel) rfl, lw_at 954 (by decide +kernel) rfl, lw_at 60 (by decide +kernel) rfl, by decide, by decide, by decide +kernel⟩ ⟨lw_at 956 (by decide +kernel) rfl, lw_at 55 (by decide +kernel) rfl⟩ ⟨rfl, rfl⟩ hR (c_D_mapped l ad D cA) ?_ d h st ls σ ?_
  · intro av σ h; unfold pre_D_mapped at h; split at h
    · obtain ⟨rfl, h⟩ := h; exact ⟨_, rfl⟩
    · exact h.elim
  · unfold oc_D_mapped at k
    split at k
    next a3 a2 a1 o st =>
      obtain ⟨rfl, hs, hp, k⟩ := k
      refine ⟨[.inr (.inr 901), .inl a1, .inl a2, .inl a3], st, rfl, rfl, hs, ⟨rfl, hp⟩, fun r σ' hq => ?_⟩
      unfold post_D_mapped at hq
      split at hq
      next h1 =>
        cases h1
        exact k _ _ hq
      next => exact hq.elim
    next => exact k.elim
theorem sc_D_119 {l : Launch} {R : Room} {ad : Nat → Nat} {D : va_G} {cA : Nat → ClassId} {cc : ByteArray} {nL : Nat} {WW : Nat → qP} (S : qSnd l R ad D cA R_D cc nL WW) (hR : rm_J_floorMod.frames + 1 ≤ R.frames ∧ 8 + (6 + 11) + rm_J_floorMod.locals ≤ R.locals) {K : qP} {pc : Nat} (d : decode cc pc = .ok (.invokestatic 119, 3)) (h : qle K WW (pc + 3)) : qle (oc_J_floorMod K) WW pc := by
  intro st ls σ k
  refine S.callS (n := 2) (pre := pre_J_floorMod) (post := post_J_floorMod) ⟨lw_at 971 (by decide +kernel) rfl, lw_at 969 (by decide +kernel) rfl, lw_at 68 (by decide +kernel) rfl, by decide, by decide, by decide +kernel⟩ (lw_at 970 (by decide +kernel) rfl) ⟨rfl, rfl⟩ hR (c_J_floorMod l ad D cA) d h st ls σ ?_
  unfold oc_J_floorMod at k
  split at k
  next a2 a1 st =>
    obtain ⟨hs, hp, k⟩ := k
    refine ⟨[.inr (.inl a1), .inr (.inl a2)], st, rfl, rfl, hs, hp, fun r σ' hq => ?_⟩
    unfold post_J_floorMod at hq
    split at hq
    next h1 =>
      cases h1
      exact k _ _ hq
    next => exact hq.elim
  next => exact k.elim
theorem sc_D_109 {l : Launch} {R : Room} {ad : Nat → Nat} {D : va_G} {cA : Nat → ClassId} {cc : ByteArray} {nL : Nat} {WW : Nat → qP} (S : qSnd l R ad D cA R_D cc nL WW) (hR : rm_J_min.frames + 1 ≤ R.frames ∧ 8 + (2 + 11) + rm_J_min.locals ≤ R.locals) {K : qP} {pc : Nat} (d : decode cc pc = .ok (.invokestatic 109, 3)) (h : qle K WW (pc + 3)) : qle (oc_J_min K) WW pc := by
  intro st ls σ k
  refine S.callS (n := 2) (pre := pre_J_min) (post := post_J_min) ⟨lw_at 953 (by decide +kernel) rfl, lw_at 951 (by decide +kernel) rfl, lw_at 68 (by decide +kernel) rfl, by decide, by decide, by decide +kernel⟩ (lw_at 952 (by decide +kernel) rfl) ⟨rfl, rfl⟩ hR (c_J_min l ad D cA) d h st ls σ ?_
  unfold oc_J_min at k
  split at k
  next a2 a1 st =>
    obtain ⟨hs, hp, k⟩ := k
    refine ⟨[.inl a1, .inl a2], st, rfl, rfl, hs, hp, fun r σ' hq => ?_⟩
    unfold post_J_min at hq
    split at hq
    next h1 =>
      cases h1
      exact k _ _ hq
    next => exact hq.elim
  next => exact k.elim
def k_D_worked_295 (QR : Option qA → qS → Prop) (H : Nat → qP) : qP :=
  o_al 0 <| o_gA 901 110 <| o_il 1 <| o_iak 110 8 <| o_is 4 <| o_al 0 <| o_gA 901 102 <| o_il 4 <| o_il 3 <| o_isk 102 16 <| o_al 0 <| o_gA 901 124 <| o_c (.inl 0) <| o_al 0 <| o_gA 901 100 <| o_c (.inl 300) <| o_il 4 <| o_bi z_mul <| o_il 3 <| o_cpl <| o_al 0 <| o_gA 901 125 <| o_c (.inl 0) <| o_al 0 <| o_gA 901 101 <| o_c (.inl 300) <| o_il 4 <| o_bi z_mul <| o_il 3 <| o_cpl <| o_c (.inl 1) <| o_rz QR
def k_D_worked_293 (QR : Option qA → qS → Prop) (H : Nat → qP) : qP :=
  o_c (.inl 0) <| o_rz QR
def k_D_worked_286 (QR : Option qA → qS → Prop) (H : Nat → qP) : qP :=
  o_il 3 <| o_c (.inl 300) <| o_i2 (fun a b => a ≤ b) (k_D_worked_295 QR H) (k_D_worked_293 QR H)
def k_D_worked_280 (QR : Option qA → qS → Prop) (H : Nat → qP) : qP :=
  o_inc 4 1 <| H 111
def k_D_worked_273 (QR : Option qA → qS → Prop) (H : Nat → qP) : qP :=
  o_il 6 <| o_is 5 <| H 125
def k_D_worked_238 (QR : Option qA → qS → Prop) (H : Nat → qP) : qP :=
  o_al 0 <| o_gA 901 124 <| o_il 3 <| o_al 0 <| o_gA 901 128 <| o_il 7 <| o_jak 128 4 <| o_jsk 124 4000 <| o_al 0 <| o_gA 901 125 <| o_il 3 <| o_al 0 <| o_gA 901 129 <| o_il 7 <| o_jak 129 4 <| o_jsk 125 4000 <| o_inc 3 1 <| o_inc 7 1 <| H 229
def k_D_worked_229 (QR : Option qA → qS → Prop) (H : Nat → qP) : qP :=
  o_il 7 <| o_al 0 <| o_gI 901 131 <| o_i2 (fun a b => b ≤ a) (H 273) (k_D_worked_238 QR H)
def k_D_worked_226 (QR : Option qA → qS → Prop) (H : Nat → qP) : qP :=
  o_c (.inl 0) <| o_is 7 <| H 229
def k_D_worked_224 (QR : Option qA → qS → Prop) (H : Nat → qP) : qP :=
  o_c (.inl 0) <| o_rz QR
def k_D_worked_195 (QR : Option qA → qS → Prop) (H : Nat → qP) : qP :=
  o_al 0 <| o_c (.inl 3) <| o_il 1 <| o_bi z_mul <| o_c (.inl 2) <| o_bi z_add <| o_c (.inl 0) <| o_c (.inl 0) <| o_al 0 <| o_gA 901 122 <| o_il 5 <| o_jak 122 4000 <| o_al 0 <| o_gA 901 123 <| o_il 5 <| o_il 6 <| oc_D_call <| o_if (fun a => ¬ a = 0) (H 226) (k_D_worked_224 QR H)
def k_D_worked_171 (QR : Option qA → qS → Prop) (H : Nat → qP) : qP :=
  o_al 0 <| o_gA 901 122 <| o_il 5 <| o_jak 122 4000 <| o_al 0 <| o_gA 901 111 <| o_il 1 <| o_iak 111 8 <| o_i2l <| oc_J_floorMod <| o_il 4 <| o_i2l <| o_l2 (fun a b => ¬ a = b) (H 273) (k_D_worked_195 QR H)
def k_D_worked_165 (QR : Option qA → qS → Prop) (H : Nat → qP) : qP :=
  o_inc 6 1 <| H 138
def k_D_worked_147 (QR : Option qA → qS → Prop) (H : Nat → qP) : qP :=
  o_al 0 <| o_gA 901 122 <| o_il 6 <| o_jak 122 4000 <| o_al 0 <| o_gA 901 122 <| o_il 5 <| o_jak 122 4000 <| o_l2 (fun a b => ¬ a = b) (H 171) (k_D_worked_165 QR H)
def k_D_worked_138 (QR : Option qA → qS → Prop) (H : Nat → qP) : qP :=
  o_il 6 <| o_al 0 <| o_gI 901 130 <| o_i2 (fun a b => b ≤ a) (H 171) (k_D_worked_147 QR H)
def k_D_worked_134 (QR : Option qA → qS → Prop) (H : Nat → qP) : qP :=
  o_il 5 <| o_is 6 <| H 138
def k_D_worked_125 (QR : Option qA → qS → Prop) (H : Nat → qP) : qP :=
  o_il 5 <| o_al 0 <| o_gI 901 130 <| o_i2 (fun a b => b ≤ a) (k_D_worked_280 QR H) (k_D_worked_134 QR H)
def k_D_worked_122 (QR : Option qA → qS → Prop) (H : Nat → qP) : qP :=
  o_c (.inl 0) <| o_is 5 <| H 125
def k_D_worked_111 (QR : Option qA → qS → Prop) (H : Nat → qP) : qP :=
  o_il 4 <| o_al 0 <| o_gA 901 111 <| o_il 1 <| o_iak 111 8 <| o_i2 (fun a b => b ≤ a) (H 286) (k_D_worked_122 QR H)
def k_D_worked_92 (QR : Option qA → qS → Prop) (H : Nat → qP) : qP :=
  o_al 0 <| o_gA 901 122 <| o_al 0 <| o_gA 901 123 <| o_c (.inl 0) <| o_al 0 <| o_gI 901 130 <| oc_D_sort <| o_c (.inl 0) <| o_is 4 <| H 111
def k_D_worked_90 (QR : Option qA → qS → Prop) (H : Nat → qP) : qP :=
  o_c (.inl 0) <| o_rz QR
def k_D_worked_80 (QR : Option qA → qS → Prop) (H : Nat → qP) : qP :=
  o_al 0 <| o_gI 901 130 <| o_c (.inl 1000) <| o_i2 (fun a b => a ≤ b) (k_D_worked_92 QR H) (k_D_worked_90 QR H)
def k_D_worked_74 (QR : Option qA → qS → Prop) (H : Nat → qP) : qP :=
  o_inc 4 16 <| H 47
def k_D_worked_72 (QR : Option qA → qS → Prop) (H : Nat → qP) : qP :=
  o_c (.inl 0) <| o_rz QR
def k_D_worked_53 (QR : Option qA → qS → Prop) (H : Nat → qP) : qP :=
  o_al 0 <| o_il 1 <| o_il 4 <| o_il 2 <| o_il 4 <| o_c (.inl 16) <| o_bi z_add <| oc_J_min <| oc_D_mapped <| o_if (fun a => ¬ a = 0) (k_D_worked_74 QR H) (k_D_worked_72 QR H)
def k_D_worked_47 (QR : Option qA → qS → Prop) (H : Nat → qP) : qP :=
  o_il 4 <| o_il 2 <| o_i2 (fun a b => b ≤ a) (H 80) (k_D_worked_53 QR H)
def k_D_worked_35 (QR : Option qA → qS → Prop) (H : Nat → qP) : qP :=
  o_bi z_add <| o_is 2 <| o_c (.inl 0) <| o_is 3 <| o_al 0 <| o_c (.inl 0) <| o_pI 901 130 <| o_c (.inl 0) <| o_is 4 <| H 47
def k_D_worked_24 (QR : Option qA → qS → Prop) (H : Nat → qP) : qP :=
  o_al 0 <| o_gA 901 102 <| o_al 0 <| o_gA 901 109 <| o_il 1 <| o_iak 109 8 <| o_iak 102 16 <| k_D_worked_35 QR H
def k_D_worked_20 (QR : Option qA → qS → Prop) (H : Nat → qP) : qP :=
  o_c (.inl 0) <| k_D_worked_35 QR H
def k_D_worked_0 (QR : Option qA → qS → Prop) (H : Nat → qP) : qP :=
  o_al 0 <| o_gA 901 102 <| o_al 0 <| o_gA 901 108 <| o_il 1 <| o_iak 108 8 <| o_iak 102 16 <| o_al 0 <| o_gA 901 109 <| o_il 1 <| o_iak 109 8 <| o_if (fun a => 0 ≤ a) (k_D_worked_24 QR H) (k_D_worked_20 QR H)
set_option maxRecDepth 8000 in
theorem s_D_worked_295 {l : Launch} {ad : Nat → Nat} {D : va_G} {cA : Nat → ClassId} {WW : Nat → qP} {QR : Option qA → qS → Prop} (S : qSnd l rm_D_worked ad D cA R_D b_D_worked 8 WW) (Q : qRet (some .boolean) b_D_worked WW QR) (Cp : qCp R_D b_D_worked WW) : qle (k_D_worked_295 QR WW) WW 295 :=
  S.aload_n d_D_worked_295 rfl <| S.gA fl_D_41 (by decide) d_D_worked_296 <| S.iload_n d_D_worked_299 rfl <| S.iak (by decide) d_D_worked_300 <| S.istore d_D_worked_301 (by decide) <| S.aload_n d_D_worked_303 rfl <| S.gA fl_D_16 (by decide) d_D_worked_304 <| S.iload d_D_worked_307 <| S.iload_n d_D_worked_309 rfl <| S.isk (by decide) d_D_worked_310 <| S.aload_n d_D_worked_311 rfl <| S.gA fl_D_69 (by decide) d_D_worked_312 <| S.iconst d_D_worked_315 (by decide) <| S.aload_n d_D_worked_316 rfl <| S.gA fl_D_9 (by decide) d_D_worked_317 <| S.sipush d_D_worked_320 (by decide) <| S.iload d_D_worked_323 <| S.imul d_D_worked_325 <| S.iload_n d_D_worked_326 rfl <| Cp _ 123 327 (lw_at 972 (by decide +kernel) rfl) d_D_worked_327 <| S.aload_n d_D_worked_330 rfl <| S.gA fl_D_72 (by decide) d_D_worked_331 <| S.iconst d_D_worked_334 (by decide) <| S.aload_n d_D_worked_335 rfl <| S.gA fl_D_13 (by decide) d_D_worked_336 <| S.sipush d_D_worked_339 (by decide) <| S.iload d_D_worked_342 <| S.imul d_D_worked_344 <| S.iload_n d_D_worked_345 rfl <| Cp _ 123 346 (lw_at 972 (by decide +kernel) rfl) d_D_worked_346 <| S.iconst d_D_worked_349 (by decide) <| Q.2.1 rfl _ d_D_worked_350
set_option maxRecDepth 8000 in
theorem s_D_worked_293 {l : Launch} {ad : Nat → Nat} {D : va_G} {cA : Nat → ClassId} {WW : Nat → qP} {QR : Option qA → qS → Prop} (S : qSnd l rm_D_worked ad D cA R_D b_D_worked 8 WW) (Q : qRet (some .boolean) b_D_worked WW QR) (Cp : qCp R_D b_D_worked WW) : qle (k_D_worked_293 QR WW) WW 293 :=
  S.iconst d_D_worked_293 (by decide) <| Q.2.1 rfl _ d_D_worked_294
set_option maxRecDepth 8000 in
theorem s_D_worked_286 {l : Launch} {ad : Nat → Nat} {D : va_G} {cA : Nat → ClassId} {WW : Nat → qP} {QR : Option qA → qS → Prop} (S : qSnd l rm_D_worked ad D cA R_D b_D_worked 8 WW) (Q : qRet (some .boolean) b_D_worked WW QR) (Cp : qCp R_D b_D_worked WW) : qle (k_D_worked_286 QR WW) WW 286 :=
  S.iload_n d_D_worked_286 rfl <| S.sipush d_D_worked_287 (by decide) <| S.icmp_le d_D_worked_290 (by decide) (s_D_worked_295 S Q Cp) (s_D_worked_293 S Q Cp)
set_option maxRecDepth 8000 in
theorem s_D_worked_280 {l : Launch} {ad : Nat → Nat} {D : va_G} {cA : Nat → ClassId} {WW : Nat → qP} {QR : Option qA → qS → Prop} (S : qSnd l rm_D_worked ad D cA R_D b_D_worked 8 WW) (Q : qRet (some .boolean) b_D_worked WW QR) (Cp : qCp R_D b_D_worked WW) : qle (k_D_worked_280 QR WW) WW 280 :=
  S.iinc d_D_worked_280 (by decide) <| S.goto d_D_worked_283 (by decide) (fun _ _ _ h => h)
set_option maxRecDepth 8000 in
theorem s_D_worked_273 {l : Launch} {ad : Nat → Nat} {D : va_G} {cA : Nat → ClassId} {WW : Nat → qP} {QR : Option qA → qS → Prop} (S : qSnd l rm_D_worked ad D cA R_D b_D_worked 8 WW) (Q : qRet (some .boolean) b_D_worked WW QR) (Cp : qCp R_D b_D_worked WW) : qle (k_D_worked_273 QR WW) WW 273 :=
  S.iload d_D_worked_273 <| S.istore d_D_worked_275 (by decide) <| S.goto d_D_worked_277 (by decide) (fun _ _ _ h => h)
set_option maxRecDepth 8000 in
theorem s_D_worked_238 {l : Launch} {ad : Nat → Nat} {D : va_G} {cA : Nat → ClassId} {WW : Nat → qP} {QR : Option qA → qS → Prop} (S : qSnd l rm_D_worked ad D cA R_D b_D_worked 8 WW) (Q : qRet (some .boolean) b_D_worked WW QR) (Cp : qCp R_D b_D_worked WW) : qle (k_D_worked_238 QR WW) WW 238 :=
  S.aload_n d_D_worked_238 rfl <| S.gA fl_D_69 (by decide) d_D_worked_239 <| S.iload_n d_D_worked_242 rfl <| S.aload_n d_D_worked_243 rfl <| S.gA fl_D_81 (by decide) d_D_worked_244 <| S.iload d_D_worked_247 <| S.jak (by decide) d_D_worked_249 <| S.jsk (by decide) d_D_worked_250 <| S.aload_n d_D_worked_251 rfl <| S.gA fl_D_72 (by decide) d_D_worked_252 <| S.iload_n d_D_worked_255 rfl <| S.aload_n d_D_worked_256 rfl <| S.gA fl_D_84 (by decide) d_D_worked_257 <| S.iload d_D_worked_260 <| S.jak (by decide) d_D_worked_262 <| S.jsk (by decide) d_D_worked_263 <| S.iinc d_D_worked_264 (by decide) <| S.iinc d_D_worked_267 (by decide) <| S.goto d_D_worked_270 (by decide) (fun _ _ _ h => h)
set_option maxRecDepth 8000 in
theorem s_D_worked_229 {l : Launch} {ad : Nat → Nat} {D : va_G} {cA : Nat → ClassId} {WW : Nat → qP} {QR : Option qA → qS → Prop} (S : qSnd l rm_D_worked ad D cA R_D b_D_worked 8 WW) (Q : qRet (some .boolean) b_D_worked WW QR) (Cp : qCp R_D b_D_worked WW) : qle (k_D_worked_229 QR WW) WW 229 :=
  S.iload d_D_worked_229 <| S.aload_n d_D_worked_231 rfl <| S.gI fl_D_91 (by decide) d_D_worked_232 <| S.icmp_ge d_D_worked_235 (by decide) (fun _ _ _ h => h) (s_D_worked_238 S Q Cp)
set_option maxRecDepth 8000 in
theorem s_D_worked_226 {l : Launch} {ad : Nat → Nat} {D : va_G} {cA : Nat → ClassId} {WW : Nat → qP} {QR : Option qA → qS → Prop} (S : qSnd l rm_D_worked ad D cA R_D b_D_worked 8 WW) (Q : qRet (some .boolean) b_D_worked WW QR) (Cp : qCp R_D b_D_worked WW) : qle (k_D_worked_226 QR WW) WW 226 :=
  S.iconst d_D_worked_226 (by decide) <| S.istore d_D_worked_227 (by decide) <| (fun _ _ _ h => h)
set_option maxRecDepth 8000 in
theorem s_D_worked_224 {l : Launch} {ad : Nat → Nat} {D : va_G} {cA : Nat → ClassId} {WW : Nat → qP} {QR : Option qA → qS → Prop} (S : qSnd l rm_D_worked ad D cA R_D b_D_worked 8 WW) (Q : qRet (some .boolean) b_D_worked WW QR) (Cp : qCp R_D b_D_worked WW) : qle (k_D_worked_224 QR WW) WW 224 :=
  S.iconst d_D_worked_224 (by decide) <| Q.2.1 rfl _ d_D_worked_225
set_option maxRecDepth 8000 in
theorem s_D_worked_195 {l : Launch} {ad : Nat → Nat} {D : va_G} {cA : Nat → ClassId} {WW : Nat → qP} {QR : Option qA → qS → Prop} (S : qSnd l rm_D_worked ad D cA R_D b_D_worked 8 WW) (Q : qRet (some .boolean) b_D_worked WW QR) (Cp : qCp R_D b_D_worked WW) : qle (k_D_worked_195 QR WW) WW 195 :=
  S.aload_n d_D_worked_195 rfl <| S.iconst d_D_worked_196 (by decide) <| S.iload_n d_D_worked_197 rfl <| S.imul d_D_worked_198 <| S.iconst d_D_worked_199 (by decide) <| S.iadd d_D_worked_200 <| S.iconst d_D_worked_201 (by decide) <| S.iconst d_D_worked_202 (by decide) <| S.aload_n d_D_worked_203 rfl <| S.gA fl_D_63 (by decide) d_D_worked_204 <| S.iload d_D_worked_207 <| S.jak (by decide) d_D_worked_209 <| S.aload_n d_D_worked_210 rfl <| S.gA fl_D_66 (by decide) d_D_worked_211 <| S.iload d_D_worked_214 <| S.iload d_D_worked_216 <| sc_D_94 S (by decide) d_D_worked_218 <| S.if_ne d_D_worked_221 (by decide) (fun _ _ _ h => h) (s_D_worked_224 S Q Cp)
set_option maxRecDepth 8000 in
theorem s_D_worked_171 {l : Launch} {ad : Nat → Nat} {D : va_G} {cA : Nat → ClassId} {WW : Nat → qP} {QR : Option qA → qS → Prop} (S : qSnd l rm_D_worked ad D cA R_D b_D_worked 8 WW) (Q : qRet (some .boolean) b_D_worked WW QR) (Cp : qCp R_D b_D_worked WW) : qle (k_D_worked_171 QR WW) WW 171 :=
  S.aload_n d_D_worked_171 rfl <| S.gA fl_D_63 (by decide) d_D_worked_172 <| S.iload d_D_worked_175 <| S.jak (by decide) d_D_worked_177 <| S.aload_n d_D_worked_178 rfl <| S.gA fl_D_44 (by decide) d_D_worked_179 <| S.iload_n d_D_worked_182 rfl <| S.iak (by decide) d_D_worked_183 <| S.i2l d_D_worked_184 <| sc_D_119 S (by decide) d_D_worked_185 <| S.iload d_D_worked_188 <| S.i2l d_D_worked_190 <| S.lcmp_ne d_D_worked_191 d_D_worked_192 (by decide) (fun _ _ _ h => h) (s_D_worked_195 S Q Cp)
set_option maxRecDepth 8000 in
theorem s_D_worked_165 {l : Launch} {ad : Nat → Nat} {D : va_G} {cA : Nat → ClassId} {WW : Nat → qP} {QR : Option qA → qS → Prop} (S : qSnd l rm_D_worked ad D cA R_D b_D_worked 8 WW) (Q : qRet (some .boolean) b_D_worked WW QR) (Cp : qCp R_D b_D_worked WW) : qle (k_D_worked_165 QR WW) WW 165 :=
  S.iinc d_D_worked_165 (by decide) <| S.goto d_D_worked_168 (by decide) (fun _ _ _ h => h)
set_option maxRecDepth 8000 in
theorem s_D_worked_147 {l : Launch} {ad : Nat → Nat} {D : va_G} {cA : Nat → ClassId} {WW : Nat → qP} {QR : Option qA → qS → Prop} (S : qSnd l rm_D_worked ad D cA R_D b_D_worked 8 WW) (Q : qRet (some .boolean) b_D_worked WW QR) (Cp : qCp R_D b_D_worked WW) : qle (k_D_worked_147 QR WW) WW 147 :=
  S.aload_n d_D_worked_147 rfl <| S.gA fl_D_63 (by decide) d_D_worked_148 <| S.iload d_D_worked_151 <| S.jak (by decide) d_D_worked_153 <| S.aload_n d_D_worked_154 rfl <| S.gA fl_D_63 (by decide) d_D_worked_155 <| S.iload d_D_worked_158 <| S.jak (by decide) d_D_worked_160 <| S.lcmp_ne d_D_worked_161 d_D_worked_162 (by decide) (fun _ _ _ h => h) (s_D_worked_165 S Q Cp)
set_option maxRecDepth 8000 in
theorem s_D_worked_138 {l : Launch} {ad : Nat → Nat} {D : va_G} {cA : Nat → ClassId} {WW : Nat → qP} {QR : Option qA → qS → Prop} (S : qSnd l rm_D_worked ad D cA R_D b_D_worked 8 WW) (Q : qRet (some .boolean) b_D_worked WW QR) (Cp : qCp R_D b_D_worked WW) : qle (k_D_worked_138 QR WW) WW 138 :=
  S.iload d_D_worked_138 <| S.aload_n d_D_worked_140 rfl <| S.gI fl_D_106 (by decide) d_D_worked_141 <| S.icmp_ge d_D_worked_144 (by decide) (fun _ _ _ h => h) (s_D_worked_147 S Q Cp)
set_option maxRecDepth 8000 in
theorem s_D_worked_134 {l : Launch} {ad : Nat → Nat} {D : va_G} {cA : Nat → ClassId} {WW : Nat → qP} {QR : Option qA → qS → Prop} (S : qSnd l rm_D_worked ad D cA R_D b_D_worked 8 WW) (Q : qRet (some .boolean) b_D_worked WW QR) (Cp : qCp R_D b_D_worked WW) : qle (k_D_worked_134 QR WW) WW 134 :=
  S.iload d_D_worked_134 <| S.istore d_D_worked_136 (by decide) <| (fun _ _ _ h => h)
set_option maxRecDepth 8000 in
theorem s_D_worked_125 {l : Launch} {ad : Nat → Nat} {D : va_G} {cA : Nat → ClassId} {WW : Nat → qP} {QR : Option qA → qS → Prop} (S : qSnd l rm_D_worked ad D cA R_D b_D_worked 8 WW) (Q : qRet (some .boolean) b_D_worked WW QR) (Cp : qCp R_D b_D_worked WW) : qle (k_D_worked_125 QR WW) WW 125 :=
  S.iload d_D_worked_125 <| S.aload_n d_D_worked_127 rfl <| S.gI fl_D_106 (by decide) d_D_worked_128 <| S.icmp_ge d_D_worked_131 (by decide) (s_D_worked_280 S Q Cp) (s_D_worked_134 S Q Cp)
set_option maxRecDepth 8000 in
theorem s_D_worked_122 {l : Launch} {ad : Nat → Nat} {D : va_G} {cA : Nat → ClassId} {WW : Nat → qP} {QR : Option qA → qS → Prop} (S : qSnd l rm_D_worked ad D cA R_D b_D_worked 8 WW) (Q : qRet (some .boolean) b_D_worked WW QR) (Cp : qCp R_D b_D_worked WW) : qle (k_D_worked_122 QR WW) WW 122 :=
  S.iconst d_D_worked_122 (by decide) <| S.istore d_D_worked_123 (by decide) <| (fun _ _ _ h => h)
set_option maxRecDepth 8000 in
theorem s_D_worked_111 {l : Launch} {ad : Nat → Nat} {D : va_G} {cA : Nat → ClassId} {WW : Nat → qP} {QR : Option qA → qS → Prop} (S : qSnd l rm_D_worked ad D cA R_D b_D_worked 8 WW) (Q : qRet (some .boolean) b_D_worked WW QR) (Cp : qCp R_D b_D_worked WW) : qle (k_D_worked_111 QR WW) WW 111 :=
  S.iload d_D_worked_111 <| S.aload_n d_D_worked_113 rfl <| S.gA fl_D_44 (by decide) d_D_worked_114 <| S.iload_n d_D_worked_117 rfl <| S.iak (by decide) d_D_worked_118 <| S.icmp_ge d_D_worked_119 (by decide) (fun _ _ _ h => h) (s_D_worked_122 S Q Cp)
set_option maxRecDepth 8000 in
theorem s_D_worked_92 {l : Launch} {ad : Nat → Nat} {D : va_G} {cA : Nat → ClassId} {WW : Nat → qP} {QR : Option qA → qS → Prop} (S : qSnd l rm_D_worked ad D cA R_D b_D_worked 8 WW) (Q : qRet (some .boolean) b_D_worked WW QR) (Cp : qCp R_D b_D_worked WW) : qle (k_D_worked_92 QR WW) WW 92 :=
  S.aload_n d_D_worked_92 rfl <| S.gA fl_D_63 (by decide) d_D_worked_93 <| S.aload_n d_D_worked_96 rfl <| S.gA fl_D_66 (by decide) d_D_worked_97 <| S.iconst d_D_worked_100 (by decide) <| S.aload_n d_D_worked_101 rfl <| S.gI fl_D_106 (by decide) d_D_worked_102 <| sc_D_98 S (by decide) d_D_worked_105 <| S.iconst d_D_worked_108 (by decide) <| S.istore d_D_worked_109 (by decide) <| (fun _ _ _ h => h)
set_option maxRecDepth 8000 in
theorem s_D_worked_90 {l : Launch} {ad : Nat → Nat} {D : va_G} {cA : Nat → ClassId} {WW : Nat → qP} {QR : Option qA → qS → Prop} (S : qSnd l rm_D_worked ad D cA R_D b_D_worked 8 WW) (Q : qRet (some .boolean) b_D_worked WW QR) (Cp : qCp R_D b_D_worked WW) : qle (k_D_worked_90 QR WW) WW 90 :=
  S.iconst d_D_worked_90 (by decide) <| Q.2.1 rfl _ d_D_worked_91
set_option maxRecDepth 8000 in
theorem s_D_worked_80 {l : Launch} {ad : Nat → Nat} {D : va_G} {cA : Nat → ClassId} {WW : Nat → qP} {QR : Option qA → qS → Prop} (S : qSnd l rm_D_worked ad D cA R_D b_D_worked 8 WW) (Q : qRet (some .boolean) b_D_worked WW QR) (Cp : qCp R_D b_D_worked WW) : qle (k_D_worked_80 QR WW) WW 80 :=
  S.aload_n d_D_worked_80 rfl <| S.gI fl_D_106 (by decide) d_D_worked_81 <| S.sipush d_D_worked_84 (by decide) <| S.icmp_le d_D_worked_87 (by decide) (s_D_worked_92 S Q Cp) (s_D_worked_90 S Q Cp)
set_option maxRecDepth 8000 in
theorem s_D_worked_74 {l : Launch} {ad : Nat → Nat} {D : va_G} {cA : Nat → ClassId} {WW : Nat → qP} {QR : Option qA → qS → Prop} (S : qSnd l rm_D_worked ad D cA R_D b_D_worked 8 WW) (Q : qRet (some .boolean) b_D_worked WW QR) (Cp : qCp R_D b_D_worked WW) : qle (k_D_worked_74 QR WW) WW 74 :=
  S.iinc d_D_worked_74 (by decide) <| S.goto d_D_worked_77 (by decide) (fun _ _ _ h => h)
set_option maxRecDepth 8000 in
theorem s_D_worked_72 {l : Launch} {ad : Nat → Nat} {D : va_G} {cA : Nat → ClassId} {WW : Nat → qP} {QR : Option qA → qS → Prop} (S : qSnd l rm_D_worked ad D cA R_D b_D_worked 8 WW) (Q : qRet (some .boolean) b_D_worked WW QR) (Cp : qCp R_D b_D_worked WW) : qle (k_D_worked_72 QR WW) WW 72 :=
  S.iconst d_D_worked_72 (by decide) <| Q.2.1 rfl _ d_D_worked_73
set_option maxRecDepth 8000 in
theorem s_D_worked_53 {l : Launch} {ad : Nat → Nat} {D : va_G} {cA : Nat → ClassId} {WW : Nat → qP} {QR : Option qA → qS → Prop} (S : qSnd l rm_D_worked ad D cA R_D b_D_worked 8 WW) (Q : qRet (some .boolean) b_D_worked WW QR) (Cp : qCp R_D b_D_worked WW) : qle (k_D_worked_53 QR WW) WW 53 :=
  S.aload_n d_D_worked_53 rfl <| S.iload_n d_D_worked_54 rfl <| S.iload d_D_worked_55 <| S.iload_n d_D_worked_57 rfl <| S.iload d_D_worked_58 <| S.bipush d_D_worked_60 (by decide) <| S.iadd d_D_worked_62 <| sc_D_109 S (by decide) d_D_worked_63 <| sc_D_115 S (by decide) d_D_worked_66 <| S.if_ne d_D_worked_69 (by decide) (s_D_worked_74 S Q Cp) (s_D_worked_72 S Q Cp)
set_option maxRecDepth 8000 in
theorem s_D_worked_47 {l : Launch} {ad : Nat → Nat} {D : va_G} {cA : Nat → ClassId} {WW : Nat → qP} {QR : Option qA → qS → Prop} (S : qSnd l rm_D_worked ad D cA R_D b_D_worked 8 WW) (Q : qRet (some .boolean) b_D_worked WW QR) (Cp : qCp R_D b_D_worked WW) : qle (k_D_worked_47 QR WW) WW 47 :=
  S.iload d_D_worked_47 <| S.iload_n d_D_worked_49 rfl <| S.icmp_ge d_D_worked_50 (by decide) (fun _ _ _ h => h) (s_D_worked_53 S Q Cp)
set_option maxRecDepth 8000 in
theorem s_D_worked_35 {l : Launch} {ad : Nat → Nat} {D : va_G} {cA : Nat → ClassId} {WW : Nat → qP} {QR : Option qA → qS → Prop} (S : qSnd l rm_D_worked ad D cA R_D b_D_worked 8 WW) (Q : qRet (some .boolean) b_D_worked WW QR) (Cp : qCp R_D b_D_worked WW) : qle (k_D_worked_35 QR WW) WW 35 :=
  S.iadd d_D_worked_35 <| S.istore_n d_D_worked_36 rfl (by decide) <| S.iconst d_D_worked_37 (by decide) <| S.istore_n d_D_worked_38 rfl (by decide) <| S.aload_n d_D_worked_39 rfl <| S.iconst d_D_worked_40 (by decide) <| S.pI fl_D_106 (by decide) (by decide +kernel) d_D_worked_41 <| S.iconst d_D_worked_44 (by decide) <| S.istore d_D_worked_45 (by decide) <| (fun _ _ _ h => h)
set_option maxRecDepth 8000 in
theorem s_D_worked_24 {l : Launch} {ad : Nat → Nat} {D : va_G} {cA : Nat → ClassId} {WW : Nat → qP} {QR : Option qA → qS → Prop} (S : qSnd l rm_D_worked ad D cA R_D b_D_worked 8 WW) (Q : qRet (some .boolean) b_D_worked WW QR) (Cp : qCp R_D b_D_worked WW) : qle (k_D_worked_24 QR WW) WW 24 :=
  S.aload_n d_D_worked_24 rfl <| S.gA fl_D_16 (by decide) d_D_worked_25 <| S.aload_n d_D_worked_28 rfl <| S.gA fl_D_38 (by decide) d_D_worked_29 <| S.iload_n d_D_worked_32 rfl <| S.iak (by decide) d_D_worked_33 <| S.iak (by decide) d_D_worked_34 <| (s_D_worked_35 S Q Cp)
set_option maxRecDepth 8000 in
theorem s_D_worked_20 {l : Launch} {ad : Nat → Nat} {D : va_G} {cA : Nat → ClassId} {WW : Nat → qP} {QR : Option qA → qS → Prop} (S : qSnd l rm_D_worked ad D cA R_D b_D_worked 8 WW) (Q : qRet (some .boolean) b_D_worked WW QR) (Cp : qCp R_D b_D_worked WW) : qle (k_D_worked_20 QR WW) WW 20 :=
  S.iconst d_D_worked_20 (by decide) <| S.goto d_D_worked_21 (by decide) (s_D_worked_35 S Q Cp)
set_option maxRecDepth 8000 in
theorem s_D_worked_0 {l : Launch} {ad : Nat → Nat} {D : va_G} {cA : Nat → ClassId} {WW : Nat → qP} {QR : Option qA → qS → Prop} (S : qSnd l rm_D_worked ad D cA R_D b_D_worked 8 WW) (Q : qRet (some .boolean) b_D_worked WW QR) (Cp : qCp R_D b_D_worked WW) : qle (k_D_worked_0 QR WW) WW 0 :=
  S.aload_n d_D_worked_0 rfl <| S.gA fl_D_16 (by decide) d_D_worked_1 <| S.aload_n d_D_worked_4 rfl <| S.gA fl_D_35 (by decide) d_D_worked_5 <| S.iload_n d_D_worked_8 rfl <| S.iak (by decide) d_D_worked_9 <| S.iak (by decide) d_D_worked_10 <| S.aload_n d_D_worked_11 rfl <| S.gA fl_D_38 (by decide) d_D_worked_12 <| S.iload_n d_D_worked_15 rfl <| S.iak (by decide) d_D_worked_16 <| S.if_ge d_D_worked_17 (by decide) (s_D_worked_24 S Q Cp) (s_D_worked_20 S Q Cp)
theorem cn_mono {P : Pr → Bool} {l : List Pr} {k k' : Nat} (h : k ≤ k') : (l.take k).countP P ≤ (l.take k').countP P := by
  have e : l.take k = (l.take k').take k := by rw [List.take_take]; congr 1; omega
  rw [e]
  exact List.Sublist.countP_le (List.take_sublist _ _)
theorem cn_step {P : Pr → Bool} {l : List Pr} {k k' : Nat} {x : Pr} (h : l[k]? = some x) (hx : P x = true) (hk : k < k') : (l.take k).countP P + 1 ≤ (l.take k').countP P := by
  have h1 : (l.take (k + 1)).countP P = (l.take k).countP P + 1 := by
    obtain ⟨hl, rfl⟩ := List.getElem?_eq_some_iff.mp h
    rw [List.take_succ_eq_append_getElem hl, List.countP_append]
    simp [List.countP_cons, hx]
  have := cn_mono (P := P) (l := l) (show k + 1 ≤ k' from hk)
  omega
theorem cn_next (N : Int) (p : Nat) (hN : 0 < N) : ∀ (l : List Pr), l.countP (fun x => decide (x.1 % N < ((p + 1 : Nat) : Int))) = l.countP (fun x => decide (x.1 % N < (p : Int))) + l.countP (fun x => x.1 % N == (p : Int))
  | [] => rfl
  | x :: t => by
    simp only [List.countP_cons, cn_next N p hN t, decide_eq_true_eq, beq_iff_eq]
    have h0 := Int.emod_nonneg x.1 (show N ≠ 0 by omega)
    split <;> split <;> split <;> omega
theorem dspl_keep {σ σ' : qS} {j fr to : Int} (h1 : σ' 104 = σ 104) (h2 : σ' 103 = σ 103) (h3 : σ' 106 = σ 106) (h4 : σ' 102 = σ 102) (h5 : σ' 108 = σ 108) (h6 : σ' 109 = σ 109) (h7 : σ' 100 = σ 100) (h8 : σ' 101 = σ 101) : dspl σ' j fr to = dspl σ j fr to := by
  unfold dspl
  rw [dprg_keep _ h1 h2 h3, dprg_keep _ h1 h2 h3]
  congr 1
  unfold drecs
  apply List.map_congr_left
  intro i _
  exact drec_keep _ _ h4 h5 h6 h7 h8
theorem djbk_keep {σ σ' : qS} {j : Int} (h : djbk σ j) (h4 : σ' 102 = σ 102) (h5 : σ' 108 = σ 108) (h6 : σ' 109 = σ 109) : djbk σ' j ∧ dall σ' j = dall σ j := by
  unfold djbk dall at *
  rw [h4, h5, h6]; exact ⟨h, rfl⟩
theorem F_dmp.wk {σ σ' : qS} (h : F_dmp σ σ') : F_dwk σ σ' := fun q hq => h q (fun e => hq (by simp only [List.mem_cons, List.not_mem_nil, or_false] at e ⊢; omega))
theorem F_dwk.tr {σ σ1 σ2 : qS} (h : F_dwk σ σ1) (h' : F_dwk σ1 σ2) : F_dwk σ σ2 := fun k hk => (h' k hk).trans (h k hk)
theorem PL_row {σ : qS} {L : List Pr} (h : PL σ L) (hL : L.length ≤ 4000) : row σ 122 123 0 L.length = L := by
  apply List.ext_getElem?
  intro i
  by_cases hi : i < L.length
  · rw [row_at hi, List.getElem?_eq_getElem hi]
    obtain ⟨e1, e2⟩ := h.2 i L[i] (List.getElem?_eq_getElem hi) (by omega)
    rw [Int.zero_add, e1, e2]
  · rw [row_no hi, List.getElem?_eq_none (by omega)]
def F_rd (σ σ' : qS) : Prop := ∀ q, q ∉ [126, 127, 128, 129, 131, 124, 125] → σ' q = σ q
theorem F_rd.tr {σ σ1 σ2 : qS} (h : F_rd σ σ1) (h' : F_rd σ1 σ2) : F_rd σ σ2 := fun k hk => (h' k hk).trans (h k hk)
theorem F_rd.wk {σ σ' : qS} (h : F_rd σ σ') : F_dwk σ σ' := fun q hq => h q (fun e => hq (by simp only [List.mem_cons, List.not_mem_nil, or_false] at e ⊢; omega))
theorem F_dcl.rd {σ σ' : qS} (h : F_dcl σ σ') : F_rd σ σ' := fun q hq => h q (fun e => hq (by simp only [List.mem_cons, List.not_mem_nil, or_false] at e ⊢; omega))
theorem v_D_worked_286 {l : Launch} {ad : Nat → Nat} {D : va_G} {cA : Nat → ClassId} {WW : Nat → qP} {QR : Option qA → qS → Prop} (S : qSnd l rm_D_worked ad D cA R_D b_D_worked 8 WW) (Q : qRet (some .boolean) b_D_worked WW QR) (Cp : qCp R_D b_D_worked WW) (j n p : Int) (σ0 σ : qS) (h0 : P_D_worked j σ0) (O : List Pr) (hO : O.length ≤ 4000) (hF : F_dwk σ0 σ) (hrow : row σ 124 125 0 O.length = O) (hd : dout σ0 j = if 300 < O.length then none else some O) (hq : ∀ r σ', Q_D_worked j σ0 r σ' → QR (some (.inl r)) σ') :
    WW 286 [] [some (.inr (.inr 901)), some (.inl j), some (.inl n), some (.inl (O.length : Int)), some (.inl p), none, none, none] σ := by
  obtain ⟨hj, hp, hpa, hou⟩ := h0
  refine s_D_worked_286 S Q Cp _ _ _ ?_
  simp only [k_D_worked_0, k_D_worked_20, k_D_worked_24, k_D_worked_35, k_D_worked_47, k_D_worked_53, k_D_worked_72, k_D_worked_74, k_D_worked_80, k_D_worked_90, k_D_worked_92, k_D_worked_111, k_D_worked_122, k_D_worked_125, k_D_worked_134, k_D_worked_138, k_D_worked_147, k_D_worked_165, k_D_worked_171, k_D_worked_195, k_D_worked_224, k_D_worked_226, k_D_worked_229, k_D_worked_238, k_D_worked_273, k_D_worked_280, k_D_worked_286, k_D_worked_293, k_D_worked_295, oc_D_call, oc_D_mapped, oc_D_sort, oc_J_floorMod, oc_J_min, o_cpl, o_c, o_il, o_ll, o_al, o_is, o_as, o_ls, o_inc, o_bi, o_bid, o_bl, o_bld, o_sl, o_i2l, o_l2i, o_dup, o_dup2, o_pop, o_pop2, o_if, o_i2, o_l2, swg, o_sw, o_gI, o_gZ, o_gJ, o_gA, o_gR, o_pI, o_pZ, o_pJ, o_pR, o_ia, o_iak, o_zak, o_ja, o_jak, o_is_, o_isk, o_zsk, o_js_, o_jsk, o_len, o_ri, o_rz, o_rl, o_rv, ls1, ls2, lks, lkj, List.getD_cons_zero, List.getD_cons_succ, List.set_cons_zero, List.set_cons_succ, qcat, true_and, and_true, List.map_nil, List.map_cons, List.sum_nil, List.sum_cons, Nat.reduceAdd, Nat.reduceLeDiff, Nat.zero_le, Int.reduceAdd, Int.reduceNeg, Int.reduceEq, or_true, true_or, Decidable.not_not, false_implies, not_false_eq_true, true_implies, not_true_eq_false, Int.reduceLT, Int.reduceLE]
  have eo : σ 110 = σ0 110 := hF _ (by decide)
  have ez : z_mul 300 (σ0 110 j) = 300 * σ0 110 j := by unfold z_mul; exact w32_i _ (by omega) (by omega)
  rw [eo, ez, show qln 124 = 4000 by decide, show qln 125 = 4000 by decide, show qln 100 = 4800 by decide, show qln 101 = 4800 by decide]
  refine ⟨fun hle => ⟨hj.1, hou, ⟨⟨by decide, by decide⟩, by decide, by decide⟩, by omega, by omega, ⟨⟨by decide, by decide⟩, by decide, by decide⟩, by omega, by omega, hq _ _ ?_⟩, fun hgt => hq _ _ ?_⟩
  · unfold Q_D_worked
    rw [hd, if_neg (by omega)]
    refine ⟨rfl, by omega, fun q hq' => ?_, fun i => ?_, fun i hi => ?_, ?_⟩
    · simp only [List.mem_cons, List.not_mem_nil, or_false, not_or] at hq'
      rw [cpy_k (by omega), cpy_k (by omega), su_k (by omega)]
      exact hF q (by simp only [List.mem_cons, List.not_mem_nil, or_false, not_or]; omega)
    · rw [cpy_k (by decide), cpy_k (by decide), su_e, hF 102 (by decide)]
    · rw [cpy_k (show 100 ≠ 101 by decide), cpy_e, if_neg (by omega), cpy_e, if_neg (by omega), cpy_k (show 101 ≠ 100 by decide), su_k (by decide), su_k (by decide), hF 100 (by decide), hF 101 (by decide)]
      exact ⟨rfl, rfl⟩
    · conv => rhs; rw [← hrow]
      unfold row
      apply List.map_congr_left
      intro i hi
      have hi := List.mem_range.mp hi
      rw [cpy_k (show 100 ≠ 101 by decide), cpy_e, if_pos (by omega), cpy_e, if_pos (by omega), cpy_k (by decide), su_k (by decide), su_k (by decide), show (0 : Int) + (300 * σ0 110 j + i - 300 * σ0 110 j) = 0 + i by omega]
  · unfold Q_D_worked
    rw [hd, if_pos (by omega)]
    exact ⟨rfl, hF⟩
theorem v_D_worked_138 {l : Launch} {ad : Nat → Nat} {D : va_G} {cA : Nat → ClassId} {WW : Nat → qP} {QR : Option qA → qS → Prop} (S : qSnd l rm_D_worked ad D cA R_D b_D_worked 8 WW) (Q : qRet (some .boolean) b_D_worked WW QR) (Cp : qCp R_D b_D_worked WW) (j n made p i : Int) (σ : qS) (hi : 0 ≤ i ∧ i < σ 130 0 ∧ σ 130 0 ≤ 1000) (K : ∀ e, e = eok (σ 122) (σ 130 0 - (i + 1)).toNat (i + 1) (σ 122 i) → WW 171 [] [some (.inr (.inr 901)), some (.inl j), some (.inl n), some (.inl made), some (.inl p), some (.inl i), some (.inl e), none] σ) :
    ∀ (m : Nat) (e : Int), m = (σ 130 0 - e).toNat → i < e → e ≤ σ 130 0 → eok (σ 122) m e (σ 122 i) = eok (σ 122) (σ 130 0 - (i + 1)).toNat (i + 1) (σ 122 i) → WW 138 [] [some (.inr (.inr 901)), some (.inl j), some (.inl n), some (.inl made), some (.inl p), some (.inl i), some (.inl e), none] σ := by
  intro m
  induction m with
  | zero =>
    intro e hm h1 h2 h3
    refine s_D_worked_138 S Q Cp _ _ _ ?_
    simp only [k_D_worked_0, k_D_worked_20, k_D_worked_24, k_D_worked_35, k_D_worked_47, k_D_worked_53, k_D_worked_72, k_D_worked_74, k_D_worked_80, k_D_worked_90, k_D_worked_92, k_D_worked_111, k_D_worked_122, k_D_worked_125, k_D_worked_134, k_D_worked_138, k_D_worked_147, k_D_worked_165, k_D_worked_171, k_D_worked_195, k_D_worked_224, k_D_worked_226, k_D_worked_229, k_D_worked_238, k_D_worked_273, k_D_worked_280, k_D_worked_286, k_D_worked_293, k_D_worked_295, oc_D_call, oc_D_mapped, oc_D_sort, oc_J_floorMod, oc_J_min, o_cpl, o_c, o_il, o_ll, o_al, o_is, o_as, o_ls, o_inc, o_bi, o_bid, o_bl, o_bld, o_sl, o_i2l, o_l2i, o_dup, o_dup2, o_pop, o_pop2, o_if, o_i2, o_l2, swg, o_sw, o_gI, o_gZ, o_gJ, o_gA, o_gR, o_pI, o_pZ, o_pJ, o_pR, o_ia, o_iak, o_zak, o_ja, o_jak, o_is_, o_isk, o_zsk, o_js_, o_jsk, o_len, o_ri, o_rz, o_rl, o_rv, ls1, ls2, lks, lkj, List.getD_cons_zero, List.getD_cons_succ, List.set_cons_zero, List.set_cons_succ, qcat, true_and, and_true, List.map_nil, List.map_cons, List.sum_nil, List.sum_cons, Nat.reduceAdd, Nat.reduceLeDiff, Nat.zero_le, Int.reduceAdd, Int.reduceNeg, Int.reduceEq, or_true, true_or, Decidable.not_not, false_implies, not_false_eq_true, true_implies, not_true_eq_false, Int.reduceLT, Int.reduceLE]
    exact ⟨fun _ => K e (by rw [← h3]; rfl), fun h => by omega⟩
  | succ m ih =>
    intro e hm h1 h2 h3
    refine s_D_worked_138 S Q Cp _ _ _ ?_
    simp only [k_D_worked_0, k_D_worked_20, k_D_worked_24, k_D_worked_35, k_D_worked_47, k_D_worked_53, k_D_worked_72, k_D_worked_74, k_D_worked_80, k_D_worked_90, k_D_worked_92, k_D_worked_111, k_D_worked_122, k_D_worked_125, k_D_worked_134, k_D_worked_138, k_D_worked_147, k_D_worked_165, k_D_worked_171, k_D_worked_195, k_D_worked_224, k_D_worked_226, k_D_worked_229, k_D_worked_238, k_D_worked_273, k_D_worked_280, k_D_worked_286, k_D_worked_293, k_D_worked_295, oc_D_call, oc_D_mapped, oc_D_sort, oc_J_floorMod, oc_J_min, o_cpl, o_c, o_il, o_ll, o_al, o_is, o_as, o_ls, o_inc, o_bi, o_bid, o_bl, o_bld, o_sl, o_i2l, o_l2i, o_dup, o_dup2, o_pop, o_pop2, o_if, o_i2, o_l2, swg, o_sw, o_gI, o_gZ, o_gJ, o_gA, o_gR, o_pI, o_pZ, o_pJ, o_pR, o_ia, o_iak, o_zak, o_ja, o_jak, o_is_, o_isk, o_zsk, o_js_, o_jsk, o_len, o_ri, o_rz, o_rl, o_rv, ls1, ls2, lks, lkj, List.getD_cons_zero, List.getD_cons_succ, List.set_cons_zero, List.set_cons_succ, qcat, true_and, and_true, List.map_nil, List.map_cons, List.sum_nil, List.sum_cons, Nat.reduceAdd, Nat.reduceLeDiff, Nat.zero_le, Int.reduceAdd, Int.reduceNeg, Int.reduceEq, or_true, true_or, Decidable.not_not, false_implies, not_false_eq_true, true_implies, not_true_eq_false, Int.reduceLT, Int.reduceLE]
    rw [w32_i _ (by omega) (by omega)]
    refine ⟨fun h => by omega, fun h => ⟨by omega, by omega, fun hne => ?_, fun he => ?_⟩⟩
    · rw [eok, if_neg hne] at h3; exact K e h3
    · rw [eok, if_pos he] at h3; exact ih (e + 1) (by omega) (by omega) (by omega) h3
theorem v_D_worked_229 {l : Launch} {ad : Nat → Nat} {D : va_G} {cA : Nat → ClassId} {WW : Nat → qP} {QR : Option qA → qS → Prop} (S : qSnd l rm_D_worked ad D cA R_D b_D_worked 8 WW) (Q : qRet (some .boolean) b_D_worked WW QR) (Cp : qCp R_D b_D_worked WW) (j n p i e d : Int) (σA : qS) (em : List Pr) (hem : EmD σA em) (hd : 0 ≤ d ∧ d + em.length ≤ 4000) (K : ∀ σ' (md : Int), md = d + em.length → CP σA σ' 124 125 128 129 d em.length → WW 273 [] [some (.inr (.inr 901)), some (.inl j), some (.inl n), some (.inl md), some (.inl p), some (.inl i), some (.inl e), none] σ') :
    ∀ (m : Nat) (q md : Int) (σ : qS), m = em.length - q → 0 ≤ q → q ≤ em.length → md = d + q → CP σA σ 124 125 128 129 d q → WW 229 [] [some (.inr (.inr 901)), some (.inl j), some (.inl n), some (.inl md), some (.inl p), some (.inl i), some (.inl e), some (.inl q)] σ := by
  intro m
  have h4 := hem.2.1
  induction m with
  | zero =>
    intro q md σ hm hq0 hq hn hC
    refine s_D_worked_229 S Q Cp _ _ _ ?_
    simp only [k_D_worked_0, k_D_worked_20, k_D_worked_24, k_D_worked_35, k_D_worked_47, k_D_worked_53, k_D_worked_72, k_D_worked_74, k_D_worked_80, k_D_worked_90, k_D_worked_92, k_D_worked_111, k_D_worked_122, k_D_worked_125, k_D_worked_134, k_D_worked_138, k_D_worked_147, k_D_worked_165, k_D_worked_171, k_D_worked_195, k_D_worked_224, k_D_worked_226, k_D_worked_229, k_D_worked_238, k_D_worked_273, k_D_worked_280, k_D_worked_286, k_D_worked_293, k_D_worked_295, oc_D_call, oc_D_mapped, oc_D_sort, oc_J_floorMod, oc_J_min, o_cpl, o_c, o_il, o_ll, o_al, o_is, o_as, o_ls, o_inc, o_bi, o_bid, o_bl, o_bld, o_sl, o_i2l, o_l2i, o_dup, o_dup2, o_pop, o_pop2, o_if, o_i2, o_l2, swg, o_sw, o_gI, o_gZ, o_gJ, o_gA, o_gR, o_pI, o_pZ, o_pJ, o_pR, o_ia, o_iak, o_zak, o_ja, o_jak, o_is_, o_isk, o_zsk, o_js_, o_jsk, o_len, o_ri, o_rz, o_rl, o_rv, ls1, ls2, lks, lkj, List.getD_cons_zero, List.getD_cons_succ, List.set_cons_zero, List.set_cons_succ, qcat, true_and, and_true, List.map_nil, List.map_cons, List.sum_nil, List.sum_cons, Nat.reduceAdd, Nat.reduceLeDiff, Nat.zero_le, Int.reduceAdd, Int.reduceNeg, Int.reduceEq, or_true, true_or, Decidable.not_not, false_implies, not_false_eq_true, true_implies, not_true_eq_false, Int.reduceLT, Int.reduceLE]
    have e : q = em.length := by omega
    rw [e] at hC hn
    rw [hC.1 131 (by decide) (by decide), hem.1]
    refine ⟨fun _ => ?_, fun h => by omega⟩
    exact S.fg (ls' := [some (.inr (.inr 901)), some (.inl j), some (.inl n), some (.inl md), some (.inl p), some (.inl i), some (.inl _), none]) ⟨rfl, rfl, rfl, rfl, rfl, rfl, rfl, trivial⟩ (K σ md hn hC)
  | succ m ih =>
    intro q md σ hm hq0 hq hn hC
    refine s_D_worked_229 S Q Cp _ _ _ ?_
    simp only [k_D_worked_0, k_D_worked_20, k_D_worked_24, k_D_worked_35, k_D_worked_47, k_D_worked_53, k_D_worked_72, k_D_worked_74, k_D_worked_80, k_D_worked_90, k_D_worked_92, k_D_worked_111, k_D_worked_122, k_D_worked_125, k_D_worked_134, k_D_worked_138, k_D_worked_147, k_D_worked_165, k_D_worked_171, k_D_worked_195, k_D_worked_224, k_D_worked_226, k_D_worked_229, k_D_worked_238, k_D_worked_273, k_D_worked_280, k_D_worked_286, k_D_worked_293, k_D_worked_295, oc_D_call, oc_D_mapped, oc_D_sort, oc_J_floorMod, oc_J_min, o_cpl, o_c, o_il, o_ll, o_al, o_is, o_as, o_ls, o_inc, o_bi, o_bid, o_bl, o_bld, o_sl, o_i2l, o_l2i, o_dup, o_dup2, o_pop, o_pop2, o_if, o_i2, o_l2, swg, o_sw, o_gI, o_gZ, o_gJ, o_gA, o_gR, o_pI, o_pZ, o_pJ, o_pR, o_ia, o_iak, o_zak, o_ja, o_jak, o_is_, o_isk, o_zsk, o_js_, o_jsk, o_len, o_ri, o_rz, o_rl, o_rv, ls1, ls2, lks, lkj, List.getD_cons_zero, List.getD_cons_succ, List.set_cons_zero, List.set_cons_succ, qcat, true_and, and_true, List.map_nil, List.map_cons, List.sum_nil, List.sum_cons, Nat.reduceAdd, Nat.reduceLeDiff, Nat.zero_le, Int.reduceAdd, Int.reduceNeg, Int.reduceEq, or_true, true_or, Decidable.not_not, false_implies, not_false_eq_true, true_implies, not_true_eq_false, Int.reduceLT, Int.reduceLE]
    simp (disch := omega) only [su_k]
    rw [hC.1 131 (by decide) (by decide), hem.1, hC.1 128 (by decide) (by decide), hC.1 129 (by decide) (by decide), w32_i (md + 1) (by omega) (by omega), w32_i (q + 1) (by omega) (by omega)]
    refine ⟨fun h => by omega, fun h => ⟨by omega, by omega, by omega, by omega, ?_⟩⟩
    have h5 := CP_s (by decide) hC hq0
    rw [← hn] at h5
    exact ih (q + 1) (md + 1) _ (by omega) (by omega) (by omega) (by omega) h5
theorem v_D_worked_125 {l : Launch} {ad : Nat → Nat} {D : va_G} {cA : Nat → ClassId} {WW : Nat → qP} {QR : Option qA → qS → Prop} (S : qSnd l rm_D_worked ad D cA R_D b_D_worked 8 WW) (Q : qRet (some .boolean) b_D_worked WW QR) (Cp : qCp R_D b_D_worked WW) (j nn : Int) (p : Nat) (σ0 σB : qS) (h0 : P_D_worked j σ0) (L O1 : List Pr) (hL : L.length ≤ 1000) (hpairs : σB 130 0 = L.length) (hB : F_dwk σ0 σB) (hrowB : row σB 122 123 0 L.length = srt L) (hp : (p : Int) < σ0 111 j) (hbig : (srt L).countP (fun x => decide (x.1 % σ0 111 j < (p : Int))) + (srt L).countP (fun x => x.1 % σ0 111 j == (p : Int)) ≤ L.length) (hfail : dpar σ0 j L p = none → dout σ0 j = none)
    (hq : ∀ r σ', Q_D_worked j σ0 r σ' → QR (some (.inl r)) σ')
    (K : ∀ (O2 : List Pr) (σ : qS) (md p1 : Int), dpar σ0 j L p = some O2 → F_rd σB σ → md = ((O1 ++ O2).length : Nat) → p1 = p + 1 → row σ 124 125 0 (O1 ++ O2).length = O1 ++ O2 → (O1 ++ O2).length ≤ 4 * ((srt L).countP (fun x => decide (x.1 % σ0 111 j < (p : Int))) + (srt L).countP (fun x => x.1 % σ0 111 j == (p : Int))) → WW 111 [] [some (.inr (.inr 901)), some (.inl j), some (.inl nn), some (.inl md), some (.inl p1), none, none, none] σ) :
    ∀ (m : Nat) (k : Nat) (ki md : Int) (O2 : List Pr) (σ : qS), L.length - k ≤ m → k ≤ L.length → ki = k → md = ((O1 ++ O2).length : Nat) → F_rd σB σ → row σ 124 125 0 (O1 ++ O2).length = O1 ++ O2 → (O1 ++ O2).length ≤ 4 * ((srt L).countP (fun x => decide (x.1 % σ0 111 j < (p : Int))) + ((srt L).take k).countP (fun x => x.1 % σ0 111 j == (p : Int))) → dpar σ0 j L p = (gmapf (fun k vs => lcall (dprg σ0 (3 * j + 2)) 2 k vs) (fun k => k % σ0 111 j == p) (L.length - k) (row σB 122 123 k (L.length - k))).map (fun b => O2 ++ b) →
      WW 125 [] [some (.inr (.inr 901)), some (.inl j), some (.inl nn), some (.inl md), some (.inl (p : Int)), some (.inl ki), none, none] σ := by
  obtain ⟨hj, hpr, hpa, hou⟩ := h0
  have hsl : (srt L).length = L.length := SS_len (srt_SS L)
  have hj8 := hj.1
  intro m
  induction m with
  | zero =>
    intro k ki md O2 σ hm hk hki hmd hF hrow hb hd
    refine s_D_worked_125 S Q Cp _ _ _ ?_
    simp only [k_D_worked_0, k_D_worked_20, k_D_worked_24, k_D_worked_35, k_D_worked_47, k_D_worked_53, k_D_worked_72, k_D_worked_74, k_D_worked_80, k_D_worked_90, k_D_worked_92, k_D_worked_111, k_D_worked_122, k_D_worked_125, k_D_worked_134, k_D_worked_138, k_D_worked_147, k_D_worked_165, k_D_worked_171, k_D_worked_195, k_D_worked_224, k_D_worked_226, k_D_worked_229, k_D_worked_238, k_D_worked_273, k_D_worked_280, k_D_worked_286, k_D_worked_293, k_D_worked_295, oc_D_call, oc_D_mapped, oc_D_sort, oc_J_floorMod, oc_J_min, o_cpl, o_c, o_il, o_ll, o_al, o_is, o_as, o_ls, o_inc, o_bi, o_bid, o_bl, o_bld, o_sl, o_i2l, o_l2i, o_dup, o_dup2, o_pop, o_pop2, o_if, o_i2, o_l2, swg, o_sw, o_gI, o_gZ, o_gJ, o_gA, o_gR, o_pI, o_pZ, o_pJ, o_pR, o_ia, o_iak, o_zak, o_ja, o_jak, o_is_, o_isk, o_zsk, o_js_, o_jsk, o_len, o_ri, o_rz, o_rl, o_rv, ls1, ls2, lks, lkj, List.getD_cons_zero, List.getD_cons_succ, List.set_cons_zero, List.set_cons_succ, qcat, true_and, and_true, List.map_nil, List.map_cons, List.sum_nil, List.sum_cons, Nat.reduceAdd, Nat.reduceLeDiff, Nat.zero_le, Int.reduceAdd, Int.reduceNeg, Int.reduceEq, or_true, true_or, Decidable.not_not, false_implies, not_false_eq_true, true_implies, not_true_eq_false, Int.reduceLT, Int.reduceLE]
    have e : k = L.length := by omega
    rw [hF 130 (by decide), hpairs, w32_i _ (by omega) (by omega)]
    refine ⟨fun _ => ?_, fun h => by omega⟩
    refine S.fg (ls' := [some (.inr (.inr 901)), some (.inl j), some (.inl nn), some (.inl md), some (.inl ((p : Int) + 1)), none, none, none]) ⟨rfl, rfl, rfl, rfl, rfl, trivial⟩ ?_
    rw [show L.length - k = 0 by omega] at hd
    rw [show (srt L).take k = srt L by rw [List.take_of_length_le (by omega)]] at hb
    refine K O2 σ md _ ?_ hF hmd rfl hrow hb
    rw [hd]; simp [gmapf]
  | succ m ih =>
    intro k ki md O2 σ hm hk hki hmd hF hrow hb hd
    by_cases hkn : L.length ≤ k
    · exact ih k ki md O2 σ (by omega) hk hki hmd hF hrow hb hd
    have ep : σ 130 0 = L.length := by rw [hF 130 (by decide), hpairs]
    have eK : σ 122 = σB 122 := hF _ (by decide)
    have eV : σ 123 = σB 123 := hF _ (by decide)
    have ePa : σ 111 = σ0 111 := (hF _ (by decide)).trans (hB _ (by decide))
    refine s_D_worked_125 S Q Cp _ _ _ ?_
    simp only [k_D_worked_0, k_D_worked_20, k_D_worked_24, k_D_worked_35, k_D_worked_47, k_D_worked_53, k_D_worked_72, k_D_worked_74, k_D_worked_80, k_D_worked_90, k_D_worked_92, k_D_worked_111, k_D_worked_122, k_D_worked_125, k_D_worked_134, k_D_worked_138, k_D_worked_147, k_D_worked_165, k_D_worked_171, k_D_worked_195, k_D_worked_224, k_D_worked_226, k_D_worked_229, k_D_worked_238, k_D_worked_273, k_D_worked_280, k_D_worked_286, k_D_worked_293, k_D_worked_295, oc_D_call, oc_D_mapped, oc_D_sort, oc_J_floorMod, oc_J_min, o_cpl, o_c, o_il, o_ll, o_al, o_is, o_as, o_ls, o_inc, o_bi, o_bid, o_bl, o_bld, o_sl, o_i2l, o_l2i, o_dup, o_dup2, o_pop, o_pop2, o_if, o_i2, o_l2, swg, o_sw, o_gI, o_gZ, o_gJ, o_gA, o_gR, o_pI, o_pZ, o_pJ, o_pR, o_ia, o_iak, o_zak, o_ja, o_jak, o_is_, o_isk, o_zsk, o_js_, o_jsk, o_len, o_ri, o_rz, o_rl, o_rv, ls1, ls2, lks, lkj, List.getD_cons_zero, List.getD_cons_succ, List.set_cons_zero, List.set_cons_succ, qcat, true_and, and_true, List.map_nil, List.map_cons, List.sum_nil, List.sum_cons, Nat.reduceAdd, Nat.reduceLeDiff, Nat.zero_le, Int.reduceAdd, Int.reduceNeg, Int.reduceEq, or_true, true_or, Decidable.not_not, false_implies, not_false_eq_true, true_implies, not_true_eq_false, Int.reduceLT, Int.reduceLE]
    rw [ep]
    refine ⟨fun h => by omega, fun _ => ?_⟩
    refine s_D_worked_138 S Q Cp _ _ _ ?_
    simp only [k_D_worked_0, k_D_worked_20, k_D_worked_24, k_D_worked_35, k_D_worked_47, k_D_worked_53, k_D_worked_72, k_D_worked_74, k_D_worked_80, k_D_worked_90, k_D_worked_92, k_D_worked_111, k_D_worked_122, k_D_worked_125, k_D_worked_134, k_D_worked_138, k_D_worked_147, k_D_worked_165, k_D_worked_171, k_D_worked_195, k_D_worked_224, k_D_worked_226, k_D_worked_229, k_D_worked_238, k_D_worked_273, k_D_worked_280, k_D_worked_286, k_D_worked_293, k_D_worked_295, oc_D_call, oc_D_mapped, oc_D_sort, oc_J_floorMod, oc_J_min, o_cpl, o_c, o_il, o_ll, o_al, o_is, o_as, o_ls, o_inc, o_bi, o_bid, o_bl, o_bld, o_sl, o_i2l, o_l2i, o_dup, o_dup2, o_pop, o_pop2, o_if, o_i2, o_l2, swg, o_sw, o_gI, o_gZ, o_gJ, o_gA, o_gR, o_pI, o_pZ, o_pJ, o_pR, o_ia, o_iak, o_zak, o_ja, o_jak, o_is_, o_isk, o_zsk, o_js_, o_jsk, o_len, o_ri, o_rz, o_rl, o_rv, ls1, ls2, lks, lkj, List.getD_cons_zero, List.getD_cons_succ, List.set_cons_zero, List.set_cons_succ, qcat, true_and, and_true, List.map_nil, List.map_cons, List.sum_nil, List.sum_cons, Nat.reduceAdd, Nat.reduceLeDiff, Nat.zero_le, Int.reduceAdd, Int.reduceNeg, Int.reduceEq, or_true, true_or, Decidable.not_not, false_implies, not_false_eq_true, true_implies, not_true_eq_false, Int.reduceLT, Int.reduceLE]
    rw [ep, w32_i (ki + 1) (by omega) (by omega)]
    refine ⟨fun h => by omega, fun _ => ⟨by omega, by omega, ?_⟩⟩
    refine v_D_worked_138 S Q Cp j nn md p ki σ (by rw [ep]; omega) (fun e he => ?_) _ (ki + 1) rfl (by omega) (by rw [ep]; omega) rfl
    rw [ep, eok_tw (kv := 123)] at he
    generalize hQ : ((row σ 122 123 (ki + 1) ((L.length : Int) - (ki + 1)).toNat).takeWhile (fun p => p.1 == σ 122 ki)).length = q at he
    obtain ⟨hq1, hq2⟩ := grp_stepf (σ := σ) (kk := 122) (kv := 123) (k := ki) (n := ((L.length : Int) - (ki + 1)).toNat) (fun k vs => lcall (dprg σ0 (3 * j + 2)) 2 k vs) (fun k => k % σ0 111 j == p) q hQ.symm
    rw [show ((L.length : Int) - (ki + 1)).toNat + 1 = L.length - k by omega] at hq2
    have er : row σB 122 123 k (L.length - k) = row σ 122 123 ki (L.length - k) := by unfold row; rw [eK, eV, hki]
    rw [er, hq2] at hd
    have er2 : row σ 122 123 (ki + 1 + q) (((L.length : Int) - (ki + 1)).toNat - q) = row σB 122 123 ((k + 1 + q : Nat) : Int) (L.length - (k + 1 + q)) := by
      unfold row; rw [eK, eV, hki, show ((L.length : Int) - ((k : Int) + 1)).toNat - q = L.length - (k + 1 + q) by omega]
      apply List.map_congr_left
      intro i _
      rw [show ((k + 1 + q : Nat) : Int) = (k : Int) + 1 + q by omega]
    have hat : (srt L)[k]? = some (σ 122 ki, σ 123 ki) := by
      rw [← hrowB, row_at (by omega), eK, eV, hki, Int.zero_add]
    have go : ∀ (σ2 : qS) (md2 : Int) (O3 : List Pr), md2 = ((O1 ++ O3).length : Nat) → F_rd σB σ2 → row σ2 124 125 0 (O1 ++ O3).length = O1 ++ O3 → (O1 ++ O3).length ≤ 4 * ((srt L).countP (fun x => decide (x.1 % σ0 111 j < (p : Int))) + ((srt L).take (k + 1 + q)).countP (fun x => x.1 % σ0 111 j == (p : Int))) → dpar σ0 j L p = (gmapf (fun k vs => lcall (dprg σ0 (3 * j + 2)) 2 k vs) (fun k => k % σ0 111 j == p) (L.length - (k + 1 + q)) (row σB 122 123 ((k + 1 + q : Nat) : Int) (L.length - (k + 1 + q)))).map (fun b => O3 ++ b) →
        WW 273 [] [some (.inr (.inr 901)), some (.inl j), some (.inl nn), some (.inl md2), some (.inl (p : Int)), some (.inl ki), some (.inl e), none] σ2 := by
      intro σ2 md2 O3 g1 g2 g3 g4 g5
      refine s_D_worked_273 S Q Cp _ _ _ ?_
      simp only [k_D_worked_0, k_D_worked_20, k_D_worked_24, k_D_worked_35, k_D_worked_47, k_D_worked_53, k_D_worked_72, k_D_worked_74, k_D_worked_80, k_D_worked_90, k_D_worked_92, k_D_worked_111, k_D_worked_122, k_D_worked_125, k_D_worked_134, k_D_worked_138, k_D_worked_147, k_D_worked_165, k_D_worked_171, k_D_worked_195, k_D_worked_224, k_D_worked_226, k_D_worked_229, k_D_worked_238, k_D_worked_273, k_D_worked_280, k_D_worked_286, k_D_worked_293, k_D_worked_295, oc_D_call, oc_D_mapped, oc_D_sort, oc_J_floorMod, oc_J_min, o_cpl, o_c, o_il, o_ll, o_al, o_is, o_as, o_ls, o_inc, o_bi, o_bid, o_bl, o_bld, o_sl, o_i2l, o_l2i, o_dup, o_dup2, o_pop, o_pop2, o_if, o_i2, o_l2, swg, o_sw, o_gI, o_gZ, o_gJ, o_gA, o_gR, o_pI, o_pZ, o_pJ, o_pR, o_ia, o_iak, o_zak, o_ja, o_jak, o_is_, o_isk, o_zsk, o_js_, o_jsk, o_len, o_ri, o_rz, o_rl, o_rv, ls1, ls2, lks, lkj, List.getD_cons_zero, List.getD_cons_succ, List.set_cons_zero, List.set_cons_succ, qcat, true_and, and_true, List.map_nil, List.map_cons, List.sum_nil, List.sum_cons, Nat.reduceAdd, Nat.reduceLeDiff, Nat.zero_le, Int.reduceAdd, Int.reduceNeg, Int.reduceEq, or_true, true_or, Decidable.not_not, false_implies, not_false_eq_true, true_implies, not_true_eq_false, Int.reduceLT, Int.reduceLE]
      refine S.fg (ls' := [some (.inr (.inr 901)), some (.inl j), some (.inl nn), some (.inl md2), some (.inl (p : Int)), some (.inl e), none, none]) ⟨rfl, rfl, rfl, rfl, rfl, rfl, trivial⟩ ?_
      exact ih (k + 1 + q) e md2 O3 σ2 (by omega) (by omega) (by omega) g1 g2 g3 g4 g5
    refine s_D_worked_171 S Q Cp _ _ _ ?_
    simp only [k_D_worked_0, k_D_worked_20, k_D_worked_24, k_D_worked_35, k_D_worked_47, k_D_worked_53, k_D_worked_72, k_D_worked_74, k_D_worked_80, k_D_worked_90, k_D_worked_92, k_D_worked_111, k_D_worked_122, k_D_worked_125, k_D_worked_134, k_D_worked_138, k_D_worked_147, k_D_worked_165, k_D_worked_171, k_D_worked_195, k_D_worked_224, k_D_worked_226, k_D_worked_229, k_D_worked_238, k_D_worked_273, k_D_worked_280, k_D_worked_286, k_D_worked_293, k_D_worked_295, oc_D_call, oc_D_mapped, oc_D_sort, oc_J_floorMod, oc_J_min, o_cpl, o_c, o_il, o_ll, o_al, o_is, o_as, o_ls, o_inc, o_bi, o_bid, o_bl, o_bld, o_sl, o_i2l, o_l2i, o_dup, o_dup2, o_pop, o_pop2, o_if, o_i2, o_l2, swg, o_sw, o_gI, o_gZ, o_gJ, o_gA, o_gR, o_pI, o_pZ, o_pJ, o_pR, o_ia, o_iak, o_zak, o_ja, o_jak, o_is_, o_isk, o_zsk, o_js_, o_jsk, o_len, o_ri, o_rz, o_rl, o_rv, ls1, ls2, lks, lkj, List.getD_cons_zero, List.getD_cons_succ, List.set_cons_zero, List.set_cons_succ, qcat, true_and, and_true, List.map_nil, List.map_cons, List.sum_nil, List.sum_cons, Nat.reduceAdd, Nat.reduceLeDiff, Nat.zero_le, Int.reduceAdd, Int.reduceNeg, Int.reduceEq, or_true, true_or, Decidable.not_not, false_implies, not_false_eq_true, true_implies, not_true_eq_false, Int.reduceLT, Int.reduceLE]
    rw [ePa]
    have hz : z_add (z_mul 3 j) 2 = 3 * j + 2 := by unfold z_add z_mul; rw [w32_i (3 * j) (by omega) (by omega), w32_i _ (by omega) (by omega)]
    rw [hz]
    refine ⟨by omega, hj8, hpa, fun r σ1 q1 => ?_⟩
    obtain ⟨e9, rfl⟩ := q1
    replace e9 := e9.symm
    subst e9
    refine ⟨fun hne => ?_, fun heq => ⟨by omega, ⟨dprok_keep hpr.2.2 ((hF _ (by decide)).trans (hB _ (by decide))) ((hF _ (by decide)).trans (hB _ (by decide))) ((hF _ (by decide)).trans (hB _ (by decide))), by decide, by decide, by omega, by omega, by rw [show qln 123 = 4000 by decide]; omega⟩, fun r σ1 q1 => ?_⟩⟩
    · have hf : (σ 122 ki % σ0 111 j == (p : Int)) = false := by simp [hne]
      simp only [hf, if_false, Bool.false_eq_true] at hd
      refine go σ md O2 hmd hF hrow ?_ (by rw [hd, ← er2, show ((L.length : Int) - (ki + 1)).toNat - q = L.length - (k + 1 + q) by omega])
      have := cn_mono (P := fun x => x.1 % σ0 111 j == (p : Int)) (l := srt L) (show k ≤ k + 1 + q by omega)
      omega
    · have ht : (σ 122 ki % σ0 111 j == (p : Int)) = true := by simp [heq]
      simp only [ht, if_true] at hd
      obtain ⟨c1, c2⟩ := q1
      rw [dprg_keep _ ((hF _ (by decide)).trans (hB _ (by decide))) ((hF _ (by decide)).trans (hB _ (by decide))) ((hF _ (by decide)).trans (hB _ (by decide))), show dwhat 0 0 = 2 by decide, he, show (ki + 1 + (q : Int) - ki).toNat = q + 1 by omega] at c2
      have F1 : F_rd σB σ1 := hF.tr c1.rd
      have hst := cn_step (P := fun x => x.1 % σ0 111 j == (p : Int)) hat ht (show k < k + 1 + q by omega)
      have hmx := cn_mono (P := fun x => x.1 % σ0 111 j == (p : Int)) (l := srt L) (k := k + 1 + q) (k' := (srt L).length) (by omega)
      rw [List.take_length] at hmx
      cases hcl : lcall (dprg σ0 (3 * j + 2)) 2 (σ 122 ki) (vls (σ 123) ki (q + 1)) with
      | none =>
        rw [hcl] at c2 hd
        have hr0 : r = 0 := c2
        subst hr0
        refine ⟨fun h => absurd rfl h, fun _ => hq 0 σ1 ?_⟩
        unfold Q_D_worked
        rw [hfail (by rw [hd]; rfl)]
        exact ⟨rfl, hB.tr F1.wk⟩
      | some em =>
        rw [hcl] at c2 hd
        obtain ⟨hr1, hem⟩ : r = 1 ∧ EmD σ1 em := c2
        subst hr1
        refine ⟨fun _ => ?_, fun h => by omega⟩
        have h4 := hem.2.1
        refine s_D_worked_226 S Q Cp _ _ _ ?_
        simp only [k_D_worked_0, k_D_worked_20, k_D_worked_24, k_D_worked_35, k_D_worked_47, k_D_worked_53, k_D_worked_72, k_D_worked_74, k_D_worked_80, k_D_worked_90, k_D_worked_92, k_D_worked_111, k_D_worked_122, k_D_worked_125, k_D_worked_134, k_D_worked_138, k_D_worked_147, k_D_worked_165, k_D_worked_171, k_D_worked_195, k_D_worked_224, k_D_worked_226, k_D_worked_229, k_D_worked_238, k_D_worked_273, k_D_worked_280, k_D_worked_286, k_D_worked_293, k_D_worked_295, oc_D_call, oc_D_mapped, oc_D_sort, oc_J_floorMod, oc_J_min, o_cpl, o_c, o_il, o_ll, o_al, o_is, o_as, o_ls, o_inc, o_bi, o_bid, o_bl, o_bld, o_sl, o_i2l, o_l2i, o_dup, o_dup2, o_pop, o_pop2, o_if, o_i2, o_l2, swg, o_sw, o_gI, o_gZ, o_gJ, o_gA, o_gR, o_pI, o_pZ, o_pJ, o_pR, o_ia, o_iak, o_zak, o_ja, o_jak, o_is_, o_isk, o_zsk, o_js_, o_jsk, o_len, o_ri, o_rz, o_rl, o_rv, ls1, ls2, lks, lkj, List.getD_cons_zero, List.getD_cons_succ, List.set_cons_zero, List.set_cons_succ, qcat, true_and, and_true, List.map_nil, List.map_cons, List.sum_nil, List.sum_cons, Nat.reduceAdd, Nat.reduceLeDiff, Nat.zero_le, Int.reduceAdd, Int.reduceNeg, Int.reduceEq, or_true, true_or, Decidable.not_not, false_implies, not_false_eq_true, true_implies, not_true_eq_false, Int.reduceLT, Int.reduceLE]
        refine v_D_worked_229 S Q Cp j nn p ki e md σ1 em hem (by omega) (fun σ2 md2 hmd2 hC => ?_) em.length 0 md σ1 (by omega) (by omega) (by omega) (by omega) CP_0
        refine go σ2 md2 (O2 ++ em) (by rw [hmd2, hmd]; simp only [List.length_append]; omega) (F1.tr (fun x hx => hC.1 x (fun e => hx (by subst e; decide)) (fun e => hx (by subst e; decide)))) ?_ (by simp only [List.length_append] at hb ⊢; omega) ?_
        · rw [← List.append_assoc]
          refine CP_row (by rw [Int.zero_add, ← hmd]; exact hC) ?_ (EmD_row hem)
          unfold row
          rw [c1 124 (by decide), c1 125 (by decide)]
          exact hrow
        · rw [hd]
          simp only
          rw [er2, show ((L.length : Int) - (ki + 1)).toNat - q = L.length - (k + 1 + q) by omega, Option.map_map]
          congr 1
          funext b
          simp [List.append_assoc]

