def CP (σA σ : qS) (dk dv sk sv : Nat) (d k : Int) : Prop := (∀ q, q ≠ dk → q ≠ dv → σ q = σA q) ∧ (∀ j, (j < d ∨ d + k ≤ j) → σ dk j = σA dk j ∧ σ dv j = σA dv j) ∧ ∀ j, 0 ≤ j → j < k → σ dk (d + j) = σA sk j ∧ σ dv (d + j) = σA sv j
theorem CP_0 {σA : qS} {dk dv sk sv : Nat} {d : Int} : CP σA σA dk dv sk sv d 0 := ⟨fun _ _ _ => rfl, fun _ _ => ⟨rfl, rfl⟩, fun j h1 h2 => by omega⟩
theorem CP_s {σA σ : qS} {dk dv sk sv : Nat} {d k : Int} (hn : dk ≠ dv) (h : CP σA σ dk dv sk sv d k) (hk : 0 ≤ k) : CP σA (su (su σ dk (d + k) (σA sk k)) dv (d + k) (σA sv k)) dk dv sk sv d (k + 1) := by
  obtain ⟨h1, h2, h3⟩ := h
  refine ⟨fun q q1 q2 => by rw [su_k q2, su_k q1]; exact h1 q q1 q2, fun j hj => ?_, fun j j0 j1 => ?_⟩
  · rw [su_k hn, su_e, su_e, if_neg (by omega), if_neg (by omega), su_k (Ne.symm hn)]
    exact h2 j (by omega)
  · rw [su_k hn, su_e, su_e, su_k (Ne.symm hn)]
    by_cases e : j = k
    · subst e; rw [if_pos rfl, if_pos rfl]; exact ⟨rfl, rfl⟩
    · rw [if_neg (by omega), if_neg (by omega)]; exact h3 j j0 (by omega)
theorem CP_row {σA σ : qS} {dk dv sk sv : Nat} {b : Int} {E em : List Pr} (h : CP σA σ dk dv sk sv (b + E.length) em.length) (hE : row σA dk dv b E.length = E) (hm : row σA sk sv 0 em.length = em) : row σ dk dv b (E ++ em).length = E ++ em := by
  obtain ⟨h1, h2, h3⟩ := h
  rw [List.length_append, row_app]
  congr 1
  · rw [← hE, row_len]
    exact row_keep (fun i i0 i1 => h2 i (by omega))
  · conv => rhs; rw [← hm]
    unfold row
    apply List.map_congr_left
    intro i hi
    have hi : i < em.length := List.mem_range.mp hi
    obtain ⟨e1, e2⟩ := h3 i (by omega) (by omega)
    rw [e1, e2, Int.zero_add]
theorem EmD_row {σ : qS} {em : List Pr} (h : EmD σ em) : row σ 128 129 0 em.length = em := by
  apply List.ext_getElem?
  intro i
  by_cases hi : i < em.length
  · rw [row_at hi, List.getElem?_eq_getElem hi]
    obtain ⟨e1, e2⟩ := h.2.2 i em[i] (List.getElem?_eq_getElem hi)
    rw [Int.zero_add, e1, e2]
  · rw [row_no hi, List.getElem?_eq_none (by omega)]
def drat (σ : qS) (j i : Int) : Int := if i < σ 102 (σ 108 j) then 300 * σ 108 j + i else 300 * σ 109 j + i - σ 102 (σ 108 j)
def drec (σ : qS) (j i : Int) : Pr := (σ 100 (drat σ j i), σ 101 (drat σ j i))
def drecs (σ : qS) (j fr : Int) (n : Nat) : List Pr := (List.range n).map (fun i : Nat => drec σ j (fr + i))
theorem drecs_s (σ : qS) (j fr : Int) (n : Nat) : drecs σ j fr (n + 1) = drec σ j fr :: drecs σ j (fr + 1) n := by
  unfold drecs
  rw [List.range_succ_eq_map, List.map_cons, List.map_map]
  congr 1
  · simp
  · apply List.map_congr_left
    intro i _
    show drec _ _ _ = drec _ _ _
    congr 1
    simp; omega
def dall (σ : qS) (j : Int) : Int := σ 102 (σ 108 j) + (if σ 109 j < 0 then 0 else σ 102 (σ 109 j))
def djbk (σ : qS) (j : Int) : Prop := (0 ≤ j ∧ j < 8) ∧ (0 ≤ σ 108 j ∧ σ 108 j < 16) ∧ (-1 ≤ σ 109 j ∧ σ 109 j < 16) ∧ ∀ f, 0 ≤ f → f < 16 → 0 ≤ σ 102 f ∧ σ 102 f ≤ 300
def PL (σ : qS) (L : List Pr) : Prop := σ 130 0 = L.length ∧ ∀ (i : Nat) e, L[i]? = some e → i < 4000 → σ 122 i = e.1 ∧ σ 123 i = e.2
def F_dmp (σ σ' : qS) : Prop := ∀ q, q ∉ [126, 127, 128, 129, 131, 120, 121, 122, 123, 130] → σ' q = σ q
def F_ds (σ σ' : qS) : Prop := ∀ q, q ∉ [126, 127, 128, 129, 131, 120, 121] → σ' q = σ q
def P_D_mapped (j fr to : Int) (σ : qS) : Prop := djbk σ j ∧ dprok σ (3 * j) ∧ dprok σ (3 * j + 1) ∧ (0 ≤ fr ∧ fr ≤ to ∧ to ≤ fr + 16 ∧ to ≤ dall σ j) ∧ ∃ L, PL σ L ∧ L.length ≤ 100000
def dspl (σ : qS) (j fr to : Int) : Option (List Pr) := splo (dprg σ (3 * j)) (dprg σ (3 * j + 1)) (drecs σ j fr (to - fr).toNat)
def Q_D_mapped (j fr to : Int) (σ : qS) (r : Int) (σ' : qS) : Prop := F_dmp σ σ' ∧ (match dspl σ j fr to with
  | none => r = 0
  | some out => r = 1 ∧ out.length ≤ 256 ∧ ∀ L, PL σ L → L.length ≤ 100000 → PL σ' (L ++ out))
def pre_D_mapped (av : List qA) (σ : qS) : Prop := match av with
  | [.inr (.inr o), .inl a1, .inl a2, .inl a3] => o = 901 ∧ P_D_mapped a1 a2 a3 σ
  | _ => False
def post_D_mapped (av : List qA) (σ : qS) (r : Option qA) (σ' : qS) : Prop := match av, r with
  | [_, .inl a1, .inl a2, .inl a3], some (.inl r) => Q_D_mapped a1 a2 a3 σ r σ'
  | _, _ => False
def oc_D_mapped (K : qP) : qP := fun st ls σ => match st with
  | .inl a3 :: .inl a2 :: .inl a1 :: .inr (.inr o) :: st => o = 901 ∧ (st.map qcat).sum ≤ 8 ∧ P_D_mapped a1 a2 a3 σ ∧ ∀ (r : Int) (σ' : qS), Q_D_mapped a1 a2 a3 σ r σ' → K (.inl r :: st) ls σ'
  | _ => False
def rm_D_mapped : Room := { frames := 1, cells := 0, slots := 0, locals := 40 }
theorem fl_D_57 : qF R_D 901 1 32 100 R_D F_D 57 20 := ⟨Or.inr ⟨rfl, rfl, rfl, rfl, rfl, rfl⟩, by decide, lw_at 809 (by decide +kernel) rfl⟩
theorem fl_D_60 : qF R_D 901 1 32 100 R_D F_D 60 21 := ⟨Or.inr ⟨rfl, rfl, rfl, rfl, rfl, rfl⟩, by decide, lw_at 810 (by decide +kernel) rfl⟩
set_option maxRecDepth 100000 in
theorem ic_D_call : lw_tbl[961]? = some (Cond.code y_D_call b_D_call 21 (some .boolean)) := by rfl
theorem sc_D_94 {l : Launch} {R : Room} {ad : Nat → Nat} {D : va_G} {cA : Nat → ClassId} {cc : ByteArray} {nL : Nat} {WW : Nat → qP} (S : qSnd l R ad D cA R_D cc nL WW) (hR : rm_D_call.frames + 1 ≤ R.frames ∧ 8 + (21 + 11) + rm_D_call.locals ≤ R.locals) {K : qP} {pc : Nat} (d : decode cc pc = .ok (.invokevirtual 94, 3)) (h : qle K WW (pc + 3)) : qle (oc_D_call K) WW pc := by
  intro st ls σ k
  refine S.callV (o := 901) (ci := 1) (N := 32) (base := 100) (C := R_D) (T := F_D) (n := 7) (pre := pre_D_call) (post := post_D_call) (Or.inr ⟨rfl, rfl, rfl, rfl, rfl, rfl⟩) ⟨lw_at 961 ic_D_call rfl, lw_at 958 (by decide +kernel) rfl, lw_at 60 (by decide +kernel) rfl, by decide, by decide, by decide +kernel⟩ ⟨lw_at 960 (by decide +kernel) rfl, lw_at 56 (by decide +kernel) rfl⟩ ⟨rfl, rfl⟩ hR (c_D_call l ad D cA) ?_ d h st ls σ ?_
  · intro av σ h; unfold pre_D_call at h; split at h
    · obtain ⟨rfl, h⟩ := h; exact ⟨_, rfl⟩
    · exact h.elim
  · unfold oc_D_call at k
    split at k
    next a7 a6 a5 a4 a3 a2 a1 o st =>
      obtain ⟨rfl, hs, hp, k⟩ := k
      refine ⟨[.inr (.inr 901), .inl a1, .inl a2, .inl a3, .inr (.inl a4), .inr (.inr a5), .inl a6, .inl a7], st, rfl, rfl, hs, ⟨rfl, hp⟩, fun r σ' hq => ?_⟩
      unfold post_D_call at hq
      split at hq
      next h1 =>
        cases h1
        exact k _ _ hq
      next => exact hq.elim
    next => exact k.elim
theorem sc_D_102 {l : Launch} {R : Room} {ad : Nat → Nat} {D : va_G} {cA : Nat → ClassId} {cc : ByteArray} {nL : Nat} {WW : Nat → qP} (S : qSnd l R ad D cA R_D cc nL WW) (hR : rm_D_pair.frames + 1 ≤ R.frames ∧ 8 + (5 + 11) + rm_D_pair.locals ≤ R.locals) {K : qP} {pc : Nat} (d : decode cc pc = .ok (.invokevirtual 102, 3)) (h : qle K WW (pc + 3)) : qle (oc_D_pair K) WW pc := by
  intro st ls σ k
  refine S.callV (o := 901) (ci := 1) (N := 32) (base := 100) (C := R_D) (T := F_D) (n := 2) (pre := pre_D_pair) (post := post_D_pair) (Or.inr ⟨rfl, rfl, rfl, rfl, rfl, rfl⟩) ⟨lw_at 968 (by decide +kernel) rfl, lw_at 965 (by decide +kernel) rfl, lw_at 60 (by decide +kernel) rfl, by decide, by decide, by decide +kernel⟩ ⟨lw_at 967 (by decide +kernel) rfl, lw_at 57 (by decide +kernel) rfl⟩ ⟨rfl, rfl⟩ hR (c_D_pair l ad D cA) ?_ d h st ls σ ?_
  · intro av σ h; unfold pre_D_pair at h; split at h
    · obtain ⟨rfl, h⟩ := h; exact ⟨_, rfl⟩
    · exact h.elim
  · unfold oc_D_pair at k
    split at k
    next a2 a1 o st =>
      obtain ⟨rfl, hs, hp, k⟩ := k
      refine ⟨[.inr (.inr 901), .inr (.inl a1), .inr (.inl a2)], st, rfl, rfl, hs, ⟨rfl, hp⟩, fun r σ' hq => ?_⟩
      unfold post_D_pair at hq
      split at hq
      next h1 =>
        cases h1
        exact k _ hq
      next => exact hq.elim
    next => exact k.elim
theorem sc_D_98 {l : Launch} {R : Room} {ad : Nat → Nat} {D : va_G} {cA : Nat → ClassId} {cc : ByteArray} {nL : Nat} {WW : Nat → qP} (S : qSnd l R ad D cA R_D cc nL WW) (hR : rm_D_sort.frames + 1 ≤ R.frames ∧ 8 + (10 + 11) + rm_D_sort.locals ≤ R.locals) {K : qP} {pc : Nat} (d : decode cc pc = .ok (.invokestatic 98, 3)) (h : qle K WW (pc + 3)) : qle (oc_D_sort K) WW pc := by
  intro st ls σ k
  refine S.callS (n := 4) (pre := pre_D_sort) (post := post_D_sort) ⟨lw_at 964 (by decide +kernel) rfl, lw_at 962 (by decide +kernel) rfl, lw_at 60 (by decide +kernel) rfl, by decide, by decide, by decide +kernel⟩ (lw_at 963 (by decide +kernel) rfl) ⟨rfl, rfl⟩ hR (c_D_sort l ad D cA) d h st ls σ ?_
  unfold oc_D_sort at k
  split at k
  next a4 a3 a2 a1 st =>
    obtain ⟨hs, hp, k⟩ := k
    refine ⟨[.inr (.inr a1), .inr (.inr a2), .inl a3, .inl a4], st, rfl, rfl, hs, hp, fun r σ' hq => ?_⟩
    unfold post_D_sort at hq
    split at hq
    next h1 =>
      cases h1
      exact k _ hq
    next => exact hq.elim
  next => exact k.elim
def k_D_mapped_339 (QR : Option qA → qS → Prop) (H : Nat → qP) : qP :=
  o_c (.inl 1) <| o_rz QR
def k_D_mapped_332 (QR : Option qA → qS → Prop) (H : Nat → qP) : qP :=
  o_il 6 <| o_is 5 <| H 223
def k_D_mapped_308 (QR : Option qA → qS → Prop) (H : Nat → qP) : qP :=
  o_al 0 <| o_al 0 <| o_gA 901 128 <| o_il 7 <| o_jak 128 4 <| o_al 0 <| o_gA 901 129 <| o_il 7 <| o_jak 129 4 <| oc_D_pair <| o_inc 7 1 <| H 299
def k_D_mapped_299 (QR : Option qA → qS → Prop) (H : Nat → qP) : qP :=
  o_il 7 <| o_al 0 <| o_gI 901 131 <| o_i2 (fun a b => b ≤ a) (k_D_mapped_332 QR H) (k_D_mapped_308 QR H)
def k_D_mapped_296 (QR : Option qA → qS → Prop) (H : Nat → qP) : qP :=
  o_c (.inl 0) <| o_is 7 <| H 299
def k_D_mapped_294 (QR : Option qA → qS → Prop) (H : Nat → qP) : qP :=
  o_c (.inl 0) <| o_rz QR
def k_D_mapped_265 (QR : Option qA → qS → Prop) (H : Nat → qP) : qP :=
  o_al 0 <| o_c (.inl 3) <| o_il 1 <| o_bi z_mul <| o_c (.inl 1) <| o_bi z_add <| o_c (.inl 0) <| o_c (.inl 1) <| o_al 0 <| o_gA 901 120 <| o_il 5 <| o_jak 120 200 <| o_al 0 <| o_gA 901 121 <| o_il 5 <| o_il 6 <| oc_D_call <| o_if (fun a => ¬ a = 0) (H 296) (k_D_mapped_294 QR H)
def k_D_mapped_259 (QR : Option qA → qS → Prop) (H : Nat → qP) : qP :=
  o_inc 6 1 <| H 234
def k_D_mapped_241 (QR : Option qA → qS → Prop) (H : Nat → qP) : qP :=
  o_al 0 <| o_gA 901 120 <| o_il 6 <| o_jak 120 200 <| o_al 0 <| o_gA 901 120 <| o_il 5 <| o_jak 120 200 <| o_l2 (fun a b => ¬ a = b) (H 265) (k_D_mapped_259 QR H)
def k_D_mapped_234 (QR : Option qA → qS → Prop) (H : Nat → qP) : qP :=
  o_il 6 <| o_il 4 <| o_i2 (fun a b => b ≤ a) (H 265) (k_D_mapped_241 QR H)
def k_D_mapped_230 (QR : Option qA → qS → Prop) (H : Nat → qP) : qP :=
  o_il 5 <| o_is 6 <| H 234
def k_D_mapped_223 (QR : Option qA → qS → Prop) (H : Nat → qP) : qP :=
  o_il 5 <| o_il 4 <| o_i2 (fun a b => b ≤ a) (k_D_mapped_339 QR H) (k_D_mapped_230 QR H)
def k_D_mapped_220 (QR : Option qA → qS → Prop) (H : Nat → qP) : qP :=
  o_c (.inl 0) <| o_is 5 <| H 223
def k_D_mapped_218 (QR : Option qA → qS → Prop) (H : Nat → qP) : qP :=
  o_c (.inl 1) <| o_rz QR
def k_D_mapped_194 (QR : Option qA → qS → Prop) (H : Nat → qP) : qP :=
  o_al 0 <| o_al 0 <| o_gA 901 120 <| o_il 5 <| o_jak 120 200 <| o_al 0 <| o_gA 901 121 <| o_il 5 <| o_jak 121 200 <| oc_D_pair <| o_inc 5 1 <| H 187
def k_D_mapped_187 (QR : Option qA → qS → Prop) (H : Nat → qP) : qP :=
  o_il 5 <| o_il 4 <| o_i2 (fun a b => b ≤ a) (k_D_mapped_218 QR H) (k_D_mapped_194 QR H)
def k_D_mapped_184 (QR : Option qA → qS → Prop) (H : Nat → qP) : qP :=
  o_c (.inl 0) <| o_is 5 <| H 187
def k_D_mapped_157 (QR : Option qA → qS → Prop) (H : Nat → qP) : qP :=
  o_al 0 <| o_gA 901 120 <| o_al 0 <| o_gA 901 121 <| o_c (.inl 0) <| o_il 4 <| oc_D_sort <| o_al 0 <| o_gA 901 104 <| o_c (.inl 3) <| o_il 1 <| o_bi z_mul <| o_c (.inl 1) <| o_bi z_add <| o_iak 104 24 <| o_if (fun a => ¬ a = 0) (k_D_mapped_220 QR H) (k_D_mapped_184 QR H)
def k_D_mapped_151 (QR : Option qA → qS → Prop) (H : Nat → qP) : qP :=
  o_inc 5 1 <| H 6
def k_D_mapped_114 (QR : Option qA → qS → Prop) (H : Nat → qP) : qP :=
  o_al 0 <| o_gA 901 120 <| o_il 4 <| o_al 0 <| o_gA 901 128 <| o_il 7 <| o_jak 128 4 <| o_jsk 120 200 <| o_al 0 <| o_gA 901 121 <| o_il 4 <| o_al 0 <| o_gA 901 129 <| o_il 7 <| o_jak 129 4 <| o_jsk 121 200 <| o_inc 4 1 <| o_inc 7 1 <| H 105
def k_D_mapped_105 (QR : Option qA → qS → Prop) (H : Nat → qP) : qP :=
  o_il 7 <| o_al 0 <| o_gI 901 131 <| o_i2 (fun a b => b ≤ a) (k_D_mapped_151 QR H) (k_D_mapped_114 QR H)
def k_D_mapped_102 (QR : Option qA → qS → Prop) (H : Nat → qP) : qP :=
  o_c (.inl 0) <| o_is 7 <| H 105
def k_D_mapped_100 (QR : Option qA → qS → Prop) (H : Nat → qP) : qP :=
  o_c (.inl 0) <| o_rz QR
def k_D_mapped_69 (QR : Option qA → qS → Prop) (H : Nat → qP) : qP :=
  o_is 6 <| o_al 0 <| o_c (.inl 3) <| o_il 1 <| o_bi z_mul <| o_c (.inl 1) <| o_c (.inl 0) <| o_al 0 <| o_gA 901 100 <| o_il 6 <| o_jak 100 4800 <| o_al 0 <| o_gA 901 101 <| o_il 6 <| o_il 6 <| o_c (.inl 1) <| o_bi z_add <| oc_D_call <| o_if (fun a => ¬ a = 0) (k_D_mapped_102 QR H) (k_D_mapped_100 QR H)
def k_D_mapped_44 (QR : Option qA → qS → Prop) (H : Nat → qP) : qP :=
  o_c (.inl 300) <| o_al 0 <| o_gA 901 109 <| o_il 1 <| o_iak 109 8 <| o_bi z_mul <| o_il 5 <| o_bi z_add <| o_al 0 <| o_gA 901 102 <| o_al 0 <| o_gA 901 108 <| o_il 1 <| o_iak 108 8 <| o_iak 102 16 <| o_bi z_sub <| k_D_mapped_69 QR H
def k_D_mapped_28 (QR : Option qA → qS → Prop) (H : Nat → qP) : qP :=
  o_c (.inl 300) <| o_al 0 <| o_gA 901 108 <| o_il 1 <| o_iak 108 8 <| o_bi z_mul <| o_il 5 <| o_bi z_add <| k_D_mapped_69 QR H
def k_D_mapped_12 (QR : Option qA → qS → Prop) (H : Nat → qP) : qP :=
  o_il 5 <| o_al 0 <| o_gA 901 102 <| o_al 0 <| o_gA 901 108 <| o_il 1 <| o_iak 108 8 <| o_iak 102 16 <| o_i2 (fun a b => b ≤ a) (k_D_mapped_44 QR H) (k_D_mapped_28 QR H)
def k_D_mapped_6 (QR : Option qA → qS → Prop) (H : Nat → qP) : qP :=
  o_il 5 <| o_il 3 <| o_i2 (fun a b => b ≤ a) (H 157) (k_D_mapped_12 QR H)
def k_D_mapped_0 (QR : Option qA → qS → Prop) (H : Nat → qP) : qP :=
  o_c (.inl 0) <| o_is 4 <| o_il 2 <| o_is 5 <| H 6
set_option maxRecDepth 8000 in
theorem s_D_mapped_339 {l : Launch} {ad : Nat → Nat} {D : va_G} {cA : Nat → ClassId} {WW : Nat → qP} {QR : Option qA → qS → Prop} (S : qSnd l rm_D_mapped ad D cA R_D b_D_mapped 8 WW) (Q : qRet (some .boolean) b_D_mapped WW QR) : qle (k_D_mapped_339 QR WW) WW 339 :=
  S.iconst d_D_mapped_339 (by decide) <| Q.2.1 rfl _ d_D_mapped_340
set_option maxRecDepth 8000 in
theorem s_D_mapped_332 {l : Launch} {ad : Nat → Nat} {D : va_G} {cA : Nat → ClassId} {WW : Nat → qP} {QR : Option qA → qS → Prop} (S : qSnd l rm_D_mapped ad D cA R_D b_D_mapped 8 WW) (Q : qRet (some .boolean) b_D_mapped WW QR) : qle (k_D_mapped_332 QR WW) WW 332 :=
  S.iload d_D_mapped_332 <| S.istore d_D_mapped_334 (by decide) <| S.goto d_D_mapped_336 (by decide) (fun _ _ _ h => h)
set_option maxRecDepth 8000 in
theorem s_D_mapped_308 {l : Launch} {ad : Nat → Nat} {D : va_G} {cA : Nat → ClassId} {WW : Nat → qP} {QR : Option qA → qS → Prop} (S : qSnd l rm_D_mapped ad D cA R_D b_D_mapped 8 WW) (Q : qRet (some .boolean) b_D_mapped WW QR) : qle (k_D_mapped_308 QR WW) WW 308 :=
  S.aload_n d_D_mapped_308 rfl <| S.aload_n d_D_mapped_309 rfl <| S.gA fl_D_81 (by decide) d_D_mapped_310 <| S.iload d_D_mapped_313 <| S.jak (by decide) d_D_mapped_315 <| S.aload_n d_D_mapped_316 rfl <| S.gA fl_D_84 (by decide) d_D_mapped_317 <| S.iload d_D_mapped_320 <| S.jak (by decide) d_D_mapped_322 <| sc_D_102 S (by decide) d_D_mapped_323 <| S.iinc d_D_mapped_326 (by decide) <| S.goto d_D_mapped_329 (by decide) (fun _ _ _ h => h)
set_option maxRecDepth 8000 in
theorem s_D_mapped_299 {l : Launch} {ad : Nat → Nat} {D : va_G} {cA : Nat → ClassId} {WW : Nat → qP} {QR : Option qA → qS → Prop} (S : qSnd l rm_D_mapped ad D cA R_D b_D_mapped 8 WW) (Q : qRet (some .boolean) b_D_mapped WW QR) : qle (k_D_mapped_299 QR WW) WW 299 :=
  S.iload d_D_mapped_299 <| S.aload_n d_D_mapped_301 rfl <| S.gI fl_D_91 (by decide) d_D_mapped_302 <| S.icmp_ge d_D_mapped_305 (by decide) (s_D_mapped_332 S Q) (s_D_mapped_308 S Q)
set_option maxRecDepth 8000 in
theorem s_D_mapped_296 {l : Launch} {ad : Nat → Nat} {D : va_G} {cA : Nat → ClassId} {WW : Nat → qP} {QR : Option qA → qS → Prop} (S : qSnd l rm_D_mapped ad D cA R_D b_D_mapped 8 WW) (Q : qRet (some .boolean) b_D_mapped WW QR) : qle (k_D_mapped_296 QR WW) WW 296 :=
  S.iconst d_D_mapped_296 (by decide) <| S.istore d_D_mapped_297 (by decide) <| (fun _ _ _ h => h)
set_option maxRecDepth 8000 in
theorem s_D_mapped_294 {l : Launch} {ad : Nat → Nat} {D : va_G} {cA : Nat → ClassId} {WW : Nat → qP} {QR : Option qA → qS → Prop} (S : qSnd l rm_D_mapped ad D cA R_D b_D_mapped 8 WW) (Q : qRet (some .boolean) b_D_mapped WW QR) : qle (k_D_mapped_294 QR WW) WW 294 :=
  S.iconst d_D_mapped_294 (by decide) <| Q.2.1 rfl _ d_D_mapped_295
set_option maxRecDepth 8000 in
theorem s_D_mapped_265 {l : Launch} {ad : Nat → Nat} {D : va_G} {cA : Nat → ClassId} {WW : Nat → qP} {QR : Option qA → qS → Prop} (S : qSnd l rm_D_mapped ad D cA R_D b_D_mapped 8 WW) (Q : qRet (some .boolean) b_D_mapped WW QR) : qle (k_D_mapped_265 QR WW) WW 265 :=
  S.aload_n d_D_mapped_265 rfl <| S.iconst d_D_mapped_266 (by decide) <| S.iload_n d_D_mapped_267 rfl <| S.imul d_D_mapped_268 <| S.iconst d_D_mapped_269 (by decide) <| S.iadd d_D_mapped_270 <| S.iconst d_D_mapped_271 (by decide) <| S.iconst d_D_mapped_272 (by decide) <| S.aload_n d_D_mapped_273 rfl <| S.gA fl_D_57 (by decide) d_D_mapped_274 <| S.iload d_D_mapped_277 <| S.jak (by decide) d_D_mapped_279 <| S.aload_n d_D_mapped_280 rfl <| S.gA fl_D_60 (by decide) d_D_mapped_281 <| S.iload d_D_mapped_284 <| S.iload d_D_mapped_286 <| sc_D_94 S (by decide) d_D_mapped_288 <| S.if_ne d_D_mapped_291 (by decide) (fun _ _ _ h => h) (s_D_mapped_294 S Q)
set_option maxRecDepth 8000 in
theorem s_D_mapped_259 {l : Launch} {ad : Nat → Nat} {D : va_G} {cA : Nat → ClassId} {WW : Nat → qP} {QR : Option qA → qS → Prop} (S : qSnd l rm_D_mapped ad D cA R_D b_D_mapped 8 WW) (Q : qRet (some .boolean) b_D_mapped WW QR) : qle (k_D_mapped_259 QR WW) WW 259 :=
  S.iinc d_D_mapped_259 (by decide) <| S.goto d_D_mapped_262 (by decide) (fun _ _ _ h => h)
set_option maxRecDepth 8000 in
theorem s_D_mapped_241 {l : Launch} {ad : Nat → Nat} {D : va_G} {cA : Nat → ClassId} {WW : Nat → qP} {QR : Option qA → qS → Prop} (S : qSnd l rm_D_mapped ad D cA R_D b_D_mapped 8 WW) (Q : qRet (some .boolean) b_D_mapped WW QR) : qle (k_D_mapped_241 QR WW) WW 241 :=
  S.aload_n d_D_mapped_241 rfl <| S.gA fl_D_57 (by decide) d_D_mapped_242 <| S.iload d_D_mapped_245 <| S.jak (by decide) d_D_mapped_247 <| S.aload_n d_D_mapped_248 rfl <| S.gA fl_D_57 (by decide) d_D_mapped_249 <| S.iload d_D_mapped_252 <| S.jak (by decide) d_D_mapped_254 <| S.lcmp_ne d_D_mapped_255 d_D_mapped_256 (by decide) (fun _ _ _ h => h) (s_D_mapped_259 S Q)
set_option maxRecDepth 8000 in
theorem s_D_mapped_234 {l : Launch} {ad : Nat → Nat} {D : va_G} {cA : Nat → ClassId} {WW : Nat → qP} {QR : Option qA → qS → Prop} (S : qSnd l rm_D_mapped ad D cA R_D b_D_mapped 8 WW) (Q : qRet (some .boolean) b_D_mapped WW QR) : qle (k_D_mapped_234 QR WW) WW 234 :=
  S.iload d_D_mapped_234 <| S.iload d_D_mapped_236 <| S.icmp_ge d_D_mapped_238 (by decide) (fun _ _ _ h => h) (s_D_mapped_241 S Q)
set_option maxRecDepth 8000 in
theorem s_D_mapped_230 {l : Launch} {ad : Nat → Nat} {D : va_G} {cA : Nat → ClassId} {WW : Nat → qP} {QR : Option qA → qS → Prop} (S : qSnd l rm_D_mapped ad D cA R_D b_D_mapped 8 WW) (Q : qRet (some .boolean) b_D_mapped WW QR) : qle (k_D_mapped_230 QR WW) WW 230 :=
  S.iload d_D_mapped_230 <| S.istore d_D_mapped_232 (by decide) <| (fun _ _ _ h => h)
set_option maxRecDepth 8000 in
theorem s_D_mapped_223 {l : Launch} {ad : Nat → Nat} {D : va_G} {cA : Nat → ClassId} {WW : Nat → qP} {QR : Option qA → qS → Prop} (S : qSnd l rm_D_mapped ad D cA R_D b_D_mapped 8 WW) (Q : qRet (some .boolean) b_D_mapped WW QR) : qle (k_D_mapped_223 QR WW) WW 223 :=
  S.iload d_D_mapped_223 <| S.iload d_D_mapped_225 <| S.icmp_ge d_D_mapped_227 (by decide) (s_D_mapped_339 S Q) (s_D_mapped_230 S Q)
set_option maxRecDepth 8000 in
theorem s_D_mapped_220 {l : Launch} {ad : Nat → Nat} {D : va_G} {cA : Nat → ClassId} {WW : Nat → qP} {QR : Option qA → qS → Prop} (S : qSnd l rm_D_mapped ad D cA R_D b_D_mapped 8 WW) (Q : qRet (some .boolean) b_D_mapped WW QR) : qle (k_D_mapped_220 QR WW) WW 220 :=
  S.iconst d_D_mapped_220 (by decide) <| S.istore d_D_mapped_221 (by decide) <| (fun _ _ _ h => h)
set_option maxRecDepth 8000 in
theorem s_D_mapped_218 {l : Launch} {ad : Nat → Nat} {D : va_G} {cA : Nat → ClassId} {WW : Nat → qP} {QR : Option qA → qS → Prop} (S : qSnd l rm_D_mapped ad D cA R_D b_D_mapped 8 WW) (Q : qRet (some .boolean) b_D_mapped WW QR) : qle (k_D_mapped_218 QR WW) WW 218 :=
  S.iconst d_D_mapped_218 (by decide) <| Q.2.1 rfl _ d_D_mapped_219
set_option maxRecDepth 8000 in
theorem s_D_mapped_194 {l : Launch} {ad : Nat → Nat} {D : va_G} {cA : Nat → ClassId} {WW : Nat → qP} {QR : Option qA → qS → Prop} (S : qSnd l rm_D_mapped ad D cA R_D b_D_mapped 8 WW) (Q : qRet (some .boolean) b_D_mapped WW QR) : qle (k_D_mapped_194 QR WW) WW 194 :=
  S.aload_n d_D_mapped_194 rfl <| S.aload_n d_D_mapped_195 rfl <| S.gA fl_D_57 (by decide) d_D_mapped_196 <| S.iload d_D_mapped_199 <| S.jak (by decide) d_D_mapped_201 <| S.aload_n d_D_mapped_202 rfl <| S.gA fl_D_60 (by decide) d_D_mapped_203 <| S.iload d_D_mapped_206 <| S.jak (by decide) d_D_mapped_208 <| sc_D_102 S (by decide) d_D_mapped_209 <| S.iinc d_D_mapped_212 (by decide) <| S.goto d_D_mapped_215 (by decide) (fun _ _ _ h => h)
set_option maxRecDepth 8000 in
theorem s_D_mapped_187 {l : Launch} {ad : Nat → Nat} {D : va_G} {cA : Nat → ClassId} {WW : Nat → qP} {QR : Option qA → qS → Prop} (S : qSnd l rm_D_mapped ad D cA R_D b_D_mapped 8 WW) (Q : qRet (some .boolean) b_D_mapped WW QR) : qle (k_D_mapped_187 QR WW) WW 187 :=
  S.iload d_D_mapped_187 <| S.iload d_D_mapped_189 <| S.icmp_ge d_D_mapped_191 (by decide) (s_D_mapped_218 S Q) (s_D_mapped_194 S Q)
set_option maxRecDepth 8000 in
theorem s_D_mapped_184 {l : Launch} {ad : Nat → Nat} {D : va_G} {cA : Nat → ClassId} {WW : Nat → qP} {QR : Option qA → qS → Prop} (S : qSnd l rm_D_mapped ad D cA R_D b_D_mapped 8 WW) (Q : qRet (some .boolean) b_D_mapped WW QR) : qle (k_D_mapped_184 QR WW) WW 184 :=
  S.iconst d_D_mapped_184 (by decide) <| S.istore d_D_mapped_185 (by decide) <| (fun _ _ _ h => h)
set_option maxRecDepth 8000 in
theorem s_D_mapped_157 {l : Launch} {ad : Nat → Nat} {D : va_G} {cA : Nat → ClassId} {WW : Nat → qP} {QR : Option qA → qS → Prop} (S : qSnd l rm_D_mapped ad D cA R_D b_D_mapped 8 WW) (Q : qRet (some .boolean) b_D_mapped WW QR) : qle (k_D_mapped_157 QR WW) WW 157 :=
  S.aload_n d_D_mapped_157 rfl <| S.gA fl_D_57 (by decide) d_D_mapped_158 <| S.aload_n d_D_mapped_161 rfl <| S.gA fl_D_60 (by decide) d_D_mapped_162 <| S.iconst d_D_mapped_165 (by decide) <| S.iload d_D_mapped_166 <| sc_D_98 S (by decide) d_D_mapped_168 <| S.aload_n d_D_mapped_171 rfl <| S.gA fl_D_23 (by decide) d_D_mapped_172 <| S.iconst d_D_mapped_175 (by decide) <| S.iload_n d_D_mapped_176 rfl <| S.imul d_D_mapped_177 <| S.iconst d_D_mapped_178 (by decide) <| S.iadd d_D_mapped_179 <| S.iak (by decide) d_D_mapped_180 <| S.if_ne d_D_mapped_181 (by decide) (s_D_mapped_220 S Q) (s_D_mapped_184 S Q)
set_option maxRecDepth 8000 in
theorem s_D_mapped_151 {l : Launch} {ad : Nat → Nat} {D : va_G} {cA : Nat → ClassId} {WW : Nat → qP} {QR : Option qA → qS → Prop} (S : qSnd l rm_D_mapped ad D cA R_D b_D_mapped 8 WW) (Q : qRet (some .boolean) b_D_mapped WW QR) : qle (k_D_mapped_151 QR WW) WW 151 :=
  S.iinc d_D_mapped_151 (by decide) <| S.goto d_D_mapped_154 (by decide) (fun _ _ _ h => h)
set_option maxRecDepth 8000 in
theorem s_D_mapped_114 {l : Launch} {ad : Nat → Nat} {D : va_G} {cA : Nat → ClassId} {WW : Nat → qP} {QR : Option qA → qS → Prop} (S : qSnd l rm_D_mapped ad D cA R_D b_D_mapped 8 WW) (Q : qRet (some .boolean) b_D_mapped WW QR) : qle (k_D_mapped_114 QR WW) WW 114 :=
  S.aload_n d_D_mapped_114 rfl <| S.gA fl_D_57 (by decide) d_D_mapped_115 <| S.iload d_D_mapped_118 <| S.aload_n d_D_mapped_120 rfl <| S.gA fl_D_81 (by decide) d_D_mapped_121 <| S.iload d_D_mapped_124 <| S.jak (by decide) d_D_mapped_126 <| S.jsk (by decide) d_D_mapped_127 <| S.aload_n d_D_mapped_128 rfl <| S.gA fl_D_60 (by decide) d_D_mapped_129 <| S.iload d_D_mapped_132 <| S.aload_n d_D_mapped_134 rfl <| S.gA fl_D_84 (by decide) d_D_mapped_135 <| S.iload d_D_mapped_138 <| S.jak (by decide) d_D_mapped_140 <| S.jsk (by decide) d_D_mapped_141 <| S.iinc d_D_mapped_142 (by decide) <| S.iinc d_D_mapped_145 (by decide) <| S.goto d_D_mapped_148 (by decide) (fun _ _ _ h => h)
set_option maxRecDepth 8000 in
theorem s_D_mapped_105 {l : Launch} {ad : Nat → Nat} {D : va_G} {cA : Nat → ClassId} {WW : Nat → qP} {QR : Option qA → qS → Prop} (S : qSnd l rm_D_mapped ad D cA R_D b_D_mapped 8 WW) (Q : qRet (some .boolean) b_D_mapped WW QR) : qle (k_D_mapped_105 QR WW) WW 105 :=
  S.iload d_D_mapped_105 <| S.aload_n d_D_mapped_107 rfl <| S.gI fl_D_91 (by decide) d_D_mapped_108 <| S.icmp_ge d_D_mapped_111 (by decide) (s_D_mapped_151 S Q) (s_D_mapped_114 S Q)
set_option maxRecDepth 8000 in
theorem s_D_mapped_102 {l : Launch} {ad : Nat → Nat} {D : va_G} {cA : Nat → ClassId} {WW : Nat → qP} {QR : Option qA → qS → Prop} (S : qSnd l rm_D_mapped ad D cA R_D b_D_mapped 8 WW) (Q : qRet (some .boolean) b_D_mapped WW QR) : qle (k_D_mapped_102 QR WW) WW 102 :=
  S.iconst d_D_mapped_102 (by decide) <| S.istore d_D_mapped_103 (by decide) <| (fun _ _ _ h => h)
set_option maxRecDepth 8000 in
theorem s_D_mapped_100 {l : Launch} {ad : Nat → Nat} {D : va_G} {cA : Nat → ClassId} {WW : Nat → qP} {QR : Option qA → qS → Prop} (S : qSnd l rm_D_mapped ad D cA R_D b_D_mapped 8 WW) (Q : qRet (some .boolean) b_D_mapped WW QR) : qle (k_D_mapped_100 QR WW) WW 100 :=
  S.iconst d_D_mapped_100 (by decide) <| Q.2.1 rfl _ d_D_mapped_101
set_option maxRecDepth 8000 in
theorem s_D_mapped_69 {l : Launch} {ad : Nat → Nat} {D : va_G} {cA : Nat → ClassId} {WW : Nat → qP} {QR : Option qA → qS → Prop} (S : qSnd l rm_D_mapped ad D cA R_D b_D_mapped 8 WW) (Q : qRet (some .boolean) b_D_mapped WW QR) : qle (k_D_mapped_69 QR WW) WW 69 :=
  S.istore d_D_mapped_69 (by decide) <| S.aload_n d_D_mapped_71 rfl <| S.iconst d_D_mapped_72 (by decide) <| S.iload_n d_D_mapped_73 rfl <| S.imul d_D_mapped_74 <| S.iconst d_D_mapped_75 (by decide) <| S.iconst d_D_mapped_76 (by decide) <| S.aload_n d_D_mapped_77 rfl <| S.gA fl_D_9 (by decide) d_D_mapped_78 <| S.iload d_D_mapped_81 <| S.jak (by decide) d_D_mapped_83 <| S.aload_n d_D_mapped_84 rfl <| S.gA fl_D_13 (by decide) d_D_mapped_85 <| S.iload d_D_mapped_88 <| S.iload d_D_mapped_90 <| S.iconst d_D_mapped_92 (by decide) <| S.iadd d_D_mapped_93 <| sc_D_94 S (by decide) d_D_mapped_94 <| S.if_ne d_D_mapped_97 (by decide) (s_D_mapped_102 S Q) (s_D_mapped_100 S Q)
set_option maxRecDepth 8000 in
theorem s_D_mapped_44 {l : Launch} {ad : Nat → Nat} {D : va_G} {cA : Nat → ClassId} {WW : Nat → qP} {QR : Option qA → qS → Prop} (S : qSnd l rm_D_mapped ad D cA R_D b_D_mapped 8 WW) (Q : qRet (some .boolean) b_D_mapped WW QR) : qle (k_D_mapped_44 QR WW) WW 44 :=
  S.sipush d_D_mapped_44 (by decide) <| S.aload_n d_D_mapped_47 rfl <| S.gA fl_D_38 (by decide) d_D_mapped_48 <| S.iload_n d_D_mapped_51 rfl <| S.iak (by decide) d_D_mapped_52 <| S.imul d_D_mapped_53 <| S.iload d_D_mapped_54 <| S.iadd d_D_mapped_56 <| S.aload_n d_D_mapped_57 rfl <| S.gA fl_D_16 (by decide) d_D_mapped_58 <| S.aload_n d_D_mapped_61 rfl <| S.gA fl_D_35 (by decide) d_D_mapped_62 <| S.iload_n d_D_mapped_65 rfl <| S.iak (by decide) d_D_mapped_66 <| S.iak (by decide) d_D_mapped_67 <| S.isub d_D_mapped_68 <| (s_D_mapped_69 S Q)
set_option maxRecDepth 8000 in
theorem s_D_mapped_28 {l : Launch} {ad : Nat → Nat} {D : va_G} {cA : Nat → ClassId} {WW : Nat → qP} {QR : Option qA → qS → Prop} (S : qSnd l rm_D_mapped ad D cA R_D b_D_mapped 8 WW) (Q : qRet (some .boolean) b_D_mapped WW QR) : qle (k_D_mapped_28 QR WW) WW 28 :=
  S.sipush d_D_mapped_28 (by decide) <| S.aload_n d_D_mapped_31 rfl <| S.gA fl_D_35 (by decide) d_D_mapped_32 <| S.iload_n d_D_mapped_35 rfl <| S.iak (by decide) d_D_mapped_36 <| S.imul d_D_mapped_37 <| S.iload d_D_mapped_38 <| S.iadd d_D_mapped_40 <| S.goto d_D_mapped_41 (by decide) (s_D_mapped_69 S Q)
set_option maxRecDepth 8000 in
theorem s_D_mapped_12 {l : Launch} {ad : Nat → Nat} {D : va_G} {cA : Nat → ClassId} {WW : Nat → qP} {QR : Option qA → qS → Prop} (S : qSnd l rm_D_mapped ad D cA R_D b_D_mapped 8 WW) (Q : qRet (some .boolean) b_D_mapped WW QR) : qle (k_D_mapped_12 QR WW) WW 12 :=
  S.iload d_D_mapped_12 <| S.aload_n d_D_mapped_14 rfl <| S.gA fl_D_16 (by decide) d_D_mapped_15 <| S.aload_n d_D_mapped_18 rfl <| S.gA fl_D_35 (by decide) d_D_mapped_19 <| S.iload_n d_D_mapped_22 rfl <| S.iak (by decide) d_D_mapped_23 <| S.iak (by decide) d_D_mapped_24 <| S.icmp_ge d_D_mapped_25 (by decide) (s_D_mapped_44 S Q) (s_D_mapped_28 S Q)
set_option maxRecDepth 8000 in
theorem s_D_mapped_6 {l : Launch} {ad : Nat → Nat} {D : va_G} {cA : Nat → ClassId} {WW : Nat → qP} {QR : Option qA → qS → Prop} (S : qSnd l rm_D_mapped ad D cA R_D b_D_mapped 8 WW) (Q : qRet (some .boolean) b_D_mapped WW QR) : qle (k_D_mapped_6 QR WW) WW 6 :=
  S.iload d_D_mapped_6 <| S.iload_n d_D_mapped_8 rfl <| S.icmp_ge d_D_mapped_9 (by decide) (fun _ _ _ h => h) (s_D_mapped_12 S Q)
set_option maxRecDepth 8000 in
theorem s_D_mapped_0 {l : Launch} {ad : Nat → Nat} {D : va_G} {cA : Nat → ClassId} {WW : Nat → qP} {QR : Option qA → qS → Prop} (S : qSnd l rm_D_mapped ad D cA R_D b_D_mapped 8 WW) (Q : qRet (some .boolean) b_D_mapped WW QR) : qle (k_D_mapped_0 QR WW) WW 0 :=
  S.iconst d_D_mapped_0 (by decide) <| S.istore d_D_mapped_1 (by decide) <| S.iload_n d_D_mapped_3 rfl <| S.istore d_D_mapped_4 (by decide) <| (fun _ _ _ h => h)
theorem PL_pair {σ σ' : qS} {k v : Int} {L : List Pr} (h : PL σ L) (hq : Q_D_pair k v σ σ') : PL σ' (L ++ [(k, v)]) ∧ ∀ q, q ∉ [122, 123, 130] → σ' q = σ q := by
  obtain ⟨h1, h2⟩ := h
  unfold Q_D_pair at hq
  subst hq
  refine ⟨⟨?_, fun i e hi hlt => ?_⟩, fun q hq => ?_⟩
  · simp only [List.length_append, List.length_cons, List.length_nil]
    split
    · rw [su_s, h1]; omega
    · rw [su_s, h1]; omega
  · by_cases hL : i < L.length
    · rw [List.getElem?_append_left hL] at hi
      obtain ⟨g1, g2⟩ := h2 i e hi hlt
      split
      · rw [su_k (by decide), su_k (by decide), su_e, su_k (by decide), su_e, if_neg (by omega), if_neg (by omega), su_k (by decide)]
        exact ⟨g1, g2⟩
      · rw [su_k (by decide), su_k (by decide)]; exact ⟨g1, g2⟩
    · rw [List.getElem?_append_right (by omega)] at hi
      have hi0 : i - L.length = 0 := by
        cases hx : i - L.length with
        | zero => rfl
        | succ n => rw [hx] at hi; cases hi
      rw [hi0] at hi
      cases hi
      have ei : (i : Int) = σ 130 0 := by omega
      rw [if_pos (by omega), su_k (by decide), su_k (by decide), su_e, su_k (by decide), su_e, if_pos ei, if_pos ei]
      exact ⟨rfl, rfl⟩
  · simp only [List.mem_cons, List.not_mem_nil, or_false, not_or] at hq
    split
    · rw [su_k (by omega), su_k (by omega), su_k (by omega)]
    · rw [su_k (by omega)]
theorem v_D_mapped_187 {l : Launch} {ad : Nat → Nat} {D : va_G} {cA : Nat → ClassId} {WW : Nat → qP} {QR : Option qA → qS → Prop} (S : qSnd l rm_D_mapped ad D cA R_D b_D_mapped 8 WW) (Q : qRet (some .boolean) b_D_mapped WW QR) (j fr to : Int) (σ0 : qS) (n : Nat) (hn : n ≤ 200) (C : List Pr → Prop) (hL : ∃ L, C L ∧ L.length ≤ 100000) (hq : ∀ σ', (∀ q, q ∉ [122, 123, 130] → σ' q = σ0 q) → (∀ L, C L → PL σ' (L ++ row σ0 120 121 0 n)) → QR (some (.inl 1)) σ') :
    ∀ (m i : Nat) (σ : qS), m = n - i → i ≤ n → (∀ q, q ∉ [122, 123, 130] → σ q = σ0 q) → (∀ L, C L → PL σ (L ++ row σ0 120 121 0 i)) → WW 187 [] [some (.inr (.inr 901)), some (.inl j), some (.inl fr), some (.inl to), some (.inl (n : Int)), some (.inl (i : Int)), none, none] σ := by
  intro m
  induction m with
  | zero =>
    intro i σ hm hi hF hP
    refine s_D_mapped_187 S Q _ _ _ ?_
    simp only [k_D_mapped_0, k_D_mapped_6, k_D_mapped_12, k_D_mapped_28, k_D_mapped_44, k_D_mapped_69, k_D_mapped_100, k_D_mapped_102, k_D_mapped_105, k_D_mapped_114, k_D_mapped_151, k_D_mapped_157, k_D_mapped_184, k_D_mapped_187, k_D_mapped_194, k_D_mapped_218, k_D_mapped_220, k_D_mapped_223, k_D_mapped_230, k_D_mapped_234, k_D_mapped_241, k_D_mapped_259, k_D_mapped_265, k_D_mapped_294, k_D_mapped_296, k_D_mapped_299, k_D_mapped_308, k_D_mapped_332, k_D_mapped_339, oc_D_call, oc_D_pair, oc_D_sort, o_c, o_il, o_ll, o_al, o_is, o_as, o_ls, o_inc, o_bi, o_bid, o_bl, o_bld, o_sl, o_i2l, o_l2i, o_dup, o_dup2, o_pop, o_pop2, o_if, o_i2, o_l2, swg, o_sw, o_gI, o_gZ, o_gJ, o_gA, o_gR, o_pI, o_pZ, o_pJ, o_pR, o_ia, o_iak, o_zak, o_ja, o_jak, o_is_, o_isk, o_zsk, o_js_, o_jsk, o_len, o_ri, o_rz, o_rl, o_rv, ls1, ls2, lks, lkj, List.getD_cons_zero, List.getD_cons_succ, List.set_cons_zero, List.set_cons_succ, qcat, true_and, and_true, List.map_nil, List.map_cons, List.sum_nil, List.sum_cons, Nat.reduceAdd, Nat.reduceLeDiff, Nat.zero_le, Int.reduceAdd, Int.reduceNeg, Int.reduceEq, or_true, true_or, Decidable.not_not, false_implies, not_false_eq_true, true_implies, not_true_eq_false, Int.reduceLT, Int.reduceLE]
    have e : i = n := by omega
    subst e
    exact ⟨fun _ => hq σ hF hP, fun h => by omega⟩
  | succ m ih =>
    intro i σ hm hi hF hP
    refine s_D_mapped_187 S Q _ _ _ ?_
    simp only [k_D_mapped_0, k_D_mapped_6, k_D_mapped_12, k_D_mapped_28, k_D_mapped_44, k_D_mapped_69, k_D_mapped_100, k_D_mapped_102, k_D_mapped_105, k_D_mapped_114, k_D_mapped_151, k_D_mapped_157, k_D_mapped_184, k_D_mapped_187, k_D_mapped_194, k_D_mapped_218, k_D_mapped_220, k_D_mapped_223, k_D_mapped_230, k_D_mapped_234, k_D_mapped_241, k_D_mapped_259, k_D_mapped_265, k_D_mapped_294, k_D_mapped_296, k_D_mapped_299, k_D_mapped_308, k_D_mapped_332, k_D_mapped_339, oc_D_call, oc_D_pair, oc_D_sort, o_c, o_il, o_ll, o_al, o_is, o_as, o_ls, o_inc, o_bi, o_bid, o_bl, o_bld, o_sl, o_i2l, o_l2i, o_dup, o_dup2, o_pop, o_pop2, o_if, o_i2, o_l2, swg, o_sw, o_gI, o_gZ, o_gJ, o_gA, o_gR, o_pI, o_pZ, o_pJ, o_pR, o_ia, o_iak, o_zak, o_ja, o_jak, o_is_, o_isk, o_zsk, o_js_, o_jsk, o_len, o_ri, o_rz, o_rl, o_rv, ls1, ls2, lks, lkj, List.getD_cons_zero, List.getD_cons_succ, List.set_cons_zero, List.set_cons_succ, qcat, true_and, and_true, List.map_nil, List.map_cons, List.sum_nil, List.sum_cons, Nat.reduceAdd, Nat.reduceLeDiff, Nat.zero_le, Int.reduceAdd, Int.reduceNeg, Int.reduceEq, or_true, true_or, Decidable.not_not, false_implies, not_false_eq_true, true_implies, not_true_eq_false, Int.reduceLT, Int.reduceLE]
    obtain ⟨L0, hL1, hL2⟩ := hL
    have hl := (hP L0 hL1).1
    rw [List.length_append, row_len] at hl
    refine ⟨fun h => by omega, fun h => ⟨by omega, by omega, ⟨by omega, by omega⟩, fun σ' hp => ?_⟩⟩
    have p2 := (PL_pair (hP L0 hL1) hp).2
    rw [w32_i _ (by omega) (by omega)]
    refine ih (i + 1) σ' (by omega) (by omega) (fun q h1 => by rw [p2 q h1]; exact hF q h1) (fun L hL3 => ?_)
    have p1 := (PL_pair (hP L hL3) hp).1
    rw [row_s, ← List.append_assoc, Int.zero_add]
    rw [hF 120 (by decide), hF 121 (by decide)] at p1
    exact p1
theorem v_D_mapped_299 {l : Launch} {ad : Nat → Nat} {D : va_G} {cA : Nat → ClassId} {WW : Nat → qP} {QR : Option qA → qS → Prop} (S : qSnd l rm_D_mapped ad D cA R_D b_D_mapped 8 WW) (Q : qRet (some .boolean) b_D_mapped WW QR) (j fr to n i e : Int) (σ0 : qS) (em : List Pr) (C : List Pr → Prop) (hem : EmD σ0 em) (hL : ∃ L, C L ∧ L.length ≤ 200000) (hK : ∀ σ', (∀ q, q ∉ [122, 123, 130] → σ' q = σ0 q) → (∀ L, C L → PL σ' (L ++ em)) → WW 223 [] [some (.inr (.inr 901)), some (.inl j), some (.inl fr), some (.inl to), some (.inl n), some (.inl e), none, none] σ') :
    ∀ (m q : Nat) (σ : qS), m = em.length - q → q ≤ em.length → (∀ q, q ∉ [122, 123, 130] → σ q = σ0 q) → (∀ L, C L → PL σ (L ++ em.take q)) → WW 299 [] [some (.inr (.inr 901)), some (.inl j), some (.inl fr), some (.inl to), some (.inl n), some (.inl i), some (.inl e), some (.inl (q : Int))] σ := by
  intro m
  have h4 := hem.2.1
  induction m with
  | zero =>
    intro q σ hm hi hF hP
    refine s_D_mapped_299 S Q _ _ _ ?_
    simp only [k_D_mapped_0, k_D_mapped_6, k_D_mapped_12, k_D_mapped_28, k_D_mapped_44, k_D_mapped_69, k_D_mapped_100, k_D_mapped_102, k_D_mapped_105, k_D_mapped_114, k_D_mapped_151, k_D_mapped_157, k_D_mapped_184, k_D_mapped_187, k_D_mapped_194, k_D_mapped_218, k_D_mapped_220, k_D_mapped_223, k_D_mapped_230, k_D_mapped_234, k_D_mapped_241, k_D_mapped_259, k_D_mapped_265, k_D_mapped_294, k_D_mapped_296, k_D_mapped_299, k_D_mapped_308, k_D_mapped_332, k_D_mapped_339, oc_D_call, oc_D_pair, oc_D_sort, o_c, o_il, o_ll, o_al, o_is, o_as, o_ls, o_inc, o_bi, o_bid, o_bl, o_bld, o_sl, o_i2l, o_l2i, o_dup, o_dup2, o_pop, o_pop2, o_if, o_i2, o_l2, swg, o_sw, o_gI, o_gZ, o_gJ, o_gA, o_gR, o_pI, o_pZ, o_pJ, o_pR, o_ia, o_iak, o_zak, o_ja, o_jak, o_is_, o_isk, o_zsk, o_js_, o_jsk, o_len, o_ri, o_rz, o_rl, o_rv, ls1, ls2, lks, lkj, List.getD_cons_zero, List.getD_cons_succ, List.set_cons_zero, List.set_cons_succ, qcat, true_and, and_true, List.map_nil, List.map_cons, List.sum_nil, List.sum_cons, Nat.reduceAdd, Nat.reduceLeDiff, Nat.zero_le, Int.reduceAdd, Int.reduceNeg, Int.reduceEq, or_true, true_or, Decidable.not_not, false_implies, not_false_eq_true, true_implies, not_true_eq_false, Int.reduceLT, Int.reduceLE]
    have e1 : q = em.length := by omega
    subst e1
    rw [List.take_length] at hP
    rw [hF 131 (by decide), hem.1]
    refine ⟨fun _ => ?_, fun h => by omega⟩
    exact S.fg (ls' := [some (.inr (.inr 901)), some (.inl j), some (.inl fr), some (.inl to), some (.inl n), some (.inl e), none, none]) ⟨rfl, rfl, rfl, rfl, rfl, rfl, trivial⟩ (hK σ hF hP)
  | succ m ih =>
    intro q σ hm hi hF hP
    refine s_D_mapped_299 S Q _ _ _ ?_
    simp only [k_D_mapped_0, k_D_mapped_6, k_D_mapped_12, k_D_mapped_28, k_D_mapped_44, k_D_mapped_69, k_D_mapped_100, k_D_mapped_102, k_D_mapped_105, k_D_mapped_114, k_D_mapped_151, k_D_mapped_157, k_D_mapped_184, k_D_mapped_187, k_D_mapped_194, k_D_mapped_218, k_D_mapped_220, k_D_mapped_223, k_D_mapped_230, k_D_mapped_234, k_D_mapped_241, k_D_mapped_259, k_D_mapped_265, k_D_mapped_294, k_D_mapped_296, k_D_mapped_299, k_D_mapped_308, k_D_mapped_332, k_D_mapped_339, oc_D_call, oc_D_pair, oc_D_sort, o_c, o_il, o_ll, o_al, o_is, o_as, o_ls, o_inc, o_bi, o_bid, o_bl, o_bld, o_sl, o_i2l, o_l2i, o_dup, o_dup2, o_pop, o_pop2, o_if, o_i2, o_l2, swg, o_sw, o_gI, o_gZ, o_gJ, o_gA, o_gR, o_pI, o_pZ, o_pJ, o_pR, o_ia, o_iak, o_zak, o_ja, o_jak, o_is_, o_isk, o_zsk, o_js_, o_jsk, o_len, o_ri, o_rz, o_rl, o_rv, ls1, ls2, lks, lkj, List.getD_cons_zero, List.getD_cons_succ, List.set_cons_zero, List.set_cons_succ, qcat, true_and, and_true, List.map_nil, List.map_cons, List.sum_nil, List.sum_cons, Nat.reduceAdd, Nat.reduceLeDiff, Nat.zero_le, Int.reduceAdd, Int.reduceNeg, Int.reduceEq, or_true, true_or, Decidable.not_not, false_implies, not_false_eq_true, true_implies, not_true_eq_false, Int.reduceLT, Int.reduceLE]
    obtain ⟨L0, hL1, hL2⟩ := hL
    have hl := (hP L0 hL1).1
    rw [List.length_append, List.length_take] at hl
    rw [hF 131 (by decide), hem.1]
    refine ⟨fun h => by omega, fun h => ⟨by omega, by omega, ⟨by omega, by omega⟩, fun σ' hp => ?_⟩⟩
    have p2 := (PL_pair (hP L0 hL1) hp).2
    rw [w32_i _ (by omega) (by omega)]
    refine ih (q + 1) σ' (by omega) (by omega) (fun q h1 => by rw [p2 q h1]; exact hF q h1) (fun L hL3 => ?_)
    have p1 := (PL_pair (hP L hL3) hp).1
    rw [hF 128 (by decide), hF 129 (by decide)] at p1
    have hlt : q < em.length := by omega
    obtain ⟨g1, g2⟩ := hem.2.2 q em[q] (List.getElem?_eq_getElem hlt)
    rw [g1, g2, List.append_assoc] at p1
    rw [List.take_succ_eq_append_getElem hlt]
    exact p1
theorem v_D_mapped_234 {l : Launch} {ad : Nat → Nat} {D : va_G} {cA : Nat → ClassId} {WW : Nat → qP} {QR : Option qA → qS → Prop} (S : qSnd l rm_D_mapped ad D cA R_D b_D_mapped 8 WW) (Q : qRet (some .boolean) b_D_mapped WW QR) (j fr to n i : Int) (σ : qS) (hi : 0 ≤ i ∧ i < n ∧ n ≤ 200) (K : ∀ e, e = eok (σ 120) (n - (i + 1)).toNat (i + 1) (σ 120 i) → WW 265 [] [some (.inr (.inr 901)), some (.inl j), some (.inl fr), some (.inl to), some (.inl n), some (.inl i), some (.inl e), none] σ) :
    ∀ (m : Nat) (e : Int), m = (n - e).toNat → i < e → e ≤ n → eok (σ 120) m e (σ 120 i) = eok (σ 120) (n - (i + 1)).toNat (i + 1) (σ 120 i) → WW 234 [] [some (.inr (.inr 901)), some (.inl j), some (.inl fr), some (.inl to), some (.inl n), some (.inl i), some (.inl e), none] σ := by
  intro m
  induction m with
  | zero =>
    intro e hm h1 h2 h3
    refine s_D_mapped_234 S Q _ _ _ ?_
    simp only [k_D_mapped_0, k_D_mapped_6, k_D_mapped_12, k_D_mapped_28, k_D_mapped_44, k_D_mapped_69, k_D_mapped_100, k_D_mapped_102, k_D_mapped_105, k_D_mapped_114, k_D_mapped_151, k_D_mapped_157, k_D_mapped_184, k_D_mapped_187, k_D_mapped_194, k_D_mapped_218, k_D_mapped_220, k_D_mapped_223, k_D_mapped_230, k_D_mapped_234, k_D_mapped_241, k_D_mapped_259, k_D_mapped_265, k_D_mapped_294, k_D_mapped_296, k_D_mapped_299, k_D_mapped_308, k_D_mapped_332, k_D_mapped_339, oc_D_call, oc_D_pair, oc_D_sort, o_c, o_il, o_ll, o_al, o_is, o_as, o_ls, o_inc, o_bi, o_bid, o_bl, o_bld, o_sl, o_i2l, o_l2i, o_dup, o_dup2, o_pop, o_pop2, o_if, o_i2, o_l2, swg, o_sw, o_gI, o_gZ, o_gJ, o_gA, o_gR, o_pI, o_pZ, o_pJ, o_pR, o_ia, o_iak, o_zak, o_ja, o_jak, o_is_, o_isk, o_zsk, o_js_, o_jsk, o_len, o_ri, o_rz, o_rl, o_rv, ls1, ls2, lks, lkj, List.getD_cons_zero, List.getD_cons_succ, List.set_cons_zero, List.set_cons_succ, qcat, true_and, and_true, List.map_nil, List.map_cons, List.sum_nil, List.sum_cons, Nat.reduceAdd, Nat.reduceLeDiff, Nat.zero_le, Int.reduceAdd, Int.reduceNeg, Int.reduceEq, or_true, true_or, Decidable.not_not, false_implies, not_false_eq_true, true_implies, not_true_eq_false, Int.reduceLT, Int.reduceLE]
    exact ⟨fun _ => K e (by rw [← h3]; rfl), fun h => by omega⟩
  | succ m ih =>
    intro e hm h1 h2 h3
    refine s_D_mapped_234 S Q _ _ _ ?_
    simp only [k_D_mapped_0, k_D_mapped_6, k_D_mapped_12, k_D_mapped_28, k_D_mapped_44, k_D_mapped_69, k_D_mapped_100, k_D_mapped_102, k_D_mapped_105, k_D_mapped_114, k_D_mapped_151, k_D_mapped_157, k_D_mapped_184, k_D_mapped_187, k_D_mapped_194, k_D_mapped_218, k_D_mapped_220, k_D_mapped_223, k_D_mapped_230, k_D_mapped_234, k_D_mapped_241, k_D_mapped_259, k_D_mapped_265, k_D_mapped_294, k_D_mapped_296, k_D_mapped_299, k_D_mapped_308, k_D_mapped_332, k_D_mapped_339, oc_D_call, oc_D_pair, oc_D_sort, o_c, o_il, o_ll, o_al, o_is, o_as, o_ls, o_inc, o_bi, o_bid, o_bl, o_bld, o_sl, o_i2l, o_l2i, o_dup, o_dup2, o_pop, o_pop2, o_if, o_i2, o_l2, swg, o_sw, o_gI, o_gZ, o_gJ, o_gA, o_gR, o_pI, o_pZ, o_pJ, o_pR, o_ia, o_iak, o_zak, o_ja, o_jak, o_is_, o_isk, o_zsk, o_js_, o_jsk, o_len, o_ri, o_rz, o_rl, o_rv, ls1, ls2, lks, lkj, List.getD_cons_zero, List.getD_cons_succ, List.set_cons_zero, List.set_cons_succ, qcat, true_and, and_true, List.map_nil, List.map_cons, List.sum_nil, List.sum_cons, Nat.reduceAdd, Nat.reduceLeDiff, Nat.zero_le, Int.reduceAdd, Int.reduceNeg, Int.reduceEq, or_true, true_or, Decidable.not_not, false_implies, not_false_eq_true, true_implies, not_true_eq_false, Int.reduceLT, Int.reduceLE]
    rw [w32_i _ (by omega) (by omega)]
    refine ⟨fun h => by omega, fun h => ⟨by omega, by omega, fun hne => ?_, fun he => ?_⟩⟩
    · rw [eok, if_neg hne] at h3; exact K e h3
    · rw [eok, if_pos he] at h3; exact ih (e + 1) (by omega) (by omega) (by omega) h3
theorem F_dcl.ds {σ σ' : qS} (h : F_dcl σ σ') : F_ds σ σ' := fun q hq => h q (fun e => hq (by simp only [List.mem_cons, List.not_mem_nil, or_false] at e ⊢; omega))
theorem F_ds.tr {σ σ1 σ2 : qS} (h : F_ds σ σ1) (h' : F_ds σ1 σ2) : F_ds σ σ2 := fun k hk => (h' k hk).trans (h k hk)
theorem F_dmp.tr {σ σ1 σ2 : qS} (h : F_dmp σ σ1) (h' : F_dmp σ1 σ2) : F_dmp σ σ2 := fun k hk => (h' k hk).trans (h k hk)
theorem F_ds.mp {σ σ' : qS} (h : F_ds σ σ') : F_dmp σ σ' := fun q hq => h q (fun e => hq (by simp only [List.mem_cons, List.not_mem_nil, or_false] at e ⊢; omega))
theorem F_pr_mp {σ σ' : qS} (h : ∀ q, q ∉ [122, 123, 130] → σ' q = σ q) : F_dmp σ σ' := fun q hq => h q (fun e => hq (by simp only [List.mem_cons, List.not_mem_nil, or_false] at e ⊢; omega))
theorem dprok_keep {σ σ' : qS} {p : Int} (h : dprok σ p) (h1 : σ' 104 = σ 104) (h2 : σ' 103 = σ 103) (h3 : σ' 106 = σ 106) : dprok σ' p := by unfold dprok at h ⊢; rw [h1, h2, h3]; exact h
theorem dprg_keep {σ σ' : qS} (p : Int) (h1 : σ' 104 = σ 104) (h2 : σ' 103 = σ 103) (h3 : σ' 106 = σ 106) : dprg σ' p = dprg σ p := by unfold dprg; rw [h1, h2, h3]
theorem PL_keep {σ σ' : qS} {L : List Pr} (h : PL σ L) (h1 : σ' 130 = σ 130) (h2 : σ' 122 = σ 122) (h3 : σ' 123 = σ 123) : PL σ' L := by unfold PL at h ⊢; rw [h1, h2, h3]; exact h
def dres (σ0 : qS) (res : Option (List Pr)) (r : Int) (σ' : qS) : Prop := match res with
  | none => r = 0
  | some out => r = 1 ∧ out.length ≤ 256 ∧ ∀ L, PL σ0 L → L.length ≤ 100000 → PL σ' (L ++ out)
theorem v_D_mapped_223 {l : Launch} {ad : Nat → Nat} {D : va_G} {cA : Nat → ClassId} {WW : Nat → qP} {QR : Option qA → qS → Prop} (S : qSnd l rm_D_mapped ad D cA R_D b_D_mapped 8 WW) (Q : qRet (some .boolean) b_D_mapped WW QR) (j fr to : Int) (σ0 σB : qS) (n : Nat) (hn : n ≤ 64) (hj : 0 ≤ j ∧ j < 8) (hpr : dprok σ0 (3 * j + 1)) (hL : ∃ L, PL σ0 L ∧ L.length ≤ 100000) (hB : F_dmp σ0 σB) (res : Option (List Pr)) (hq : ∀ r σ', F_dmp σ0 σ' → dres σ0 res r σ' → QR (some (.inl r)) σ') :
    ∀ (m : Nat) (k : Int) (O : List Pr) (σ : qS), (n - k).toNat ≤ m → (0 ≤ k ∧ k ≤ n) → (∀ q, q ∉ [126, 127, 128, 129, 131, 122, 123, 130] → σ q = σB q) → (O.length : Int) ≤ 4 * k → (∀ L, PL σ0 L → L.length ≤ 100000 → PL σ (L ++ O)) → res = (gmap (fun k vs => lcall (dprg σ0 (3 * j + 1)) 1 k vs) (n - k).toNat (row σB 120 121 k (n - k).toNat)).map (fun b => O ++ b) →
      WW 223 [] [some (.inr (.inr 901)), some (.inl j), some (.inl fr), some (.inl to), some (.inl (n : Int)), some (.inl k), none, none] σ := by
  intro m
  have FB : ∀ σ : qS, (∀ q, q ∉ [126, 127, 128, 129, 131, 122, 123, 130] → σ q = σB q) → F_dmp σ0 σ := fun σ h => hB.tr (fun q hq => h q (fun e => hq (by simp only [List.mem_cons, List.not_mem_nil, or_false] at e ⊢; omega)))
  induction m with
  | zero =>
    intro k O σ hm hk hF hO hP hres
    refine s_D_mapped_223 S Q _ _ _ ?_
    simp only [k_D_mapped_0, k_D_mapped_6, k_D_mapped_12, k_D_mapped_28, k_D_mapped_44, k_D_mapped_69, k_D_mapped_100, k_D_mapped_102, k_D_mapped_105, k_D_mapped_114, k_D_mapped_151, k_D_mapped_157, k_D_mapped_184, k_D_mapped_187, k_D_mapped_194, k_D_mapped_218, k_D_mapped_220, k_D_mapped_223, k_D_mapped_230, k_D_mapped_234, k_D_mapped_241, k_D_mapped_259, k_D_mapped_265, k_D_mapped_294, k_D_mapped_296, k_D_mapped_299, k_D_mapped_308, k_D_mapped_332, k_D_mapped_339, oc_D_call, oc_D_pair, oc_D_sort, o_c, o_il, o_ll, o_al, o_is, o_as, o_ls, o_inc, o_bi, o_bid, o_bl, o_bld, o_sl, o_i2l, o_l2i, o_dup, o_dup2, o_pop, o_pop2, o_if, o_i2, o_l2, swg, o_sw, o_gI, o_gZ, o_gJ, o_gA, o_gR, o_pI, o_pZ, o_pJ, o_pR, o_ia, o_iak, o_zak, o_ja, o_jak, o_is_, o_isk, o_zsk, o_js_, o_jsk, o_len, o_ri, o_rz, o_rl, o_rv, ls1, ls2, lks, lkj, List.getD_cons_zero, List.getD_cons_succ, List.set_cons_zero, List.set_cons_succ, qcat, true_and, and_true, List.map_nil, List.map_cons, List.sum_nil, List.sum_cons, Nat.reduceAdd, Nat.reduceLeDiff, Nat.zero_le, Int.reduceAdd, Int.reduceNeg, Int.reduceEq, or_true, true_or, Decidable.not_not, false_implies, not_false_eq_true, true_implies, not_true_eq_false, Int.reduceLT, Int.reduceLE]
    refine ⟨fun _ => hq 1 σ (FB σ hF) ?_, fun h => by omega⟩
    rw [show ((n : Int) - k).toNat = 0 by omega] at hres
    rw [hres]
    simp only [gmap, Option.map_some, List.append_nil]
    exact ⟨rfl, by omega, hP⟩
  | succ m ih =>
    intro k O σ hm hk hF hO hP hres
    by_cases hkn : (n : Int) ≤ k
    · exact ih k O σ (by omega) hk hF hO hP hres
    refine s_D_mapped_223 S Q _ _ _ ?_
    simp only [k_D_mapped_0, k_D_mapped_6, k_D_mapped_12, k_D_mapped_28, k_D_mapped_44, k_D_mapped_69, k_D_mapped_100, k_D_mapped_102, k_D_mapped_105, k_D_mapped_114, k_D_mapped_151, k_D_mapped_157, k_D_mapped_184, k_D_mapped_187, k_D_mapped_194, k_D_mapped_218, k_D_mapped_220, k_D_mapped_223, k_D_mapped_230, k_D_mapped_234, k_D_mapped_241, k_D_mapped_259, k_D_mapped_265, k_D_mapped_294, k_D_mapped_296, k_D_mapped_299, k_D_mapped_308, k_D_mapped_332, k_D_mapped_339, oc_D_call, oc_D_pair, oc_D_sort, o_c, o_il, o_ll, o_al, o_is, o_as, o_ls, o_inc, o_bi, o_bid, o_bl, o_bld, o_sl, o_i2l, o_l2i, o_dup, o_dup2, o_pop, o_pop2, o_if, o_i2, o_l2, swg, o_sw, o_gI, o_gZ, o_gJ, o_gA, o_gR, o_pI, o_pZ, o_pJ, o_pR, o_ia, o_iak, o_zak, o_ja, o_jak, o_is_, o_isk, o_zsk, o_js_, o_jsk, o_len, o_ri, o_rz, o_rl, o_rv, ls1, ls2, lks, lkj, List.getD_cons_zero, List.getD_cons_succ, List.set_cons_zero, List.set_cons_succ, qcat, true_and, and_true, List.map_nil, List.map_cons, List.sum_nil, List.sum_cons, Nat.reduceAdd, Nat.reduceLeDiff, Nat.zero_le, Int.reduceAdd, Int.reduceNeg, Int.reduceEq, or_true, true_or, Decidable.not_not, false_implies, not_false_eq_true, true_implies, not_true_eq_false, Int.reduceLT, Int.reduceLE]
    refine ⟨fun h => by omega, fun _ => ?_⟩
    have eK : σ 120 = σB 120 := hF _ (by decide)
    have eV : σ 121 = σB 121 := hF _ (by decide)
    refine s_D_mapped_234 S Q _ _ _ ?_
    simp only [k_D_mapped_0, k_D_mapped_6, k_D_mapped_12, k_D_mapped_28, k_D_mapped_44, k_D_mapped_69, k_D_mapped_100, k_D_mapped_102, k_D_mapped_105, k_D_mapped_114, k_D_mapped_151, k_D_mapped_157, k_D_mapped_184, k_D_mapped_187, k_D_mapped_194, k_D_mapped_218, k_D_mapped_220, k_D_mapped_223, k_D_mapped_230, k_D_mapped_234, k_D_mapped_241, k_D_mapped_259, k_D_mapped_265, k_D_mapped_294, k_D_mapped_296, k_D_mapped_299, k_D_mapped_308, k_D_mapped_332, k_D_mapped_339, oc_D_call, oc_D_pair, oc_D_sort, o_c, o_il, o_ll, o_al, o_is, o_as, o_ls, o_inc, o_bi, o_bid, o_bl, o_bld, o_sl, o_i2l, o_l2i, o_dup, o_dup2, o_pop, o_pop2, o_if, o_i2, o_l2, swg, o_sw, o_gI, o_gZ, o_gJ, o_gA, o_gR, o_pI, o_pZ, o_pJ, o_pR, o_ia, o_iak, o_zak, o_ja, o_jak, o_is_, o_isk, o_zsk, o_js_, o_jsk, o_len, o_ri, o_rz, o_rl, o_rv, ls1, ls2, lks, lkj, List.getD_cons_zero, List.getD_cons_succ, List.set_cons_zero, List.set_cons_succ, qcat, true_and, and_true, List.map_nil, List.map_cons, List.sum_nil, List.sum_cons, Nat.reduceAdd, Nat.reduceLeDiff, Nat.zero_le, Int.reduceAdd, Int.reduceNeg, Int.reduceEq, or_true, true_or, Decidable.not_not, false_implies, not_false_eq_true, true_implies, not_true_eq_false, Int.reduceLT, Int.reduceLE]
    rw [w32_i _ (by omega) (by omega)]
    refine ⟨fun h => by omega, fun _ => ⟨by omega, by omega, ?_⟩⟩
    refine v_D_mapped_234 S Q j fr to n k σ (by omega) (fun e he => ?_) _ (k + 1) rfl (by omega) (by omega) rfl
    rw [eok_tw (kv := 121)] at he
    generalize hQ : ((row σ 120 121 (k + 1) ((n : Int) - (k + 1)).toNat).takeWhile (fun p => p.1 == σ 120 k)).length = q at he
    obtain ⟨hq1, hq2⟩ := grp_step (σ := σ) (kk := 120) (kv := 121) (k := k) (n := ((n : Int) - (k + 1)).toNat) (fun k vs => lcall (dprg σ0 (3 * j + 1)) 1 k vs) q hQ.symm
    rw [show ((n : Int) - (k + 1)).toNat + 1 = ((n : Int) - k).toNat by omega] at hq2
    have er : row σB 120 121 k ((n : Int) - k).toNat = row σ 120 121 k ((n : Int) - k).toNat := by unfold row; rw [eK, eV]
    rw [er, hq2] at hres
    have F0 := FB σ hF
    have hp1 : z_add (z_mul 3 j) 1 = 3 * j + 1 := by unfold z_add z_mul; rw [w32_i (3 * j) (by omega) (by omega), w32_i _ (by omega) (by omega)]
    refine s_D_mapped_265 S Q _ _ _ ?_
    simp only [k_D_mapped_0, k_D_mapped_6, k_D_mapped_12, k_D_mapped_28, k_D_mapped_44, k_D_mapped_69, k_D_mapped_100, k_D_mapped_102, k_D_mapped_105, k_D_mapped_114, k_D_mapped_151, k_D_mapped_157, k_D_mapped_184, k_D_mapped_187, k_D_mapped_194, k_D_mapped_218, k_D_mapped_220, k_D_mapped_223, k_D_mapped_230, k_D_mapped_234, k_D_mapped_241, k_D_mapped_259, k_D_mapped_265, k_D_mapped_294, k_D_mapped_296, k_D_mapped_299, k_D_mapped_308, k_D_mapped_332, k_D_mapped_339, oc_D_call, oc_D_pair, oc_D_sort, o_c, o_il, o_ll, o_al, o_is, o_as, o_ls, o_inc, o_bi, o_bid, o_bl, o_bld, o_sl, o_i2l, o_l2i, o_dup, o_dup2, o_pop, o_pop2, o_if, o_i2, o_l2, swg, o_sw, o_gI, o_gZ, o_gJ, o_gA, o_gR, o_pI, o_pZ, o_pJ, o_pR, o_ia, o_iak, o_zak, o_ja, o_jak, o_is_, o_isk, o_zsk, o_js_, o_jsk, o_len, o_ri, o_rz, o_rl, o_rv, ls1, ls2, lks, lkj, List.getD_cons_zero, List.getD_cons_succ, List.set_cons_zero, List.set_cons_succ, qcat, true_and, and_true, List.map_nil, List.map_cons, List.sum_nil, List.sum_cons, Nat.reduceAdd, Nat.reduceLeDiff, Nat.zero_le, Int.reduceAdd, Int.reduceNeg, Int.reduceEq, or_true, true_or, Decidable.not_not, false_implies, not_false_eq_true, true_implies, not_true_eq_false, Int.reduceLT, Int.reduceLE]
    rw [hp1]
    refine ⟨by omega, ⟨dprok_keep hpr (F0 _ (by decide)) (F0 _ (by decide)) (F0 _ (by decide)), by decide, by decide, by omega, by omega, by rw [show qln 121 = 200 by decide]; omega⟩, fun r σ1 q1 => ?_⟩
    obtain ⟨c1, c2⟩ := q1
    rw [dprg_keep _ (F0 _ (by decide)) (F0 _ (by decide)) (F0 _ (by decide)), show dwhat 0 1 = 1 by decide, he, show (k + 1 + (q : Int) - k).toNat = q + 1 by omega] at c2
    have hF1 : ∀ q, q ∉ [126, 127, 128, 129, 131, 122, 123, 130] → σ1 q = σB q := fun x hx => (c1 x (fun e => hx (by simp only [List.mem_cons, List.not_mem_nil, or_false] at e ⊢; omega))).trans (hF x hx)
    have kPL : ∀ L, PL σ L → PL σ1 L := fun L h => PL_keep h (c1 _ (by decide)) (c1 _ (by decide)) (c1 _ (by decide))
    cases hcl : lcall (dprg σ0 (3 * j + 1)) 1 (σ 120 k) (vls (σ 121) k (q + 1)) with
    | none =>
      rw [hcl] at c2 hres
      have hr0 : r = 0 := c2
      subst hr0
      exact ⟨fun h => absurd rfl h, fun _ => hq 0 σ1 (FB σ1 hF1) (by rw [hres]; rfl)⟩
    | some em =>
      rw [hcl] at c2 hres
      obtain ⟨hr1, hem⟩ : r = 1 ∧ EmD σ1 em := c2
      subst hr1
      refine ⟨fun _ => ?_, fun h => by omega⟩
      have he4 := hem.2.1
      refine s_D_mapped_296 S Q _ _ _ ?_
      simp only [k_D_mapped_0, k_D_mapped_6, k_D_mapped_12, k_D_mapped_28, k_D_mapped_44, k_D_mapped_69, k_D_mapped_100, k_D_mapped_102, k_D_mapped_105, k_D_mapped_114, k_D_mapped_151, k_D_mapped_157, k_D_mapped_184, k_D_mapped_187, k_D_mapped_194, k_D_mapped_218, k_D_mapped_220, k_D_mapped_223, k_D_mapped_230, k_D_mapped_234, k_D_mapped_241, k_D_mapped_259, k_D_mapped_265, k_D_mapped_294, k_D_mapped_296, k_D_mapped_299, k_D_mapped_308, k_D_mapped_332, k_D_mapped_339, oc_D_call, oc_D_pair, oc_D_sort, o_c, o_il, o_ll, o_al, o_is, o_as, o_ls, o_inc, o_bi, o_bid, o_bl, o_bld, o_sl, o_i2l, o_l2i, o_dup, o_dup2, o_pop, o_pop2, o_if, o_i2, o_l2, swg, o_sw, o_gI, o_gZ, o_gJ, o_gA, o_gR, o_pI, o_pZ, o_pJ, o_pR, o_ia, o_iak, o_zak, o_ja, o_jak, o_is_, o_isk, o_zsk, o_js_, o_jsk, o_len, o_ri, o_rz, o_rl, o_rv, ls1, ls2, lks, lkj, List.getD_cons_zero, List.getD_cons_succ, List.set_cons_zero, List.set_cons_succ, qcat, true_and, and_true, List.map_nil, List.map_cons, List.sum_nil, List.sum_cons, Nat.reduceAdd, Nat.reduceLeDiff, Nat.zero_le, Int.reduceAdd, Int.reduceNeg, Int.reduceEq, or_true, true_or, Decidable.not_not, false_implies, not_false_eq_true, true_implies, not_true_eq_false, Int.reduceLT, Int.reduceLE]
      refine v_D_mapped_299 S Q j fr to n k e σ1 em (fun X => ∃ L, PL σ0 L ∧ L.length ≤ 100000 ∧ X = L ++ O) hem ?_ (fun σ2 f2 hP2 => ?_) em.length 0 σ1 rfl (by omega) (fun _ _ => rfl) (fun L hL => ?_)
      · obtain ⟨L, h1, h2⟩ := hL
        exact ⟨L ++ O, ⟨L, h1, h2, rfl⟩, by rw [List.length_append]; omega⟩
      · rw [he]
        refine ih (k + 1 + q) (O ++ em) σ2 (by omega) (by omega) (fun x hx => (f2 x (fun e => hx (by simp only [List.mem_cons, List.not_mem_nil, or_false] at e ⊢; omega))).trans (hF1 x hx)) (by rw [List.length_append]; omega) (fun L h1 h2 => ?_) ?_
        · have := hP2 (L ++ O) ⟨L, h1, h2, rfl⟩
          rw [List.append_assoc] at this; exact this
        · rw [hres]
          have er2 : row σB 120 121 (k + 1 + q) ((n : Int) - (k + 1 + q)).toNat = row σ 120 121 (k + 1 + q) ((n : Int) - (k + 1 + q)).toNat := by unfold row; rw [eK, eV]
          rw [er2, show ((n : Int) - (k + 1)).toNat - q = ((n : Int) - (k + 1 + q)).toNat by omega, Option.map_map]
          congr 1
          funext b
          simp [List.append_assoc]
      · obtain ⟨L, h1, h2, rfl⟩ := hL
        rw [List.take_zero, List.append_nil]
        exact kPL _ (hP L h1 h2)
theorem v_D_mapped_105 {l : Launch} {ad : Nat → Nat} {D : va_G} {cA : Nat → ClassId} {WW : Nat → qP} {QR : Option qA → qS → Prop} (S : qSnd l rm_D_mapped ad D cA R_D b_D_mapped 8 WW) (Q : qRet (some .boolean) b_D_mapped WW QR) (j fr to i r d : Int) (σA : qS) (em : List Pr) (hem : EmD σA em) (hd : 0 ≤ d ∧ d + em.length ≤ 200) (hi : 0 ≤ i ∧ i < 1000000) (K : ∀ σ' (n : Int), n = d + em.length → CP σA σ' 120 121 128 129 d em.length → WW 6 [] [some (.inr (.inr 901)), some (.inl j), some (.inl fr), some (.inl to), some (.inl n), some (.inl (i + 1)), none, none] σ') :
    ∀ (m : Nat) (q n : Int) (σ : qS), m = em.length - q → 0 ≤ q → q ≤ em.length → n = d + q → CP σA σ 120 121 128 129 d q → WW 105 [] [some (.inr (.inr 901)), some (.inl j), some (.inl fr), some (.inl to), some (.inl n), some (.inl i), some (.inl r), some (.inl q)] σ := by
  intro m
  have h4 := hem.2.1
  induction m with
  | zero =>
    intro q n σ hm hq0 hq hn hC
    refine s_D_mapped_105 S Q _ _ _ ?_
    simp only [k_D_mapped_0, k_D_mapped_6, k_D_mapped_12, k_D_mapped_28, k_D_mapped_44, k_D_mapped_69, k_D_mapped_100, k_D_mapped_102, k_D_mapped_105, k_D_mapped_114, k_D_mapped_151, k_D_mapped_157, k_D_mapped_184, k_D_mapped_187, k_D_mapped_194, k_D_mapped_218, k_D_mapped_220, k_D_mapped_223, k_D_mapped_230, k_D_mapped_234, k_D_mapped_241, k_D_mapped_259, k_D_mapped_265, k_D_mapped_294, k_D_mapped_296, k_D_mapped_299, k_D_mapped_308, k_D_mapped_332, k_D_mapped_339, oc_D_call, oc_D_pair, oc_D_sort, o_c, o_il, o_ll, o_al, o_is, o_as, o_ls, o_inc, o_bi, o_bid, o_bl, o_bld, o_sl, o_i2l, o_l2i, o_dup, o_dup2, o_pop, o_pop2, o_if, o_i2, o_l2, swg, o_sw, o_gI, o_gZ, o_gJ, o_gA, o_gR, o_pI, o_pZ, o_pJ, o_pR, o_ia, o_iak, o_zak, o_ja, o_jak, o_is_, o_isk, o_zsk, o_js_, o_jsk, o_len, o_ri, o_rz, o_rl, o_rv, ls1, ls2, lks, lkj, List.getD_cons_zero, List.getD_cons_succ, List.set_cons_zero, List.set_cons_succ, qcat, true_and, and_true, List.map_nil, List.map_cons, List.sum_nil, List.sum_cons, Nat.reduceAdd, Nat.reduceLeDiff, Nat.zero_le, Int.reduceAdd, Int.reduceNeg, Int.reduceEq, or_true, true_or, Decidable.not_not, false_implies, not_false_eq_true, true_implies, not_true_eq_false, Int.reduceLT, Int.reduceLE]
    have e : q = em.length := by omega
    rw [e] at hC hn
    rw [hC.1 131 (by decide) (by decide), hem.1, w32_i (i + 1) (by omega) (by omega)]
    refine ⟨fun _ => ?_, fun h => by omega⟩
    exact S.fg (ls' := [some (.inr (.inr 901)), some (.inl j), some (.inl fr), some (.inl to), some (.inl n), some (.inl (i + 1)), none, none]) ⟨rfl, rfl, rfl, rfl, rfl, rfl, trivial⟩ (K σ n hn hC)
  | succ m ih =>
    intro q n σ hm hq0 hq hn hC
    refine s_D_mapped_105 S Q _ _ _ ?_
    simp only [k_D_mapped_0, k_D_mapped_6, k_D_mapped_12, k_D_mapped_28, k_D_mapped_44, k_D_mapped_69, k_D_mapped_100, k_D_mapped_102, k_D_mapped_105, k_D_mapped_114, k_D_mapped_151, k_D_mapped_157, k_D_mapped_184, k_D_mapped_187, k_D_mapped_194, k_D_mapped_218, k_D_mapped_220, k_D_mapped_223, k_D_mapped_230, k_D_mapped_234, k_D_mapped_241, k_D_mapped_259, k_D_mapped_265, k_D_mapped_294, k_D_mapped_296, k_D_mapped_299, k_D_mapped_308, k_D_mapped_332, k_D_mapped_339, oc_D_call, oc_D_pair, oc_D_sort, o_c, o_il, o_ll, o_al, o_is, o_as, o_ls, o_inc, o_bi, o_bid, o_bl, o_bld, o_sl, o_i2l, o_l2i, o_dup, o_dup2, o_pop, o_pop2, o_if, o_i2, o_l2, swg, o_sw, o_gI, o_gZ, o_gJ, o_gA, o_gR, o_pI, o_pZ, o_pJ, o_pR, o_ia, o_iak, o_zak, o_ja, o_jak, o_is_, o_isk, o_zsk, o_js_, o_jsk, o_len, o_ri, o_rz, o_rl, o_rv, ls1, ls2, lks, lkj, List.getD_cons_zero, List.getD_cons_succ, List.set_cons_zero, List.set_cons_succ, qcat, true_and, and_true, List.map_nil, List.map_cons, List.sum_nil, List.sum_cons, Nat.reduceAdd, Nat.reduceLeDiff, Nat.zero_le, Int.reduceAdd, Int.reduceNeg, Int.reduceEq, or_true, true_or, Decidable.not_not, false_implies, not_false_eq_true, true_implies, not_true_eq_false, Int.reduceLT, Int.reduceLE]
    simp (disch := omega) only [su_k]
    rw [hC.1 131 (by decide) (by decide), hem.1, hC.1 128 (by decide) (by decide), hC.1 129 (by decide) (by decide), w32_i (i + 1) (by omega) (by omega), w32_i (n + 1) (by omega) (by omega), w32_i (q + 1) (by omega) (by omega)]
    refine ⟨fun h => by omega, fun h => ⟨by omega, by omega, by omega, by omega, ?_⟩⟩
    have h5 := CP_s (by decide) hC hq0
    rw [← hn] at h5
    exact ih (q + 1) (n + 1) _ (by omega) (by omega) (by omega) (by omega) h5
theorem drat_b {σ : qS} {j i : Int} (h : djbk σ j) (h0 : 0 ≤ i) (h1 : i < dall σ j) : 0 ≤ drat σ j i ∧ drat σ j i < 4800 ∧ (σ 102 (σ 108 j) ≤ i → 0 ≤ σ 109 j) := by
  obtain ⟨hj, h2, h3, h4⟩ := h
  have s1 := h4 _ h2.1 h2.2
  unfold dall at h1
  unfold drat
  by_cases e : σ 109 j < 0
  · rw [if_pos e] at h1
    rw [if_pos (by omega)]
    exact ⟨by omega, by omega, fun h => by omega⟩
  · rw [if_neg e] at h1
    have s2 := h4 (σ 109 j) (by omega) (by omega)
    split
    · exact ⟨by omega, by omega, fun h => by omega⟩
    · exact ⟨by omega, by omega, fun h => by omega⟩
theorem drec_keep {σ σ' : qS} (j i : Int) (h1 : σ' 102 = σ 102) (h2 : σ' 108 = σ 108) (h3 : σ' 109 = σ 109) (h4 : σ' 100 = σ 100) (h5 : σ' 101 = σ 101) : drec σ' j i = drec σ j i := by unfold drec drat; rw [h1, h2, h3, h4, h5]
theorem v_D_mapped_157 {l : Launch} {ad : Nat → Nat} {D : va_G} {cA : Nat → ClassId} {WW : Nat → qP} {QR : Option qA → qS → Prop} (S : qSnd l rm_D_mapped ad D cA R_D b_D_mapped 8 WW) (Q : qRet (some .boolean) b_D_mapped WW QR) (j fr to : Int) (σ0 σ : qS) (h0 : P_D_mapped j fr to σ0) (E : List Pr) (hE : E.length ≤ 64) (hF : F_ds σ0 σ) (hrow : row σ 120 121 0 E.length = E) (res : Option (List Pr)) (hres : res = if (dprg σ0 (3 * j + 1)).2.2 = 0 then some (srt E) else gmap (fun k vs => lcall (dprg σ0 (3 * j + 1)) 1 k vs) E.length (srt E)) (hq : ∀ r σ', F_dmp σ0 σ' → dres σ0 res r σ' → QR (some (.inl r)) σ') :
    WW 157 [] [some (.inr (.inr 901)), some (.inl j), some (.inl fr), some (.inl to), some (.inl (E.length : Int)), some (.inl to), none, none] σ := by
  obtain ⟨hj, hp0, hp1, hft, hL⟩ := h0
  have hj8 := hj.1
  refine s_D_mapped_157 S Q _ _ _ ?_
  simp only [k_D_mapped_0, k_D_mapped_6, k_D_mapped_12, k_D_mapped_28, k_D_mapped_44, k_D_mapped_69, k_D_mapped_100, k_D_mapped_102, k_D_mapped_105, k_D_mapped_114, k_D_mapped_151, k_D_mapped_157, k_D_mapped_184, k_D_mapped_187, k_D_mapped_194, k_D_mapped_218, k_D_mapped_220, k_D_mapped_223, k_D_mapped_230, k_D_mapped_234, k_D_mapped_241, k_D_mapped_259, k_D_mapped_265, k_D_mapped_294, k_D_mapped_296, k_D_mapped_299, k_D_mapped_308, k_D_mapped_332, k_D_mapped_339, oc_D_call, oc_D_pair, oc_D_sort, o_c, o_il, o_ll, o_al, o_is, o_as, o_ls, o_inc, o_bi, o_bid, o_bl, o_bld, o_sl, o_i2l, o_l2i, o_dup, o_dup2, o_pop, o_pop2, o_if, o_i2, o_l2, swg, o_sw, o_gI, o_gZ, o_gJ, o_gA, o_gR, o_pI, o_pZ, o_pJ, o_pR, o_ia, o_iak, o_zak, o_ja, o_jak, o_is_, o_isk, o_zsk, o_js_, o_jsk, o_len, o_ri, o_rz, o_rl, o_rv, ls1, ls2, lks, lkj, List.getD_cons_zero, List.getD_cons_succ, List.set_cons_zero, List.set_cons_succ, qcat, true_and, and_true, List.map_nil, List.map_cons, List.sum_nil, List.sum_cons, Nat.reduceAdd, Nat.reduceLeDiff, Nat.zero_le, Int.reduceAdd, Int.reduceNeg, Int.reduceEq, or_true, true_or, Decidable.not_not, false_implies, not_false_eq_true, true_implies, not_true_eq_false, Int.reduceLT, Int.reduceLE]
  have e1 : z_add (z_mul 3 j) 1 = 3 * j + 1 := by unfold z_add z_mul; rw [w32_i (3 * j) (by omega) (by omega), w32_i _ (by omega) (by omega)]
  rw [e1]
  have q2 : qln 120 = 200 := by decide
  have q3 : qln 121 = 200 := by decide
  refine ⟨⟨⟨by decide, by decide, by decide, by decide, by decide⟩, by omega, by rw [q2]; omega, by rw [q3]; omega⟩, fun σ1 s1 => ?_⟩
  obtain ⟨s1, s2, s3⟩ := s1
  rw [show ((E.length : Int) - 0).toNat = E.length by omega, hrow] at s3
  have F1 : F_dmp σ0 σ1 := hF.mp.tr (fun q hq => s1 q (fun e => hq (by subst e; decide)) (fun e => hq (by subst e; decide)))
  have kPL : ∀ L, PL σ0 L → PL σ1 L := fun L h => PL_keep h ((s1 _ (by decide) (by decide)).trans (hF _ (by decide))) ((s1 _ (by decide) (by decide)).trans (hF _ (by decide))) ((s1 _ (by decide) (by decide)).trans (hF _ (by decide)))
  have em : (dprg σ0 (3 * j + 1)).2.2 = σ1 104 (3 * j + 1) := by rw [F1 104 (by decide)]; rfl
  rw [em] at hres
  refine ⟨by omega, fun hz => ?_, fun hz => ?_⟩
  · rw [if_neg hz] at hres
    refine v_D_mapped_223 S Q j fr to σ0 σ1 E.length hE hj8 hp1 hL F1 res hq _ 0 [] σ1 (Nat.le_refl _) (by omega) (fun _ _ => rfl) (by simp) (fun L h1 _ => by rw [List.append_nil]; exact kPL L h1) ?_
    rw [show ((E.length : Int) - 0).toNat = E.length by omega, s3, hres]
    simp
  · rw [if_pos hz] at hres
    refine v_D_mapped_187 S Q j fr to σ1 E.length (by omega) (fun L => PL σ0 L ∧ L.length ≤ 100000) ?_ (fun σ2 f2 hP => ?_) E.length 0 σ1 rfl (by omega) (fun _ _ => rfl) (fun L h => by simp only [row, List.range_zero, List.map_nil, List.append_nil]; exact kPL L h.1)
    · obtain ⟨L, h1, h2⟩ := hL
      exact ⟨L, ⟨h1, h2⟩, h2⟩
    · refine hq 1 σ2 (F1.tr (F_pr_mp f2)) ?_
      rw [hres]
      rw [s3] at hP
      exact ⟨rfl, by rw [SS_len (srt_SS E)]; omega, fun L h1 h2 => hP L ⟨h1, h2⟩⟩
theorem v_D_mapped_6 {l : Launch} {ad : Nat → Nat} {D : va_G} {cA : Nat → ClassId} {WW : Nat → qP} {QR : Option qA → qS → Prop} (S : qSnd l rm_D_mapped ad D cA R_D b_D_mapped 8 WW) (Q : qRet (some .boolean) b_D_mapped WW QR) (j fr to : Int) (σ0 : qS) (h0 : P_D_mapped j fr to σ0) (hq : ∀ r σ', F_dmp σ0 σ' → dres σ0 (dspl σ0 j fr to) r σ' → QR (some (.inl r)) σ') :
    ∀ (m : Nat) (i : Int) (E : List Pr) (σ : qS), m = (to - i).toNat → (fr ≤ i ∧ i ≤ to) → F_ds σ0 σ → (E.length : Int) ≤ 4 * (i - fr) → row σ 120 121 0 E.length = E → ocat ((drecs σ0 j fr (to - fr).toNat).map (fun r => lcall (dprg σ0 (3 * j)) 0 r.1 [r.2])) = (ocat ((drecs σ0 j i m).map (fun r => lcall (dprg σ0 (3 * j)) 0 r.1 [r.2]))).map (fun b => E ++ b) →
      WW 6 [] [some (.inr (.inr 901)), some (.inl j), some (.inl fr), some (.inl to), some (.inl (E.length : Int)), some (.inl i), none, none] σ := by
  have h0' := h0
  obtain ⟨hj, hp0, hp1, hft, hL⟩ := h0
  have hj8 := hj.1
  have hdl : dall σ0 j ≤ 600 := by
    unfold dall
    have := hj.2.2.2 _ hj.2.1.1 hj.2.1.2
    split
    · omega
    · have := hj.2.2.2 (σ0 109 j) (by omega) hj.2.2.1.2
      omega
  intro m
  induction m with
  | zero =>
    intro i E σ hm hi hF hl hrow hoc
    refine s_D_mapped_6 S Q _ _ _ ?_
    simp only [k_D_mapped_0, k_D_mapped_6, k_D_mapped_12, k_D_mapped_28, k_D_mapped_44, k_D_mapped_69, k_D_mapped_100, k_D_mapped_102, k_D_mapped_105, k_D_mapped_114, k_D_mapped_151, k_D_mapped_157, k_D_mapped_184, k_D_mapped_187, k_D_mapped_194, k_D_mapped_218, k_D_mapped_220, k_D_mapped_223, k_D_mapped_230, k_D_mapped_234, k_D_mapped_241, k_D_mapped_259, k_D_mapped_265, k_D_mapped_294, k_D_mapped_296, k_D_mapped_299, k_D_mapped_308, k_D_mapped_332, k_D_mapped_339, oc_D_call, oc_D_pair, oc_D_sort, o_c, o_il, o_ll, o_al, o_is, o_as, o_ls, o_inc, o_bi, o_bid, o_bl, o_bld, o_sl, o_i2l, o_l2i, o_dup, o_dup2, o_pop, o_pop2, o_if, o_i2, o_l2, swg, o_sw, o_gI, o_gZ, o_gJ, o_gA, o_gR, o_pI, o_pZ, o_pJ, o_pR, o_ia, o_iak, o_zak, o_ja, o_jak, o_is_, o_isk, o_zsk, o_js_, o_jsk, o_len, o_ri, o_rz, o_rl, o_rv, ls1, ls2, lks, lkj, List.getD_cons_zero, List.getD_cons_succ, List.set_cons_zero, List.set_cons_succ, qcat, true_and, and_true, List.map_nil, List.map_cons, List.sum_nil, List.sum_cons, Nat.reduceAdd, Nat.reduceLeDiff, Nat.zero_le, Int.reduceAdd, Int.reduceNeg, Int.reduceEq, or_true, true_or, Decidable.not_not, false_implies, not_false_eq_true, true_implies, not_true_eq_false, Int.reduceLT, Int.reduceLE]
    have e : i = to := by omega
    subst e
    refine ⟨fun _ => ?_, fun h => by omega⟩
    refine v_D_mapped_157 S Q j fr i σ0 σ h0' E (by omega) hF hrow _ ?_ hq
    unfold dspl splo
    rw [hoc]
    simp [drecs, ocat]
  | succ m ih =>
    intro i E σ hm hi hF hl hrow hoc
    obtain ⟨b1, b2, b3⟩ := drat_b hj (i := i) (by omega) (by omega)
    have sz := hj.2.2.2 _ hj.2.1.1 hj.2.1.2
    have h1 := hj.2.1
    have h2 := hj.2.2.1
    have eSz : σ 102 = σ0 102 := hF _ (by decide)
    have eFi : σ 108 = σ0 108 := hF _ (by decide)
    have eSe : σ 109 = σ0 109 := hF _ (by decide)
    have eK : σ 100 = σ0 100 := hF _ (by decide)
    have eV : σ 101 = σ0 101 := hF _ (by decide)
    have e3 : z_mul 3 j = 3 * j := by unfold z_mul; rw [w32_i _ (by omega) (by omega)]
    rw [drecs_s, List.map_cons] at hoc
    have step : ∀ r, r = drat σ0 j i → (0 ≤ r ∧ r < 4800) ∧ P_D_call (3 * j) 1 0 (σ0 100 r) 101 r (z_add r 1) σ ∧ ∀ (x : Int) (σ' : qS), Q_D_call (3 * j) 1 0 (σ0 100 r) 101 r (z_add r 1) σ x σ' → (¬ x = 0 → WW 105 [] [some (.inr (.inr 901)), some (.inl j), some (.inl fr), some (.inl to), some (.inl (E.length : Int)), some (.inl i), some (.inl r), some (.inl 0)] σ') ∧ (x = 0 → QR (some (.inl 0)) σ') := by
      intro r hr
      rw [← hr] at b1 b2
      have e1 : z_add r 1 = r + 1 := by unfold z_add; exact w32_i _ (by omega) (by omega)
      rw [e1]
      refine ⟨⟨b1, b2⟩, ⟨dprok_keep hp0 (hF _ (by decide)) (hF _ (by decide)) (hF _ (by decide)), by decide, by decide, by omega, by omega, by rw [show qln 101 = 4800 by decide]; omega⟩, fun x σ1 q1 => ?_⟩
      obtain ⟨c1, c2⟩ := q1
      rw [dprg_keep _ (hF _ (by decide)) (hF _ (by decide)) (hF _ (by decide)), show dwhat 1 0 = 0 by decide, show (r + 1 - r).toNat = 0 + 1 by omega, vls_s, show vls (σ 101) (r + 1) 0 = [] from rfl, eV] at c2
      have ed : lcall (dprg σ0 (3 * j)) 0 (drec σ0 j i).1 [(drec σ0 j i).2] = lcall (dprg σ0 (3 * j)) 0 (σ0 100 r) [σ0 101 r] := by unfold drec; rw [hr]
      have F1 : F_ds σ0 σ1 := hF.tr c1.ds
      rw [ed] at hoc
      cases hcl : lcall (dprg σ0 (3 * j)) 0 (σ0 100 r) [σ0 101 r] with
      | none =>
        rw [hcl] at c2 hoc
        have hx : x = 0 := c2
        refine ⟨fun h => absurd hx h, fun _ => hq 0 σ1 F1.mp ?_⟩
        unfold dspl splo
        rw [hoc]
        rfl
      | some em =>
        rw [hcl] at c2 hoc
        obtain ⟨hx, hem⟩ : x = 1 ∧ EmD σ1 em := c2
        refine ⟨fun _ => ?_, fun h => by omega⟩
        have h4 := hem.2.1
        refine v_D_mapped_105 S Q j fr to i r E.length σ1 em hem (by omega) (by omega) (fun σ2 n' hn' hC => ?_) em.length 0 E.length σ1 (by omega) (by omega) (by omega) (by omega) CP_0
        rw [hn', show (E.length : Int) + em.length = ((E ++ em).length : Nat) by rw [List.length_append]; omega]
        refine ih (i + 1) (E ++ em) σ2 (by omega) (by omega) ?_ (by rw [List.length_append]; omega) ?_ ?_
        · exact F1.tr (fun q hq => hC.1 q (fun e => hq (by subst e; decide)) (fun e => hq (by subst e; decide)))
        · refine CP_row (by rw [Int.zero_add]; exact hC) ?_ (EmD_row hem)
          unfold row
          rw [c1 120 (by decide), c1 121 (by decide)]
          exact hrow
        · rw [hoc]
          simp only [ocat, Option.map_map]
          congr 1
          funext b
          simp [List.append_assoc]
    refine s_D_mapped_6 S Q _ _ _ ?_
    simp only [k_D_mapped_0, k_D_mapped_6, k_D_mapped_12, k_D_mapped_28, k_D_mapped_44, k_D_mapped_69, k_D_mapped_100, k_D_mapped_102, k_D_mapped_105, k_D_mapped_114, k_D_mapped_151, k_D_mapped_157, k_D_mapped_184, k_D_mapped_187, k_D_mapped_194, k_D_mapped_218, k_D_mapped_220, k_D_mapped_223, k_D_mapped_230, k_D_mapped_234, k_D_mapped_241, k_D_mapped_259, k_D_mapped_265, k_D_mapped_294, k_D_mapped_296, k_D_mapped_299, k_D_mapped_308, k_D_mapped_332, k_D_mapped_339, oc_D_call, oc_D_pair, oc_D_sort, o_c, o_il, o_ll, o_al, o_is, o_as, o_ls, o_inc, o_bi, o_bid, o_bl, o_bld, o_sl, o_i2l, o_l2i, o_dup, o_dup2, o_pop, o_pop2, o_if, o_i2, o_l2, swg, o_sw, o_gI, o_gZ, o_gJ, o_gA, o_gR, o_pI, o_pZ, o_pJ, o_pR, o_ia, o_iak, o_zak, o_ja, o_jak, o_is_, o_isk, o_zsk, o_js_, o_jsk, o_len, o_ri, o_rz, o_rl, o_rv, ls1, ls2, lks, lkj, List.getD_cons_zero, List.getD_cons_succ, List.set_cons_zero, List.set_cons_succ, qcat, true_and, and_true, List.map_nil, List.map_cons, List.sum_nil, List.sum_cons, Nat.reduceAdd, Nat.reduceLeDiff, Nat.zero_le, Int.reduceAdd, Int.reduceNeg, Int.reduceEq, or_true, true_or, Decidable.not_not, false_implies, not_false_eq_true, true_implies, not_true_eq_false, Int.reduceLT, Int.reduceLE]
    rw [eSz, eFi, eSe, eK, e3]
    refine ⟨fun h => by omega, fun _ => ⟨hj8, h1, fun hle => ?_, fun hlt => ?_⟩⟩
    · have hs2 := b3 hle
      have er : z_sub (z_add (z_mul 300 (σ0 109 j)) i) (σ0 102 (σ0 108 j)) = 300 * σ0 109 j + i - σ0 102 (σ0 108 j) := by
        unfold z_sub z_add z_mul
        rw [w32_i (300 * σ0 109 j) (by omega) (by omega), w32_i (300 * σ0 109 j + i) (by omega) (by omega), w32_i _ (by omega) (by omega)]
      rw [er]
      obtain ⟨s1, s2, s3⟩ := step _ (by unfold drat; rw [if_neg (by omega)])
      exact ⟨hj8, hj8, h1, s1, s2, s3⟩
    · have er : z_add (z_mul 300 (σ0 108 j)) i = 300 * σ0 108 j + i := by
        unfold z_add z_mul
        rw [w32_i (300 * σ0 108 j) (by omega) (by omega), w32_i _ (by omega) (by omega)]
      rw [er]
      obtain ⟨s1, s2, s3⟩ := step _ (by unfold drat; rw [if_pos (by omega)])
      exact ⟨hj8, s1, s2, s3⟩
theorem w_D_mapped {l : Launch} {ad : Nat → Nat} {D : va_G} {cA : Nat → ClassId} {WW : Nat → qP} {QR : Option qA → qS → Prop} (S : qSnd l rm_D_mapped ad D cA R_D b_D_mapped 8 WW) (Q : qRet (some .boolean) b_D_mapped WW QR) (a1 : Int) (a2 : Int) (a3 : Int) (σ : qS) (ha1 : r32 a1) (ha2 : r32 a2) (ha3 : r32 a3) (hσ : qoS σ) (h : P_D_mapped a1 a2 a3 σ) (hq : ∀ (r : Int) σ', Q_D_mapped a1 a2 a3 σ r σ' → QR (some (.inl r)) σ') : WW 0 [] [some (.inr (.inr 901)), some (.inl a1), some (.inl a2), some (.inl a3), none, none, none, none] σ := by
  refine s_D_mapped_0 S Q _ _ _ ?_
  simp only [k_D_mapped_0, k_D_mapped_6, k_D_mapped_12, k_D_mapped_28, k_D_mapped_44, k_D_mapped_69, k_D_mapped_100, k_D_mapped_102, k_D_mapped_105, k_D_mapped_114, k_D_mapped_151, k_D_mapped_157, k_D_mapped_184, k_D_mapped_187, k_D_mapped_194, k_D_mapped_218, k_D_mapped_220, k_D_mapped_223, k_D_mapped_230, k_D_mapped_234, k_D_mapped_241, k_D_mapped_259, k_D_mapped_265, k_D_mapped_294, k_D_mapped_296, k_D_mapped_299, k_D_mapped_308, k_D_mapped_332, k_D_mapped_339, oc_D_call, oc_D_pair, oc_D_sort, o_c, o_il, o_ll, o_al, o_is, o_as, o_ls, o_inc, o_bi, o_bid, o_bl, o_bld, o_sl, o_i2l, o_l2i, o_dup, o_dup2, o_pop, o_pop2, o_if, o_i2, o_l2, swg, o_sw, o_gI, o_gZ, o_gJ, o_gA, o_gR, o_pI, o_pZ, o_pJ, o_pR, o_ia, o_iak, o_zak, o_ja, o_jak, o_is_, o_isk, o_zsk, o_js_, o_jsk, o_len, o_ri, o_rz, o_rl, o_rv, ls1, ls2, lks, lkj, List.getD_cons_zero, List.getD_cons_succ, List.set_cons_zero, List.set_cons_succ, qcat, true_and, and_true, List.map_nil, List.map_cons, List.sum_nil, List.sum_cons, Nat.reduceAdd, Nat.reduceLeDiff, Nat.zero_le, Int.reduceAdd, Int.reduceNeg, Int.reduceEq, or_true, true_or, Decidable.not_not, false_implies, not_false_eq_true, true_implies, not_true_eq_false, Int.reduceLT, Int.reduceLE]
  refine v_D_mapped_6 S Q a1 a2 a3 σ h (fun r σ' hF hd => hq _ _ ⟨hF, hd⟩) _ a2 [] σ rfl ⟨by omega, h.2.2.2.1.2.1⟩ (fun _ _ => rfl) (by simp) rfl ?_
  simp
theorem c_D_mapped (l : Launch) (ad : Nat → Nat) (D : va_G) (cA : Nat → ClassId) : qC l ad D cA y_D_mapped (Cond.code y_D_mapped b_D_mapped 8 (some .boolean) :: lw_g) rm_D_mapped pre_D_mapped post_D_mapped := by
  refine qC_of (own := R_D) (by decide) rfl ⟨rfl, rfl⟩ ?_ ?_
  · intro av σ h; unfold pre_D_mapped at h; split at h
    · simp [qen]
    · exact h.elim
  · intro WW QR S Q av σ hav hσ h hq; unfold pre_D_mapped at h; split at h
    next o a1 a2 a3 =>
      obtain ⟨rfl, h⟩ := h
      exact w_D_mapped S Q a1 a2 a3 σ (hav _ (List.mem_of_getElem? (i := 1) rfl)) (hav _ (List.mem_of_getElem? (i := 2) rfl)) (hav _ (List.mem_of_getElem? (i := 3) rfl)) hσ h (fun r σ' h' => hq _ σ' h')
    next => exact h.elim

