def ssum (f : Int → Int) : Nat → Int
  | 0 => 0
  | n + 1 => ssum f n + f n
theorem ssum_b {f : Int → Int} {B : Int} : ∀ (n : Nat), (∀ i : Int, 0 ≤ i → i < n → 0 ≤ f i ∧ f i ≤ B) → 0 ≤ ssum f n ∧ ssum f n ≤ n * B
  | 0, _ => by simp [ssum]
  | n + 1, h => by
    have := ssum_b n (fun i h0 h1 => h i h0 (by omega))
    have h2 := h n (by omega) (by omega)
    rw [ssum, show ((n + 1 : Nat) : Int) * B = n * B + B by rw [Int.natCast_succ, Int.add_mul, Int.one_mul]]; omega
def pcat (σ : qS) : Nat → List Pr
  | 0 => []
  | k + 1 => pcat σ k ++ row σ 42 43 (k * 300) (σ 41 k).toNat
theorem pcat_len {σ : qS} : ∀ (n : Nat), (∀ i : Int, 0 ≤ i → i < n → 0 ≤ σ 41 i ∧ σ 41 i ≤ 300) → ((pcat σ n).length : Int) = ssum (σ 41) n
  | 0, _ => rfl
  | n + 1, h => by
    have := pcat_len n (fun i h0 h1 => h i h0 (by omega))
    have h2 := h n (by omega) (by omega)
    rw [pcat, ssum, List.length_append, row_len]; omega
def P_M_commit (σ : qS) : Prop := jobok σ ∧ (∀ k, 0 ≤ k → k < σ 13 (jb σ) → 0 ≤ σ 41 k ∧ σ 41 k ≤ 300) ∧ 0 ≤ σ 31 0 ∧ σ 31 0 < 2000000000
def C1 (σ σ1 : qS) (b : Int) (L : List Pr) : Prop := (∀ k, k ∉ [0, 1] → σ1 k = σ k) ∧ (∀ j, (j < b ∨ b + L.length ≤ j) → σ1 0 j = σ 0 j ∧ σ1 1 j = σ 1 j) ∧ row σ1 0 1 b L.length = L
def Q_M_commit (σ σ' : qS) : Prop := (300 < (pcat σ (σ 13 (jb σ)).toNat).length ∧ Q_M_fail σ σ') ∨ ((pcat σ (σ 13 (jb σ)).toNat).length ≤ 300 ∧ ∃ σ1, C1 σ σ1 (σ 12 (jb σ) * 300) (pcat σ (σ 13 (jb σ)).toNat) ∧ σ' = nxj (su (su σ1 2 (σ 12 (jb σ)) (pcat σ (σ 13 (jb σ)).toNat).length) 32 0 (σ 32 0 + 1)))
def pre_M_commit (av : List qA) (σ : qS) : Prop := match av with
  | [.inr (.inr o)] => o = 900 ∧ P_M_commit  σ
  | _ => False
def post_M_commit (av : List qA) (σ : qS) (r : Option qA) (σ' : qS) : Prop := match av, r with
  | [_], none => Q_M_commit  σ σ'
  | _, _ => False
def oc_M_commit (K : qP) : qP := fun st ls σ => match st with
  | .inr (.inr o) :: st => o = 900 ∧ (st.map qcat).sum ≤ 8 ∧ P_M_commit  σ ∧ ∀ (σ' : qS), Q_M_commit  σ σ' → K st ls σ'
  | _ => False
def rm_M_commit : Room := { frames := 2, cells := 0, slots := 0, locals := 40 }
theorem fl_M_45 : qF R_M 900 0 82 0 R_M F_M 45 12 := ⟨Or.inl ⟨rfl, rfl, rfl, rfl, rfl, rfl⟩, by decide, lw_at 90 (by decide +kernel) rfl⟩
theorem sc_M_335 {l : Launch} {R : Room} {ad : Nat → Nat} {D : va_G} {cA : Nat → ClassId} {cc : ByteArray} {nL : Nat} {WW : Nat → qP} (S : qSnd l R ad D cA R_M cc nL WW) (hR : rm_M_nextJob.frames + 1 ≤ R.frames ∧ 8 + (2 + 11) + rm_M_nextJob.locals ≤ R.locals) {K : qP} {pc : Nat} (d : decode cc pc = .ok (.invokevirtual 335, 3)) (h : qle K WW (pc + 3)) : qle (oc_M_nextJob K) WW pc := by
  intro st ls σ k
  refine S.callV (o := 900) (ci := 0) (N := 82) (base := 0) (C := R_M) (T := F_M) (n := 0) (pre := pre_M_nextJob) (post := post_M_nextJob) (Or.inl ⟨rfl, rfl, rfl, rfl, rfl, rfl⟩) ⟨lw_at 552 (by decide +kernel) rfl, lw_at 549 (by decide +kernel) rfl, lw_at 59 (by decide +kernel) rfl, by decide, by decide, by decide +kernel⟩ ⟨lw_at 551 (by decide +kernel) rfl, lw_at 8 (by decide +kernel) rfl⟩ ⟨rfl, rfl⟩ hR (c_M_nextJob l ad D cA) ?_ d h st ls σ ?_
  · intro av σ h; unfold pre_M_nextJob at h; split at h
    · obtain ⟨rfl, h⟩ := h; exact ⟨_, rfl⟩
    · exact h.elim
  · unfold oc_M_nextJob at k
    split at k
    next o st =>
      obtain ⟨rfl, hs, hp, k⟩ := k
      refine ⟨[.inr (.inr 900)], st, rfl, rfl, hs, ⟨rfl, hp⟩, fun r σ' hq => ?_⟩
      unfold post_M_nextJob at hq
      split at hq
      next h1 =>
        cases h1
        exact k _ hq
      next => exact hq.elim
    next => exact k.elim
def k_M_commit_140 (QR : Option qA → qS → Prop) (H : Nat → qP) : qP :=
  o_al 0 <| o_gA 900 2 <| o_al 0 <| o_gA 900 12 <| o_al 0 <| oc_M_job <| o_iak 12 8 <| o_il 1 <| o_isk 2 16 <| o_al 0 <| o_dup <| o_gI 900 32 <| o_c (.inl 1) <| o_bi z_add <| o_pI 900 32 <| o_al 0 <| oc_M_nextJob <| o_rv QR
def k_M_commit_134 (QR : Option qA → qS → Prop) (H : Nat → qP) : qP :=
  o_inc 3 1 <| H 60
def k_M_commit_87 (QR : Option qA → qS → Prop) (H : Nat → qP) : qP :=
  o_al 0 <| o_gA 900 0 <| o_il 2 <| o_al 0 <| o_gA 900 42 <| o_il 3 <| o_c (.inl 300) <| o_bi z_mul <| o_il 4 <| o_bi z_add <| o_jak 42 1800 <| o_jsk 0 4800 <| o_al 0 <| o_gA 900 1 <| o_il 2 <| o_al 0 <| o_gA 900 43 <| o_il 3 <| o_c (.inl 300) <| o_bi z_mul <| o_il 4 <| o_bi z_add <| o_jak 43 1800 <| o_jsk 1 4800 <| o_inc 2 1 <| o_inc 4 1 <| H 76
def k_M_commit_76 (QR : Option qA → qS → Prop) (H : Nat → qP) : qP :=
  o_il 4 <| o_al 0 <| o_gA 900 41 <| o_il 3 <| o_iak 41 6 <| o_i2 (fun a b => b ≤ a) (k_M_commit_134 QR H) (k_M_commit_87 QR H)
def k_M_commit_73 (QR : Option qA → qS → Prop) (H : Nat → qP) : qP :=
  o_c (.inl 0) <| o_is 4 <| H 76
def k_M_commit_60 (QR : Option qA → qS → Prop) (H : Nat → qP) : qP :=
  o_il 3 <| o_al 0 <| o_gA 900 13 <| o_al 0 <| oc_M_job <| o_iak 13 8 <| o_i2 (fun a b => b ≤ a) (k_M_commit_140 QR H) (k_M_commit_73 QR H)
def k_M_commit_44 (QR : Option qA → qS → Prop) (H : Nat → qP) : qP :=
  o_al 0 <| o_gA 900 12 <| o_al 0 <| oc_M_job <| o_iak 12 8 <| o_c (.inl 300) <| o_bi z_mul <| o_is 2 <| o_c (.inl 0) <| o_is 3 <| H 60
def k_M_commit_39 (QR : Option qA → qS → Prop) (H : Nat → qP) : qP :=
  o_al 0 <| oc_M_fail <| o_rv QR
def k_M_commit_32 (QR : Option qA → qS → Prop) (H : Nat → qP) : qP :=
  o_il 1 <| o_c (.inl 300) <| o_i2 (fun a b => a ≤ b) (k_M_commit_44 QR H) (k_M_commit_39 QR H)
def k_M_commit_17 (QR : Option qA → qS → Prop) (H : Nat → qP) : qP :=
  o_il 1 <| o_al 0 <| o_gA 900 41 <| o_il 2 <| o_iak 41 6 <| o_bi z_add <| o_is 1 <| o_inc 2 1 <| H 4
def k_M_commit_4 (QR : Option qA → qS → Prop) (H : Nat → qP) : qP :=
  o_il 2 <| o_al 0 <| o_gA 900 13 <| o_al 0 <| oc_M_job <| o_iak 13 8 <| o_i2 (fun a b => b ≤ a) (H 32) (k_M_commit_17 QR H)
def k_M_commit_0 (QR : Option qA → qS → Prop) (H : Nat → qP) : qP :=
  o_c (.inl 0) <| o_is 1 <| o_c (.inl 0) <| o_is 2 <| H 4
set_option maxRecDepth 8000 in
theorem s_M_commit_140 {l : Launch} {ad : Nat → Nat} {D : va_G} {cA : Nat → ClassId} {WW : Nat → qP} {QR : Option qA → qS → Prop} (S : qSnd l rm_M_commit ad D cA R_M b_M_commit 5 WW) (Q : qRet (none) b_M_commit WW QR) : qle (k_M_commit_140 QR WW) WW 140 :=
  S.aload_n d_M_commit_140 rfl <| S.gA fl_M_16 (by decide) d_M_commit_141 <| S.aload_n d_M_commit_144 rfl <| S.gA fl_M_45 (by decide) d_M_commit_145 <| S.aload_n d_M_commit_148 rfl <| sc_M_256 S (by decide) d_M_commit_149 <| S.iak (by decide) d_M_commit_152 <| S.iload_n d_M_commit_153 rfl <| S.isk (by decide) d_M_commit_154 <| S.aload_n d_M_commit_155 rfl <| S.dup d_M_commit_156 <| S.gI fl_M_253 (by decide) d_M_commit_157 <| S.iconst d_M_commit_160 (by decide) <| S.iadd d_M_commit_161 <| S.pI fl_M_253 (by decide) (by decide +kernel) d_M_commit_162 <| S.aload_n d_M_commit_165 rfl <| sc_M_335 S (by decide) d_M_commit_166 <| Q.2.2.2 rfl _ d_M_commit_169
set_option maxRecDepth 8000 in
theorem s_M_commit_134 {l : Launch} {ad : Nat → Nat} {D : va_G} {cA : Nat → ClassId} {WW : Nat → qP} {QR : Option qA → qS → Prop} (S : qSnd l rm_M_commit ad D cA R_M b_M_commit 5 WW) (Q : qRet (none) b_M_commit WW QR) : qle (k_M_commit_134 QR WW) WW 134 :=
  S.iinc d_M_commit_134 (by decide) <| S.goto d_M_commit_137 (by decide) (fun _ _ _ h => h)
set_option maxRecDepth 8000 in
theorem s_M_commit_87 {l : Launch} {ad : Nat → Nat} {D : va_G} {cA : Nat → ClassId} {WW : Nat → qP} {QR : Option qA → qS → Prop} (S : qSnd l rm_M_commit ad D cA R_M b_M_commit 5 WW) (Q : qRet (none) b_M_commit WW QR) : qle (k_M_commit_87 QR WW) WW 87 :=
  S.aload_n d_M_commit_87 rfl <| S.gA fl_M_9 (by decide) d_M_commit_88 <| S.iload_n d_M_commit_91 rfl <| S.aload_n d_M_commit_92 rfl <| S.gA fl_M_87 (by decide) d_M_commit_93 <| S.iload_n d_M_commit_96 rfl <| S.sipush d_M_commit_97 (by decide) <| S.imul d_M_commit_100 <| S.iload d_M_commit_101 <| S.iadd d_M_commit_103 <| S.jak (by decide) d_M_commit_104 <| S.jsk (by decide) d_M_commit_105 <| S.aload_n d_M_commit_106 rfl <| S.gA fl_M_13 (by decide) d_M_commit_107 <| S.iload_n d_M_commit_110 rfl <| S.aload_n d_M_commit_111 rfl <| S.gA fl_M_90 (by decide) d_M_commit_112 <| S.iload_n d_M_commit_115 rfl <| S.sipush d_M_commit_116 (by decide) <| S.imul d_M_commit_119 <| S.iload d_M_commit_120 <| S.iadd d_M_commit_122 <| S.jak (by decide) d_M_commit_123 <| S.jsk (by decide) d_M_commit_124 <| S.iinc d_M_commit_125 (by decide) <| S.iinc d_M_commit_128 (by decide) <| S.goto d_M_commit_131 (by decide) (fun _ _ _ h => h)
set_option maxRecDepth 8000 in
theorem s_M_commit_76 {l : Launch} {ad : Nat → Nat} {D : va_G} {cA : Nat → ClassId} {WW : Nat → qP} {QR : Option qA → qS → Prop} (S : qSnd l rm_M_commit ad D cA R_M b_M_commit 5 WW) (Q : qRet (none) b_M_commit WW QR) : qle (k_M_commit_76 QR WW) WW 76 :=
  S.iload d_M_commit_76 <| S.aload_n d_M_commit_78 rfl <| S.gA fl_M_84 (by decide) d_M_commit_79 <| S.iload_n d_M_commit_82 rfl <| S.iak (by decide) d_M_commit_83 <| S.icmp_ge d_M_commit_84 (by decide) (s_M_commit_134 S Q) (s_M_commit_87 S Q)
set_option maxRecDepth 8000 in
theorem s_M_commit_73 {l : Launch} {ad : Nat → Nat} {D : va_G} {cA : Nat → ClassId} {WW : Nat → qP} {QR : Option qA → qS → Prop} (S : qSnd l rm_M_commit ad D cA R_M b_M_commit 5 WW) (Q : qRet (none) b_M_commit WW QR) : qle (k_M_commit_73 QR WW) WW 73 :=
  S.iconst d_M_commit_73 (by decide) <| S.istore d_M_commit_74 (by decide) <| (fun _ _ _ h => h)
set_option maxRecDepth 8000 in
theorem s_M_commit_60 {l : Launch} {ad : Nat → Nat} {D : va_G} {cA : Nat → ClassId} {WW : Nat → qP} {QR : Option qA → qS → Prop} (S : qSnd l rm_M_commit ad D cA R_M b_M_commit 5 WW) (Q : qRet (none) b_M_commit WW QR) : qle (k_M_commit_60 QR WW) WW 60 :=
  S.iload_n d_M_commit_60 rfl <| S.aload_n d_M_commit_61 rfl <| S.gA fl_M_48 (by decide) d_M_commit_62 <| S.aload_n d_M_commit_65 rfl <| sc_M_256 S (by decide) d_M_commit_66 <| S.iak (by decide) d_M_commit_69 <| S.icmp_ge d_M_commit_70 (by decide) (s_M_commit_140 S Q) (s_M_commit_73 S Q)
set_option maxRecDepth 8000 in
theorem s_M_commit_44 {l : Launch} {ad : Nat → Nat} {D : va_G} {cA : Nat → ClassId} {WW : Nat → qP} {QR : Option qA → qS → Prop} (S : qSnd l rm_M_commit ad D cA R_M b_M_commit 5 WW) (Q : qRet (none) b_M_commit WW QR) : qle (k_M_commit_44 QR WW) WW 44 :=
  S.aload_n d_M_commit_44 rfl <| S.gA fl_M_45 (by decide) d_M_commit_45 <| S.aload_n d_M_commit_48 rfl <| sc_M_256 S (by decide) d_M_commit_49 <| S.iak (by decide) d_M_commit_52 <| S.sipush d_M_commit_53 (by decide) <| S.imul d_M_commit_56 <| S.istore_n d_M_commit_57 rfl (by decide) <| S.iconst d_M_commit_58 (by decide) <| S.istore_n d_M_commit_59 rfl (by decide) <| (fun _ _ _ h => h)
set_option maxRecDepth 8000 in
theorem s_M_commit_39 {l : Launch} {ad : Nat → Nat} {D : va_G} {cA : Nat → ClassId} {WW : Nat → qP} {QR : Option qA → qS → Prop} (S : qSnd l rm_M_commit ad D cA R_M b_M_commit 5 WW) (Q : qRet (none) b_M_commit WW QR) : qle (k_M_commit_39 QR WW) WW 39 :=
  S.aload_n d_M_commit_39 rfl <| sc_M_326 S (by decide) d_M_commit_40 <| Q.2.2.2 rfl _ d_M_commit_43
set_option maxRecDepth 8000 in
theorem s_M_commit_32 {l : Launch} {ad : Nat → Nat} {D : va_G} {cA : Nat → ClassId} {WW : Nat → qP} {QR : Option qA → qS → Prop} (S : qSnd l rm_M_commit ad D cA R_M b_M_commit 5 WW) (Q : qRet (none) b_M_commit WW QR) : qle (k_M_commit_32 QR WW) WW 32 :=
  S.iload_n d_M_commit_32 rfl <| S.sipush d_M_commit_33 (by decide) <| S.icmp_le d_M_commit_36 (by decide) (s_M_commit_44 S Q) (s_M_commit_39 S Q)
set_option maxRecDepth 8000 in
theorem s_M_commit_17 {l : Launch} {ad : Nat → Nat} {D : va_G} {cA : Nat → ClassId} {WW : Nat → qP} {QR : Option qA → qS → Prop} (S : qSnd l rm_M_commit ad D cA R_M b_M_commit 5 WW) (Q : qRet (none) b_M_commit WW QR) : qle (k_M_commit_17 QR WW) WW 17 :=
  S.iload_n d_M_commit_17 rfl <| S.aload_n d_M_commit_18 rfl <| S.gA fl_M_84 (by decide) d_M_commit_19 <| S.iload_n d_M_commit_22 rfl <| S.iak (by decide) d_M_commit_23 <| S.iadd d_M_commit_24 <| S.istore_n d_M_commit_25 rfl (by decide) <| S.iinc d_M_commit_26 (by decide) <| S.goto d_M_commit_29 (by decide) (fun _ _ _ h => h)
set_option maxRecDepth 8000 in
theorem s_M_commit_4 {l : Launch} {ad : Nat → Nat} {D : va_G} {cA : Nat → ClassId} {WW : Nat → qP} {QR : Option qA → qS → Prop} (S : qSnd l rm_M_commit ad D cA R_M b_M_commit 5 WW) (Q : qRet (none) b_M_commit WW QR) : qle (k_M_commit_4 QR WW) WW 4 :=
  S.iload_n d_M_commit_4 rfl <| S.aload_n d_M_commit_5 rfl <| S.gA fl_M_48 (by decide) d_M_commit_6 <| S.aload_n d_M_commit_9 rfl <| sc_M_256 S (by decide) d_M_commit_10 <| S.iak (by decide) d_M_commit_13 <| S.icmp_ge d_M_commit_14 (by decide) (fun _ _ _ h => h) (s_M_commit_17 S Q)
set_option maxRecDepth 8000 in
theorem s_M_commit_0 {l : Launch} {ad : Nat → Nat} {D : va_G} {cA : Nat → ClassId} {WW : Nat → qP} {QR : Option qA → qS → Prop} (S : qSnd l rm_M_commit ad D cA R_M b_M_commit 5 WW) (Q : qRet (none) b_M_commit WW QR) : qle (k_M_commit_0 QR WW) WW 0 :=
  S.iconst d_M_commit_0 (by decide) <| S.istore_n d_M_commit_1 rfl (by decide) <| S.iconst d_M_commit_2 (by decide) <| S.istore_n d_M_commit_3 rfl (by decide) <| (fun _ _ _ h => h)
theorem C1_0 {σ : qS} {b : Int} : C1 σ σ b [] := ⟨fun _ _ => rfl, fun _ _ => ⟨rfl, rfl⟩, rfl⟩
theorem C1_s {σ σ1 : qS} {b : Int} {L : List Pr} {x : Pr} (h : C1 σ σ1 b L) : C1 σ (su (su σ1 0 (b + L.length) x.1) 1 (b + L.length) x.2) b (L ++ [x]) := by
  obtain ⟨h1, h2, h3⟩ := h
  refine ⟨fun q hq => by rw [su_k (by intro e; subst e; exact hq (by decide)), su_k (by intro e; subst e; exact hq (by decide))]; exact h1 q hq, fun j hj => ?_, ?_⟩
  · simp only [List.length_append, List.length_singleton] at hj
    rw [su_k (by decide), su_e, su_e, if_neg (by omega), if_neg (by omega), su_k (by decide)]; exact h2 j (by omega)
  · rw [List.length_append, List.length_singleton, row_s]
    congr 1
    · rw [row_keep (σ := σ1) (fun j j0 j1 => by rw [su_k (by decide), su_e, su_e, if_neg (by omega), if_neg (by omega), su_k (by decide)]; exact ⟨rfl, rfl⟩)]; exact h3
    · rw [su_k (by decide), su_s, su_s]
theorem C1_j {σ0 σ : qS} {b : Int} {L : List Pr} (h : C1 σ0 σ b L) (hj : jobok σ0) (hb : b = σ0 12 (jb σ0) * 300) : P_M_job σ ∧ jb σ = jb σ0 ∧ σ 13 = σ0 13 ∧ σ 12 = σ0 12 ∧ σ 41 = σ0 41 ∧ σ 42 = σ0 42 ∧ σ 43 = σ0 43 := by
  have h1 := h.1
  refine ⟨by rw [show P_M_job σ = (0 ≤ σ 32 0 ∧ σ 32 0 < 8) from rfl, h1 _ (by decide)]; exact hj.1, by unfold jb; rw [h1 _ (by decide), h1 _ (by decide)], h1 _ (by decide), h1 _ (by decide), h1 _ (by decide), h1 _ (by decide), h1 _ (by decide)⟩
theorem v_M_commit_76 {l : Launch} {ad : Nat → Nat} {D : va_G} {cA : Nat → ClassId} {WW : Nat → qP} {QR : Option qA → qS → Prop} (S : qSnd l rm_M_commit ad D cA R_M b_M_commit 5 WW) (Q : qRet (none) b_M_commit WW QR) (σ0 : qS) (n : Int) (hp : P_M_commit σ0) (k : Nat) (hk : (k : Int) < σ0 13 (jb σ0)) (hle : ((pcat σ0 (k + 1)).length : Int) ≤ 300) (K : ∀ σ, C1 σ0 σ (σ0 12 (jb σ0) * 300) (pcat σ0 (k + 1)) → WW 60 [] [some (.inr (.inr 900)), some (.inl n), some (.inl (σ0 12 (jb σ0) * 300 + (pcat σ0 (k + 1)).length)), some (.inl ((k + 1 : Nat) : Int)), none] σ) :
    ∀ (m i : Nat) (σ : qS), ((i + m : Nat) : Int) = σ0 41 k → C1 σ0 σ (σ0 12 (jb σ0) * 300) (pcat σ0 k ++ row σ0 42 43 (k * 300) i) → WW 76 [] [some (.inr (.inr 900)), some (.inl n), some (.inl (σ0 12 (jb σ0) * 300 + (pcat σ0 k).length + i)), some (.inl (k : Int)), some (.inl (i : Int))] σ := by
  obtain ⟨hj, hps, he⟩ := hp
  have hpar := hj.2.2.2.2.2.1
  have hout := hj.2.2.2.2.1
  have hpk := hps k (by omega) hk
  intro m
  induction m with
  | zero =>
    intro i σ hi hC
    obtain ⟨-, -, c3, c4, c5, c6, c7⟩ := C1_j hC hj rfl
    refine s_M_commit_76 S Q _ _ _ ?_
    simp only [k_M_commit_0, k_M_commit_4, k_M_commit_17, k_M_commit_32, k_M_commit_39, k_M_commit_44, k_M_commit_60, k_M_commit_73, k_M_commit_76, k_M_commit_87, k_M_commit_134, k_M_commit_140, oc_M_fail, oc_M_job, oc_M_nextJob, o_c, o_il, o_ll, o_al, o_is, o_as, o_ls, o_inc, o_bi, o_bid, o_bl, o_bld, o_sl, o_i2l, o_l2i, o_dup, o_dup2, o_pop, o_pop2, o_if, o_i2, o_l2, swg, o_sw, o_gI, o_gZ, o_gJ, o_gA, o_gR, o_pI, o_pZ, o_pJ, o_pR, o_ia, o_iak, o_zak, o_ja, o_jak, o_is_, o_isk, o_zsk, o_js_, o_jsk, o_len, o_ri, o_rz, o_rl, o_rv, ls1, ls2, lks, lkj, List.getD_cons_zero, List.getD_cons_succ, List.set_cons_zero, List.set_cons_succ, qcat, true_and, and_true, List.map_nil, List.map_cons, List.sum_nil, List.sum_cons, Nat.reduceAdd, Nat.reduceLeDiff, Nat.zero_le, Int.reduceAdd, Int.reduceNeg, Int.reduceEq, or_true, true_or, Decidable.not_not, false_implies, not_false_eq_true, true_implies, not_true_eq_false, Int.reduceLT, Int.reduceLE]
    rw [c5, w32_i ((k : Int) + 1) (by omega) (by omega)]
    refine ⟨by omega, fun _ => ?_, fun h => by omega⟩
    have e1 : pcat σ0 k ++ row σ0 42 43 (k * 300) i = pcat σ0 (k + 1) := by rw [pcat, show (σ0 41 k).toNat = i by omega]
    have e2 : ((pcat σ0 (k + 1)).length : Int) = (pcat σ0 k).length + i := by rw [← e1, List.length_append, row_len]; omega
    rw [e1] at hC
    have := K σ hC
    rw [e2, ← Int.add_assoc] at this
    exact S.fg (ls' := [some (.inr (.inr 900)), some (.inl n), some (.inl (σ0 12 (jb σ0) * 300 + (pcat σ0 k).length + i)), some (.inl ((k + 1 : Nat) : Int)), none]) ⟨rfl, rfl, rfl, rfl, trivial⟩ this
  | succ m ih =>
    intro i σ hi hC
    obtain ⟨-, -, c3, c4, c5, c6, c7⟩ := C1_j hC hj rfl
    refine s_M_commit_76 S Q _ _ _ ?_
    simp only [k_M_commit_0, k_M_commit_4, k_M_commit_17, k_M_commit_32, k_M_commit_39, k_M_commit_44, k_M_commit_60, k_M_commit_73, k_M_commit_76, k_M_commit_87, k_M_commit_134, k_M_commit_140, oc_M_fail, oc_M_job, oc_M_nextJob, o_c, o_il, o_ll, o_al, o_is, o_as, o_ls, o_inc, o_bi, o_bid, o_bl, o_bld, o_sl, o_i2l, o_l2i, o_dup, o_dup2, o_pop, o_pop2, o_if, o_i2, o_l2, swg, o_sw, o_gI, o_gZ, o_gJ, o_gA, o_gR, o_pI, o_pZ, o_pJ, o_pR, o_ia, o_iak, o_zak, o_ja, o_jak, o_is_, o_isk, o_zsk, o_js_, o_jsk, o_len, o_ri, o_rz, o_rl, o_rv, ls1, ls2, lks, lkj, List.getD_cons_zero, List.getD_cons_succ, List.set_cons_zero, List.set_cons_succ, qcat, true_and, and_true, List.map_nil, List.map_cons, List.sum_nil, List.sum_cons, Nat.reduceAdd, Nat.reduceLeDiff, Nat.zero_le, Int.reduceAdd, Int.reduceNeg, Int.reduceEq, or_true, true_or, Decidable.not_not, false_implies, not_false_eq_true, true_implies, not_true_eq_false, Int.reduceLT, Int.reduceLE]
    simp (disch := omega) only [su_k]
    have hl : ((pcat σ0 (k + 1)).length : Int) = (pcat σ0 k).length + σ0 41 k := by rw [pcat, List.length_append, row_len]; omega
    have e1 : z_add (z_mul (k : Int) 300) (i : Int) = (k : Int) * 300 + i := by unfold z_add z_mul; rw [w32_i ((k : Int) * 300) (by omega) (by omega), w32_i _ (by omega) (by omega)]
    rw [c5, c6, c7, e1, w32_i ((i : Int) + 1) (by omega) (by omega), w32_i (σ0 12 (jb σ0) * 300 + ((pcat σ0 k).length : Int) + (i : Int) + 1) (by omega) (by omega)]
    refine ⟨by omega, fun h => by omega, fun _ => ⟨by omega, by omega, by omega, by omega, ?_⟩⟩
    have hC' := C1_s (x := (σ0 42 ((k : Int) * 300 + i), σ0 43 ((k : Int) * 300 + i))) hC
    rw [List.append_assoc, ← row_s, List.length_append, row_len] at hC'
    have := ih (i + 1) _ (by omega) hC'
    simp only [Int.natCast_add, Int.natCast_one, ← Int.add_assoc] at this ⊢
    exact this
theorem v_M_commit_60 {l : Launch} {ad : Nat → Nat} {D : va_G} {cA : Nat → ClassId} {WW : Nat → qP} {QR : Option qA → qS → Prop} (S : qSnd l rm_M_commit ad D cA R_M b_M_commit 5 WW) (Q : qRet (none) b_M_commit WW QR) (σ0 : qS) (n : Int) (hp : P_M_commit σ0) (hn : n = (pcat σ0 (σ0 13 (jb σ0)).toNat).length) (hle : n ≤ 300) (hq : ∀ σ', Q_M_commit σ0 σ' → QR none σ') :
    ∀ (m k : Nat) (σ : qS), ((k + m : Nat) : Int) = σ0 13 (jb σ0) → ((pcat σ0 k).length : Int) ≤ 300 → C1 σ0 σ (σ0 12 (jb σ0) * 300) (pcat σ0 k) → WW 60 [] [some (.inr (.inr 900)), some (.inl n), some (.inl (σ0 12 (jb σ0) * 300 + (pcat σ0 k).length)), some (.inl (k : Int)), none] σ := by
  have hp' := hp
  obtain ⟨hj, hps, he⟩ := hp
  have hpar := hj.2.2.2.2.2.1
  have hmono : ∀ (a b : Nat), ((pcat σ0 a).length : Int) ≤ (pcat σ0 (a + b)).length := by
    intro a b
    induction b with
    | zero => exact Int.le_refl _
    | succ b ih => rw [← Nat.add_assoc, pcat, List.length_append]; omega
  intro m
  induction m with
  | zero =>
    intro k σ hk hk3 hC
    obtain ⟨c1, c2, c3, c4, c5, c6, c7⟩ := C1_j hC hj rfl
    refine s_M_commit_60 S Q _ _ _ ?_
    simp only [k_M_commit_0, k_M_commit_4, k_M_commit_17, k_M_commit_32, k_M_commit_39, k_M_commit_44, k_M_commit_60, k_M_commit_73, k_M_commit_76, k_M_commit_87, k_M_commit_134, k_M_commit_140, oc_M_fail, oc_M_job, oc_M_nextJob, o_c, o_il, o_ll, o_al, o_is, o_as, o_ls, o_inc, o_bi, o_bid, o_bl, o_bld, o_sl, o_i2l, o_l2i, o_dup, o_dup2, o_pop, o_pop2, o_if, o_i2, o_l2, swg, o_sw, o_gI, o_gZ, o_gJ, o_gA, o_gR, o_pI, o_pZ, o_pJ, o_pR, o_ia, o_iak, o_zak, o_ja, o_jak, o_is_, o_isk, o_zsk, o_js_, o_jsk, o_len, o_ri, o_rz, o_rl, o_rv, ls1, ls2, lks, lkj, List.getD_cons_zero, List.getD_cons_succ, List.set_cons_zero, List.set_cons_succ, qcat, true_and, and_true, List.map_nil, List.map_cons, List.sum_nil, List.sum_cons, Nat.reduceAdd, Nat.reduceLeDiff, Nat.zero_le, Int.reduceAdd, Int.reduceNeg, Int.reduceEq, or_true, true_or, Decidable.not_not, false_implies, not_false_eq_true, true_implies, not_true_eq_false, Int.reduceLT, Int.reduceLE]
    refine ⟨c1, fun r σ1 q1 => ?_⟩
    obtain ⟨e9, rfl⟩ := q1; replace e9 := e9.symm; subst e9
    rw [c2, c3]
    refine ⟨hj.2.1, fun _ => ⟨c1, fun r σ1 q1 => ?_⟩, fun h => by omega⟩
    obtain ⟨e9, rfl⟩ := q1; replace e9 := e9.symm; subst e9
    rw [c2, c4, su_k (by decide), hC.1 32 (by decide)]
    have e1 : z_add (σ0 32 0) 1 = σ0 32 0 + 1 := by have := hj.1; unfold z_add; exact w32_i _ (by omega) (by omega)
    rw [e1]
    refine ⟨hj.2.1, hj.2.2.2.2.1, ?_, fun σ' q => hq _ (Or.inr ⟨by omega, σ, ?_, ?_⟩)⟩
    · show 0 ≤ _ ∧ _ < _
      rw [su_k (by decide), su_k (by decide), hC.1 31 (by decide)]; exact he
    · rw [show (σ0 13 (jb σ0)).toNat = k by omega]; exact hC
    · rw [← hn]; exact q
  | succ m ih =>
    intro k σ hk hk3 hC
    obtain ⟨c1, c2, c3, c4, c5, c6, c7⟩ := C1_j hC hj rfl
    refine s_M_commit_60 S Q _ _ _ ?_
    simp only [k_M_commit_0, k_M_commit_4, k_M_commit_17, k_M_commit_32, k_M_commit_39, k_M_commit_44, k_M_commit_60, k_M_commit_73, k_M_commit_76, k_M_commit_87, k_M_commit_134, k_M_commit_140, oc_M_fail, oc_M_job, oc_M_nextJob, o_c, o_il, o_ll, o_al, o_is, o_as, o_ls, o_inc, o_bi, o_bid, o_bl, o_bld, o_sl, o_i2l, o_l2i, o_dup, o_dup2, o_pop, o_pop2, o_if, o_i2, o_l2, swg, o_sw, o_gI, o_gZ, o_gJ, o_gA, o_gR, o_pI, o_pZ, o_pJ, o_pR, o_ia, o_iak, o_zak, o_ja, o_jak, o_is_, o_isk, o_zsk, o_js_, o_jsk, o_len, o_ri, o_rz, o_rl, o_rv, ls1, ls2, lks, lkj, List.getD_cons_zero, List.getD_cons_succ, List.set_cons_zero, List.set_cons_succ, qcat, true_and, and_true, List.map_nil, List.map_cons, List.sum_nil, List.sum_cons, Nat.reduceAdd, Nat.reduceLeDiff, Nat.zero_le, Int.reduceAdd, Int.reduceNeg, Int.reduceEq, or_true, true_or, Decidable.not_not, false_implies, not_false_eq_true, true_implies, not_true_eq_false, Int.reduceLT, Int.reduceLE]
    refine ⟨c1, fun r σ1 q1 => ?_⟩
    obtain ⟨e9, rfl⟩ := q1; replace e9 := e9.symm; subst e9
    rw [c2, c3]
    refine ⟨hj.2.1, fun h => by omega, fun _ => ?_⟩
    have hk1 : ((pcat σ0 (k + 1)).length : Int) ≤ 300 := by
      have := hmono (k + 1) m
      rw [show k + 1 + m = (σ0 13 (jb σ0)).toNat by omega] at this
      omega
    have hpk := hps k (by omega) (by omega)
    have := v_M_commit_76 S Q σ0 n hp' k (by omega) hk1 (fun σ' hC' => ih (k + 1) σ' (by omega) hk1 hC') (σ0 41 k).toNat 0 σ (by omega) (by simpa [row] using hC)
    rw [show σ0 12 (jb σ0) * 300 + ((pcat σ0 k).length : Int) + ((0 : Nat) : Int) = σ0 12 (jb σ0) * 300 + ((pcat σ0 k).length : Int) by omega] at this
    exact this
theorem v_M_commit_32 {l : Launch} {ad : Nat → Nat} {D : va_G} {cA : Nat → ClassId} {WW : Nat → qP} {QR : Option qA → qS → Prop} (S : qSnd l rm_M_commit ad D cA R_M b_M_commit 5 WW) (Q : qRet (none) b_M_commit WW QR) (σ : qS) (n : Int) (hp : P_M_commit σ) (hn : n = (pcat σ (σ 13 (jb σ)).toNat).length) (hq : ∀ σ', Q_M_commit σ σ' → QR none σ') : WW 32 [] [some (.inr (.inr 900)), some (.inl n), none, none, none] σ := by
  refine s_M_commit_32 S Q _ _ _ ?_
  simp only [k_M_commit_0, k_M_commit_4, k_M_commit_17, k_M_commit_32, k_M_commit_39, k_M_commit_44, k_M_commit_60, k_M_commit_73, k_M_commit_76, k_M_commit_87, k_M_commit_134, k_M_commit_140, oc_M_fail, oc_M_job, oc_M_nextJob, o_c, o_il, o_ll, o_al, o_is, o_as, o_ls, o_inc, o_bi, o_bid, o_bl, o_bld, o_sl, o_i2l, o_l2i, o_dup, o_dup2, o_pop, o_pop2, o_if, o_i2, o_l2, swg, o_sw, o_gI, o_gZ, o_gJ, o_gA, o_gR, o_pI, o_pZ, o_pJ, o_pR, o_ia, o_iak, o_zak, o_ja, o_jak, o_is_, o_isk, o_zsk, o_js_, o_jsk, o_len, o_ri, o_rz, o_rl, o_rv, ls1, ls2, lks, lkj, List.getD_cons_zero, List.getD_cons_succ, List.set_cons_zero, List.set_cons_succ, qcat, true_and, and_true, List.map_nil, List.map_cons, List.sum_nil, List.sum_cons, Nat.reduceAdd, Nat.reduceLeDiff, Nat.zero_le, Int.reduceAdd, Int.reduceNeg, Int.reduceEq, or_true, true_or, Decidable.not_not, false_implies, not_false_eq_true, true_implies, not_true_eq_false, Int.reduceLT, Int.reduceLE]
  have hj := hp.1
  have hout := hj.2.2.2.2.1
  have hpar := hj.2.2.2.2.2.1
  refine ⟨fun hle => ⟨hj.1, fun r σ1 q1 => ?_⟩, fun hgt => ⟨hj.1, fun σ' q => hq _ (Or.inl ⟨by omega, q⟩)⟩⟩
  obtain ⟨e9, rfl⟩ := q1; replace e9 := e9.symm; subst e9
  have e1 : z_mul (σ 12 (jb σ)) 300 = σ 12 (jb σ) * 300 := by unfold z_mul; exact w32_i _ (by omega) (by omega)
  rw [e1]
  refine ⟨hj.2.1, ?_⟩
  have := v_M_commit_60 S Q σ n hp hn hle hq (σ 13 (jb σ)).toNat 0 σ (by omega) (by simp [pcat]) C1_0
  simpa [pcat] using this
theorem v_M_commit_4 {l : Launch} {ad : Nat → Nat} {D : va_G} {cA : Nat → ClassId} {WW : Nat → qP} {QR : Option qA → qS → Prop} (S : qSnd l rm_M_commit ad D cA R_M b_M_commit 5 WW) (Q : qRet (none) b_M_commit WW QR) (σ : qS) (hp : P_M_commit σ) (hq : ∀ σ', Q_M_commit σ σ' → QR none σ') :
    ∀ (m k : Nat), ((k + m : Nat) : Int) = σ 13 (jb σ) → WW 4 [] [some (.inr (.inr 900)), some (.inl (ssum (σ 41) k)), some (.inl (k : Int)), none, none] σ := by
  have hp' := hp
  obtain ⟨hj, hps, he⟩ := hp
  have hpar := hj.2.2.2.2.2.1
  intro m
  induction m with
  | zero =>
    intro k hk
    refine s_M_commit_4 S Q _ _ _ ?_
    simp only [k_M_commit_0, k_M_commit_4, k_M_commit_17, k_M_commit_32, k_M_commit_39, k_M_commit_44, k_M_commit_60, k_M_commit_73, k_M_commit_76, k_M_commit_87, k_M_commit_134, k_M_commit_140, oc_M_fail, oc_M_job, oc_M_nextJob, o_c, o_il, o_ll, o_al, o_is, o_as, o_ls, o_inc, o_bi, o_bid, o_bl, o_bld, o_sl, o_i2l, o_l2i, o_dup, o_dup2, o_pop, o_pop2, o_if, o_i2, o_l2, swg, o_sw, o_gI, o_gZ, o_gJ, o_gA, o_gR, o_pI, o_pZ, o_pJ, o_pR, o_ia, o_iak, o_zak, o_ja, o_jak, o_is_, o_isk, o_zsk, o_js_, o_jsk, o_len, o_ri, o_rz, o_rl, o_rv, ls1, ls2, lks, lkj, List.getD_cons_zero, List.getD_cons_succ, List.set_cons_zero, List.set_cons_succ, qcat, true_and, and_true, List.map_nil, List.map_cons, List.sum_nil, List.sum_cons, Nat.reduceAdd, Nat.reduceLeDiff, Nat.zero_le, Int.reduceAdd, Int.reduceNeg, Int.reduceEq, or_true, true_or, Decidable.not_not, false_implies, not_false_eq_true, true_implies, not_true_eq_false, Int.reduceLT, Int.reduceLE]
    refine ⟨hj.1, fun r σ1 q1 => ?_⟩
    obtain ⟨e9, rfl⟩ := q1; replace e9 := e9.symm; subst e9
    refine ⟨hj.2.1, fun _ => ?_, fun h => by omega⟩
    refine S.fg (ls' := [some (.inr (.inr 900)), some (.inl (ssum (σ 41) k)), none, none, none]) ⟨rfl, rfl, trivial⟩ (v_M_commit_32 S Q σ _ hp' ?_ hq)
    rw [show (σ 13 (jb σ)).toNat = k by omega, pcat_len k (fun i h0 h1 => hps i h0 (by omega))]
  | succ m ih =>
    intro k hk
    refine s_M_commit_4 S Q _ _ _ ?_
    simp only [k_M_commit_0, k_M_commit_4, k_M_commit_17, k_M_commit_32, k_M_commit_39, k_M_commit_44, k_M_commit_60, k_M_commit_73, k_M_commit_76, k_M_commit_87, k_M_commit_134, k_M_commit_140, oc_M_fail, oc_M_job, oc_M_nextJob, o_c, o_il, o_ll, o_al, o_is, o_as, o_ls, o_inc, o_bi, o_bid, o_bl, o_bld, o_sl, o_i2l, o_l2i, o_dup, o_dup2, o_pop, o_pop2, o_if, o_i2, o_l2, swg, o_sw, o_gI, o_gZ, o_gJ, o_gA, o_gR, o_pI, o_pZ, o_pJ, o_pR, o_ia, o_iak, o_zak, o_ja, o_jak, o_is_, o_isk, o_zsk, o_js_, o_jsk, o_len, o_ri, o_rz, o_rl, o_rv, ls1, ls2, lks, lkj, List.getD_cons_zero, List.getD_cons_succ, List.set_cons_zero, List.set_cons_succ, qcat, true_and, and_true, List.map_nil, List.map_cons, List.sum_nil, List.sum_cons, Nat.reduceAdd, Nat.reduceLeDiff, Nat.zero_le, Int.reduceAdd, Int.reduceNeg, Int.reduceEq, or_true, true_or, Decidable.not_not, false_implies, not_false_eq_true, true_implies, not_true_eq_false, Int.reduceLT, Int.reduceLE]
    refine ⟨hj.1, fun r σ1 q1 => ?_⟩
    obtain ⟨e9, rfl⟩ := q1; replace e9 := e9.symm; subst e9
    have hb := ssum_b (f := σ 41) (B := 300) k (fun i h0 h1 => hps i h0 (by omega))
    have hb2 := hps k (by omega) (by omega)
    have e1 : z_add (ssum (σ 41) k) (σ 41 k) = ssum (σ 41) (k + 1) := by unfold z_add; rw [w32_i _ (by omega) (by omega)]; rfl
    rw [e1, w32_i _ (by omega) (by omega)]
    exact ⟨hj.2.1, fun h => by omega, fun _ => ⟨by omega, ih (k + 1) (by omega)⟩⟩
theorem w_M_commit {l : Launch} {ad : Nat → Nat} {D : va_G} {cA : Nat → ClassId} {WW : Nat → qP} {QR : Option qA → qS → Prop} (S : qSnd l rm_M_commit ad D cA R_M b_M_commit 5 WW) (Q : qRet (none) b_M_commit WW QR)  (σ : qS)  (hσ : qoS σ) (h : P_M_commit  σ) (hq : ∀ σ', Q_M_commit  σ σ' → QR none σ') : WW 0 [] [some (.inr (.inr 900)), none, none, none, none] σ := by
  refine s_M_commit_0 S Q _ _ _ ?_
  simp only [k_M_commit_0, k_M_commit_4, k_M_commit_17, k_M_commit_32, k_M_commit_39, k_M_commit_44, k_M_commit_60, k_M_commit_73, k_M_commit_76, k_M_commit_87, k_M_commit_134, k_M_commit_140, oc_M_fail, oc_M_job, oc_M_nextJob, o_c, o_il, o_ll, o_al, o_is, o_as, o_ls, o_inc, o_bi, o_bid, o_bl, o_bld, o_sl, o_i2l, o_l2i, o_dup, o_dup2, o_pop, o_pop2, o_if, o_i2, o_l2, swg, o_sw, o_gI, o_gZ, o_gJ, o_gA, o_gR, o_pI, o_pZ, o_pJ, o_pR, o_ia, o_iak, o_zak, o_ja, o_jak, o_is_, o_isk, o_zsk, o_js_, o_jsk, o_len, o_ri, o_rz, o_rl, o_rv, ls1, ls2, lks, lkj, List.getD_cons_zero, List.getD_cons_succ, List.set_cons_zero, List.set_cons_succ, qcat, true_and, and_true, List.map_nil, List.map_cons, List.sum_nil, List.sum_cons, Nat.reduceAdd, Nat.reduceLeDiff, Nat.zero_le, Int.reduceAdd, Int.reduceNeg, Int.reduceEq, or_true, true_or, Decidable.not_not, false_implies, not_false_eq_true, true_implies, not_true_eq_false, Int.reduceLT, Int.reduceLE]
  have hpar := h.1.2.2.2.2.2.1
  exact v_M_commit_4 S Q σ h hq (σ 13 (jb σ)).toNat 0 (by omega)
theorem c_M_commit (l : Launch) (ad : Nat → Nat) (D : va_G) (cA : Nat → ClassId) : qC l ad D cA y_M_commit (Cond.code y_M_commit b_M_commit 5 (none) :: lw_g) rm_M_commit pre_M_commit post_M_commit := by
  refine qC_of (own := R_M) (by decide) rfl ⟨rfl, rfl⟩ ?_ ?_
  · intro av σ h; unfold pre_M_commit at h; split at h
    · simp [qen]
    · exact h.elim
  · intro WW QR S Q av σ hav hσ h hq; unfold pre_M_commit at h; split at h
    next o =>
      obtain ⟨rfl, h⟩ := h
      exact w_M_commit S Q  σ  hσ h (fun σ' h' => hq _ σ' h')
    next => exact h.elim

