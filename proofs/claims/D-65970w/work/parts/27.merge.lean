theorem mrg_step {pre post : List (List Pr)} {e : Pr} {t out all : List Pr} (hf : ∀ c, fk c out ++ fk c (pre ++ (e :: t) :: post).flatten = fk c all) (hs : srtd out) (hle : ∀ x ∈ out, ∀ y ∈ (pre ++ (e :: t) :: post).flatten, x.1 ≤ y.1) (hpre : ∀ y ∈ pre.flatten, e.1 < y.1) (hpost : ∀ y ∈ t ++ post.flatten, e.1 ≤ y.1) :
    (∀ c, fk c (out ++ [e]) ++ fk c (pre ++ t :: post).flatten = fk c all) ∧ srtd (out ++ [e]) ∧ ∀ x ∈ out ++ [e], ∀ y ∈ (pre ++ t :: post).flatten, x.1 ≤ y.1 := by
  have hfl : ∀ u : List Pr, (pre ++ u :: post).flatten = pre.flatten ++ (u ++ post.flatten) := fun u => by simp
  rw [hfl] at hle
  refine ⟨fun c => ?_, List.pairwise_append.mpr ⟨hs, List.pairwise_singleton _ _, fun a ha b hb => ?_⟩, fun x hx y hy => ?_⟩
  · have := hf c
    rw [hfl, fk_app, List.cons_append, fk_cons] at this
    rw [hfl, fk_app, fk_app]
    by_cases h : e.1 = c
    · rw [if_pos h, fk_nil_of (l := pre.flatten) (fun y hy => by have := hpre y hy; omega)] at this
      rw [fk_nil_of (l := pre.flatten) (fun y hy => by have := hpre y hy; omega), show fk c [e] = [e] by rw [fk_cons, if_pos h]; rfl, ← this]
      simp
    · rw [if_neg h] at this
      rw [show fk c [e] = [] by rw [fk_cons, if_neg h]; rfl, ← this]
      simp
  · rw [List.mem_singleton] at hb
    subst hb
    exact hle a ha _ (List.mem_append_right _ List.mem_cons_self)
  · rw [hfl] at hy
    rcases List.mem_append.mp hx with hx | hx
    · refine hle x hx y ?_
      rcases List.mem_append.mp hy with h | h
      · exact List.mem_append_left _ h
      · exact List.mem_append_right _ (List.mem_cons_of_mem _ h)
    · rw [List.mem_singleton] at hx
      subst hx
      rcases List.mem_append.mp hy with h | h
      · exact Int.le_of_lt (hpre y h)
      · exact hpost y h
def sgm (σ : qS) (rk rv : Nat) (b : Int) (A hd : Nat → Int) (ct : Nat) : List (List Pr) := (List.range ct).map (fun k => row σ rk rv (b + hd k) (A (k + 1) - hd k).toNat)
theorem sgm_at {σ : qS} {rk rv : Nat} {b : Int} {A hd : Nat → Int} {ct k : Nat} (h : k < ct) : (sgm σ rk rv b A hd ct)[k]? = some (row σ rk rv (b + hd k) (A (k + 1) - hd k).toNat) := by
  unfold sgm; rw [List.getElem?_map, List.getElem?_range h]; rfl
theorem sgm_no {σ : qS} {rk rv : Nat} {b : Int} {A hd : Nat → Int} {ct k : Nat} (h : ¬ k < ct) : (sgm σ rk rv b A hd ct)[k]? = none := List.getElem?_eq_none (by simp [sgm]; omega)
theorem row_c {σ : qS} {kk kv : Nat} {b : Int} {n : Nat} : row σ kk kv b (n + 1) = (σ kk b, σ kv b) :: row σ kk kv (b + 1) n := by
  rw [show n + 1 = 1 + n by omega, row_app]
  simp [row]
theorem sgm_flat {σ : qS} {rk rv : Nat} {b : Int} {A : Nat → Int} : ∀ (ct : Nat), (∀ i, i < ct → A i ≤ A (i + 1)) → A 0 ≤ A ct ∧ (sgm σ rk rv b A A ct).flatten = row σ rk rv (b + A 0) (A ct - A 0).toNat := by
  intro ct
  induction ct with
  | zero => intro _; simp [sgm, row]
  | succ n ih =>
    intro h
    obtain ⟨h1, h2⟩ := ih (fun i hi => h i (by omega))
    have h3 := h n (by omega)
    refine ⟨by omega, ?_⟩
    have : sgm σ rk rv b A A (n + 1) = sgm σ rk rv b A A n ++ [row σ rk rv (b + A n) (A (n + 1) - A n).toNat] := by
      unfold sgm; rw [List.range_succ, List.map_append]; rfl
    rw [this, List.flatten_append, h2, show (A (n + 1) - A 0).toNat = (A n - A 0).toNat + (A (n + 1) - A n).toNat by omega, row_app]
    rw [show b + A 0 + ((A n - A 0).toNat : Int) = b + A n by omega]
    simp
theorem pw_sub {l : List Pr} (h : srtd l) {i : Nat} : srtd (l.drop i) := List.Pairwise.sublist (List.drop_sublist i l) h
theorem row_drop {σ : qS} {kk kv : Nat} {b : Int} {n i : Nat} (h : i ≤ n) : row σ kk kv (b + i) (n - i) = (row σ kk kv b n).drop i := by
  have := row_app σ kk kv b i (n - i)
  rw [show i + (n - i) = n by omega] at this
  rw [this, List.drop_append_of_le_length (by rw [row_len]; omega), List.drop_of_length_le (by rw [row_len]; omega)]; rfl
def AA (σ : qS) (rt : Nat) (ra_ : Int) : Nat → Int := fun i => σ rt (ra_ + i)
def P_M_merge (rk rv : Nat) (b : Int) (rt : Nat) (ra_ ct : Int) (σ : qS) : Prop := (rk ∈ qar ∧ qty rk = 1 ∧ rv ∈ qar ∧ qty rv = 1 ∧ rt ∈ qar ∧ qty rt = 0) ∧ (rk ∉ [79, 80, 81] ∧ rv ∉ [79, 80, 81] ∧ rt ∉ [79, 80, 81]) ∧ (0 ≤ ct ∧ ct ≤ 64) ∧ (0 ≤ ra_ ∧ ra_ + ct < qln rt) ∧ 0 ≤ b ∧ 0 ≤ AA σ rt ra_ 0 ∧ (b + AA σ rt ra_ ct.toNat ≤ qln rk ∧ b + AA σ rt ra_ ct.toNat ≤ qln rv) ∧ AA σ rt ra_ ct.toNat - AA σ rt ra_ 0 ≤ 1000 ∧
  (∀ i : Nat, (i : Int) < ct → AA σ rt ra_ i ≤ AA σ rt ra_ (i + 1)) ∧ ∀ i : Nat, (i : Int) < ct → srtd (row σ rk rv (b + AA σ rt ra_ i) (AA σ rt ra_ (i + 1) - AA σ rt ra_ i).toNat)
def F_mrg (σ σ' : qS) : Prop := ∀ k, k ∉ [79, 80, 81] → σ' k = σ k
def Q_M_merge (rk rv : Nat) (b : Int) (rt : Nat) (ra_ ct : Int) (σ : qS) (r : Int) (σ' : qS) : Prop := F_mrg σ σ' ∧ r = AA σ rt ra_ ct.toNat - AA σ rt ra_ 0 ∧ row σ' 79 80 0 r.toNat = srt (row σ rk rv (b + AA σ rt ra_ 0) r.toNat)
def pre_M_merge (av : List qA) (σ : qS) : Prop := match av with
  | [.inr (.inr o), .inr (.inr a1), .inr (.inr a2), .inl a3, .inr (.inr a4), .inl a5, .inl a6] => o = 900 ∧ P_M_merge a1 a2 a3 a4 a5 a6 σ
  | _ => False
def post_M_merge (av : List qA) (σ : qS) (r : Option qA) (σ' : qS) : Prop := match av, r with
  | [_, .inr (.inr a1), .inr (.inr a2), .inl a3, .inr (.inr a4), .inl a5, .inl a6], some (.inl r) => Q_M_merge a1 a2 a3 a4 a5 a6 σ r σ'
  | _, _ => False
def oc_M_merge (K : qP) : qP := fun st ls σ => match st with
  | .inl a6 :: .inl a5 :: .inr (.inr a4) :: .inl a3 :: .inr (.inr a2) :: .inr (.inr a1) :: .inr (.inr o) :: st => o = 900 ∧ (st.map qcat).sum ≤ 8 ∧ P_M_merge a1 a2 a3 a4 a5 a6 σ ∧ ∀ (r : Int) (σ' : qS), Q_M_merge a1 a2 a3 a4 a5 a6 σ r σ' → K (.inl r :: st) ls σ'
  | _ => False
def rm_M_merge : Room := { frames := 0, cells := 0, slots := 0, locals := 0 }
theorem fl_M_195 : qF R_M 900 0 82 0 R_M F_M 195 81 := ⟨Or.inl ⟨rfl, rfl, rfl, rfl, rfl, rfl⟩, by decide, lw_at 159 (by decide +kernel) rfl⟩
def k_M_merge_191 (QR : Option qA → qS → Prop) (H : Nat → qP) : qP :=
  o_il 7 <| o_ri QR
def k_M_merge_138 (QR : Option qA → qS → Prop) (H : Nat → qP) : qP :=
  o_al 0 <| o_gA 900 79 <| o_il 7 <| o_al 1 <| o_il 3 <| o_al 0 <| o_gA 900 81 <| o_il 9 <| o_iak 81 65 <| o_bi z_add <| o_ja <| o_jsk 79 1000 <| o_al 0 <| o_gA 900 80 <| o_il 7 <| o_al 2 <| o_il 3 <| o_al 0 <| o_gA 900 81 <| o_il 9 <| o_iak 81 65 <| o_bi z_add <| o_ja <| o_jsk 80 1000 <| o_al 0 <| o_gA 900 81 <| o_il 9 <| o_dup2 <| o_iak 81 65 <| o_c (.inl 1) <| o_bi z_add <| o_isk 81 65 <| o_inc 7 1 <| H 37
def k_M_merge_135 (QR : Option qA → qS → Prop) (H : Nat → qP) : qP :=
  H 37
def k_M_merge_128 (QR : Option qA → qS → Prop) (H : Nat → qP) : qP :=
  o_is 8 <| o_il 8 <| o_if (fun a => ¬ a = 0) (k_M_merge_138 QR H) (k_M_merge_135 QR H)
def k_M_merge_127 (QR : Option qA → qS → Prop) (H : Nat → qP) : qP :=
  o_c (.inl 0) <| k_M_merge_128 QR H
def k_M_merge_123 (QR : Option qA → qS → Prop) (H : Nat → qP) : qP :=
  o_c (.inl 1) <| k_M_merge_128 QR H
def k_M_merge_117 (QR : Option qA → qS → Prop) (H : Nat → qP) : qP :=
  o_il 9 <| o_c (.inl (-1)) <| o_i2 (fun a b => a = b) (k_M_merge_127 QR H) (k_M_merge_123 QR H)
def k_M_merge_111 (QR : Option qA → qS → Prop) (H : Nat → qP) : qP :=
  o_inc 10 1 <| H 48
def k_M_merge_107 (QR : Option qA → qS → Prop) (H : Nat → qP) : qP :=
  o_il 10 <| o_is 9 <| k_M_merge_111 QR H
def k_M_merge_81 (QR : Option qA → qS → Prop) (H : Nat → qP) : qP :=
  o_al 1 <| o_il 3 <| o_al 0 <| o_gA 900 81 <| o_il 10 <| o_iak 81 65 <| o_bi z_add <| o_ja <| o_al 1 <| o_il 3 <| o_al 0 <| o_gA 900 81 <| o_il 9 <| o_iak 81 65 <| o_bi z_add <| o_ja <| o_l2 (fun a b => b ≤ a) (k_M_merge_111 QR H) (k_M_merge_107 QR H)
def k_M_merge_75 (QR : Option qA → qS → Prop) (H : Nat → qP) : qP :=
  o_il 9 <| o_c (.inl (-1)) <| o_i2 (fun a b => a = b) (k_M_merge_107 QR H) (k_M_merge_81 QR H)
def k_M_merge_55 (QR : Option qA → qS → Prop) (H : Nat → qP) : qP :=
  o_al 0 <| o_gA 900 81 <| o_il 10 <| o_iak 81 65 <| o_al 4 <| o_il 5 <| o_il 10 <| o_bi z_add <| o_c (.inl 1) <| o_bi z_add <| o_ia 0 <| o_i2 (fun a b => b ≤ a) (k_M_merge_111 QR H) (k_M_merge_75 QR H)
def k_M_merge_48 (QR : Option qA → qS → Prop) (H : Nat → qP) : qP :=
  o_il 10 <| o_il 6 <| o_i2 (fun a b => b ≤ a) (H 117) (k_M_merge_55 QR H)
def k_M_merge_42 (QR : Option qA → qS → Prop) (H : Nat → qP) : qP :=
  o_c (.inl (-1)) <| o_is 9 <| o_c (.inl 0) <| o_is 10 <| H 48
def k_M_merge_37 (QR : Option qA → qS → Prop) (H : Nat → qP) : qP :=
  o_il 8 <| o_if (fun a => a = 0) (k_M_merge_191 QR H) (k_M_merge_42 QR H)
def k_M_merge_31 (QR : Option qA → qS → Prop) (H : Nat → qP) : qP :=
  o_c (.inl 0) <| o_is 7 <| o_c (.inl 1) <| o_is 8 <| H 37
def k_M_merge_10 (QR : Option qA → qS → Prop) (H : Nat → qP) : qP :=
  o_al 0 <| o_gA 900 81 <| o_il 7 <| o_al 4 <| o_il 5 <| o_il 7 <| o_bi z_add <| o_ia 0 <| o_isk 81 65 <| o_inc 7 1 <| H 3
def k_M_merge_3 (QR : Option qA → qS → Prop) (H : Nat → qP) : qP :=
  o_il 7 <| o_il 6 <| o_i2 (fun a b => b ≤ a) (k_M_merge_31 QR H) (k_M_merge_10 QR H)
def k_M_merge_0 (QR : Option qA → qS → Prop) (H : Nat → qP) : qP :=
  o_c (.inl 0) <| o_is 7 <| H 3
set_option maxRecDepth 8000 in
theorem s_M_merge_191 {l : Launch} {ad : Nat → Nat} {D : va_G} {cA : Nat → ClassId} {WW : Nat → qP} {QR : Option qA → qS → Prop} (S : qSnd l rm_M_merge ad D cA R_M b_M_merge 11 WW) (Q : qRet (some .int) b_M_merge WW QR) : qle (k_M_merge_191 QR WW) WW 191 :=
  S.iload d_M_merge_191 <| Q.1 rfl _ d_M_merge_193
set_option maxRecDepth 8000 in
theorem s_M_merge_138 {l : Launch} {ad : Nat → Nat} {D : va_G} {cA : Nat → ClassId} {WW : Nat → qP} {QR : Option qA → qS → Prop} (S : qSnd l rm_M_merge ad D cA R_M b_M_merge 11 WW) (Q : qRet (some .int) b_M_merge WW QR) : qle (k_M_merge_138 QR WW) WW 138 :=
  S.aload_n d_M_merge_138 rfl <| S.gA fl_M_189 (by decide) d_M_merge_139 <| S.iload d_M_merge_142 <| S.aload_n d_M_merge_144 rfl <| S.iload_n d_M_merge_145 rfl <| S.aload_n d_M_merge_146 rfl <| S.gA fl_M_195 (by decide) d_M_merge_147 <| S.iload d_M_merge_150 <| S.iak (by decide) d_M_merge_152 <| S.iadd d_M_merge_153 <| S.jald d_M_merge_154 <| S.jsk (by decide) d_M_merge_155 <| S.aload_n d_M_merge_156 rfl <| S.gA fl_M_192 (by decide) d_M_merge_157 <| S.iload d_M_merge_160 <| S.aload_n d_M_merge_162 rfl <| S.iload_n d_M_merge_163 rfl <| S.aload_n d_M_merge_164 rfl <| S.gA fl_M_195 (by decide) d_M_merge_165 <| S.iload d_M_merge_168 <| S.iak (by decide) d_M_merge_170 <| S.iadd d_M_merge_171 <| S.jald d_M_merge_172 <| S.jsk (by decide) d_M_merge_173 <| S.aload_n d_M_merge_174 rfl <| S.gA fl_M_195 (by decide) d_M_merge_175 <| S.iload d_M_merge_178 <| S.dup2 d_M_merge_180 <| S.iak (by decide) d_M_merge_181 <| S.iconst d_M_merge_182 (by decide) <| S.iadd d_M_merge_183 <| S.isk (by decide) d_M_merge_184 <| S.iinc d_M_merge_185 (by decide) <| S.goto d_M_merge_188 (by decide) (fun _ _ _ h => h)
set_option maxRecDepth 8000 in
theorem s_M_merge_135 {l : Launch} {ad : Nat → Nat} {D : va_G} {cA : Nat → ClassId} {WW : Nat → qP} {QR : Option qA → qS → Prop} (S : qSnd l rm_M_merge ad D cA R_M b_M_merge 11 WW) (Q : qRet (some .int) b_M_merge WW QR) : qle (k_M_merge_135 QR WW) WW 135 :=
  S.goto d_M_merge_135 (by decide) (fun _ _ _ h => h)
set_option maxRecDepth 8000 in
theorem s_M_merge_128 {l : Launch} {ad : Nat → Nat} {D : va_G} {cA : Nat → ClassId} {WW : Nat → qP} {QR : Option qA → qS → Prop} (S : qSnd l rm_M_merge ad D cA R_M b_M_merge 11 WW) (Q : qRet (some .int) b_M_merge WW QR) : qle (k_M_merge_128 QR WW) WW 128 :=
  S.istore d_M_merge_128 (by decide) <| S.iload d_M_merge_130 <| S.if_ne d_M_merge_132 (by decide) (s_M_merge_138 S Q) (s_M_merge_135 S Q)
set_option maxRecDepth 8000 in
theorem s_M_merge_127 {l : Launch} {ad : Nat → Nat} {D : va_G} {cA : Nat → ClassId} {WW : Nat → qP} {QR : Option qA → qS → Prop} (S : qSnd l rm_M_merge ad D cA R_M b_M_merge 11 WW) (Q : qRet (some .int) b_M_merge WW QR) : qle (k_M_merge_127 QR WW) WW 127 :=
  S.iconst d_M_merge_127 (by decide) <| (s_M_merge_128 S Q)
set_option maxRecDepth 8000 in
theorem s_M_merge_123 {l : Launch} {ad : Nat → Nat} {D : va_G} {cA : Nat → ClassId} {WW : Nat → qP} {QR : Option qA → qS → Prop} (S : qSnd l rm_M_merge ad D cA R_M b_M_merge 11 WW) (Q : qRet (some .int) b_M_merge WW QR) : qle (k_M_merge_123 QR WW) WW 123 :=
  S.iconst d_M_merge_123 (by decide) <| S.goto d_M_merge_124 (by decide) (s_M_merge_128 S Q)
set_option maxRecDepth 8000 in
theorem s_M_merge_117 {l : Launch} {ad : Nat → Nat} {D : va_G} {cA : Nat → ClassId} {WW : Nat → qP} {QR : Option qA → qS → Prop} (S : qSnd l rm_M_merge ad D cA R_M b_M_merge 11 WW) (Q : qRet (some .int) b_M_merge WW QR) : qle (k_M_merge_117 QR WW) WW 117 :=
  S.iload d_M_merge_117 <| S.iconst d_M_merge_119 (by decide) <| S.icmp_eq d_M_merge_120 (by decide) (s_M_merge_127 S Q) (s_M_merge_123 S Q)
set_option maxRecDepth 8000 in
theorem s_M_merge_111 {l : Launch} {ad : Nat → Nat} {D : va_G} {cA : Nat → ClassId} {WW : Nat → qP} {QR : Option qA → qS → Prop} (S : qSnd l rm_M_merge ad D cA R_M b_M_merge 11 WW) (Q : qRet (some .int) b_M_merge WW QR) : qle (k_M_merge_111 QR WW) WW 111 :=
  S.iinc d_M_merge_111 (by decide) <| S.goto d_M_merge_114 (by decide) (fun _ _ _ h => h)
set_option maxRecDepth 8000 in
theorem s_M_merge_107 {l : Launch} {ad : Nat → Nat} {D : va_G} {cA : Nat → ClassId} {WW : Nat → qP} {QR : Option qA → qS → Prop} (S : qSnd l rm_M_merge ad D cA R_M b_M_merge 11 WW) (Q : qRet (some .int) b_M_merge WW QR) : qle (k_M_merge_107 QR WW) WW 107 :=
  S.iload d_M_merge_107 <| S.istore d_M_merge_109 (by decide) <| (s_M_merge_111 S Q)
set_option maxRecDepth 8000 in
theorem s_M_merge_81 {l : Launch} {ad : Nat → Nat} {D : va_G} {cA : Nat → ClassId} {WW : Nat → qP} {QR : Option qA → qS → Prop} (S : qSnd l rm_M_merge ad D cA R_M b_M_merge 11 WW) (Q : qRet (some .int) b_M_merge WW QR) : qle (k_M_merge_81 QR WW) WW 81 :=
  S.aload_n d_M_merge_81 rfl <| S.iload_n d_M_merge_82 rfl <| S.aload_n d_M_merge_83 rfl <| S.gA fl_M_195 (by decide) d_M_merge_84 <| S.iload d_M_merge_87 <| S.iak (by decide) d_M_merge_89 <| S.iadd d_M_merge_90 <| S.jald d_M_merge_91 <| S.aload_n d_M_merge_92 rfl <| S.iload_n d_M_merge_93 rfl <| S.aload_n d_M_merge_94 rfl <| S.gA fl_M_195 (by decide) d_M_merge_95 <| S.iload d_M_merge_98 <| S.iak (by decide) d_M_merge_100 <| S.iadd d_M_merge_101 <| S.jald d_M_merge_102 <| S.lcmp_ge d_M_merge_103 d_M_merge_104 (by decide) (s_M_merge_111 S Q) (s_M_merge_107 S Q)
set_option maxRecDepth 8000 in
theorem s_M_merge_75 {l : Launch} {ad : Nat → Nat} {D : va_G} {cA : Nat → ClassId} {WW : Nat → qP} {QR : Option qA → qS → Prop} (S : qSnd l rm_M_merge ad D cA R_M b_M_merge 11 WW) (Q : qRet (some .int) b_M_merge WW QR) : qle (k_M_merge_75 QR WW) WW 75 :=
  S.iload d_M_merge_75 <| S.iconst d_M_merge_77 (by decide) <| S.icmp_eq d_M_merge_78 (by decide) (s_M_merge_107 S Q) (s_M_merge_81 S Q)
set_option maxRecDepth 8000 in
theorem s_M_merge_55 {l : Launch} {ad : Nat → Nat} {D : va_G} {cA : Nat → ClassId} {WW : Nat → qP} {QR : Option qA → qS → Prop} (S : qSnd l rm_M_merge ad D cA R_M b_M_merge 11 WW) (Q : qRet (some .int) b_M_merge WW QR) : qle (k_M_merge_55 QR WW) WW 55 :=
  S.aload_n d_M_merge_55 rfl <| S.gA fl_M_195 (by decide) d_M_merge_56 <| S.iload d_M_merge_59 <| S.iak (by decide) d_M_merge_61 <| S.aload d_M_merge_62 <| S.iload d_M_merge_64 <| S.iload d_M_merge_66 <| S.iadd d_M_merge_68 <| S.iconst d_M_merge_69 (by decide) <| S.iadd d_M_merge_70 <| S.iald d_M_merge_71 <| S.icmp_ge d_M_merge_72 (by decide) (s_M_merge_111 S Q) (s_M_merge_75 S Q)
set_option maxRecDepth 8000 in
theorem s_M_merge_48 {l : Launch} {ad : Nat → Nat} {D : va_G} {cA : Nat → ClassId} {WW : Nat → qP} {QR : Option qA → qS → Prop} (S : qSnd l rm_M_merge ad D cA R_M b_M_merge 11 WW) (Q : qRet (some .int) b_M_merge WW QR) : qle (k_M_merge_48 QR WW) WW 48 :=
  S.iload d_M_merge_48 <| S.iload d_M_merge_50 <| S.icmp_ge d_M_merge_52 (by decide) (fun _ _ _ h => h) (s_M_merge_55 S Q)
set_option maxRecDepth 8000 in
theorem s_M_merge_42 {l : Launch} {ad : Nat → Nat} {D : va_G} {cA : Nat → ClassId} {WW : Nat → qP} {QR : Option qA → qS → Prop} (S : qSnd l rm_M_merge ad D cA R_M b_M_merge 11 WW) (Q : qRet (some .int) b_M_merge WW QR) : qle (k_M_merge_42 QR WW) WW 42 :=
  S.iconst d_M_merge_42 (by decide) <| S.istore d_M_merge_43 (by decide) <| S.iconst d_M_merge_45 (by decide) <| S.istore d_M_merge_46 (by decide) <| (fun _ _ _ h => h)
set_option maxRecDepth 8000 in
theorem s_M_merge_37 {l : Launch} {ad : Nat → Nat} {D : va_G} {cA : Nat → ClassId} {WW : Nat → qP} {QR : Option qA → qS → Prop} (S : qSnd l rm_M_merge ad D cA R_M b_M_merge 11 WW) (Q : qRet (some .int) b_M_merge WW QR) : qle (k_M_merge_37 QR WW) WW 37 :=
  S.iload d_M_merge_37 <| S.if_eq d_M_merge_39 (by decide) (s_M_merge_191 S Q) (s_M_merge_42 S Q)
set_option maxRecDepth 8000 in
theorem s_M_merge_31 {l : Launch} {ad : Nat → Nat} {D : va_G} {cA : Nat → ClassId} {WW : Nat → qP} {QR : Option qA → qS → Prop} (S : qSnd l rm_M_merge ad D cA R_M b_M_merge 11 WW) (Q : qRet (some .int) b_M_merge WW QR) : qle (k_M_merge_31 QR WW) WW 31 :=
  S.iconst d_M_merge_31 (by decide) <| S.istore d_M_merge_32 (by decide) <| S.iconst d_M_merge_34 (by decide) <| S.istore d_M_merge_35 (by decide) <| (fun _ _ _ h => h)
set_option maxRecDepth 8000 in
theorem s_M_merge_10 {l : Launch} {ad : Nat → Nat} {D : va_G} {cA : Nat → ClassId} {WW : Nat → qP} {QR : Option qA → qS → Prop} (S : qSnd l rm_M_merge ad D cA R_M b_M_merge 11 WW) (Q : qRet (some .int) b_M_merge WW QR) : qle (k_M_merge_10 QR WW) WW 10 :=
  S.aload_n d_M_merge_10 rfl <| S.gA fl_M_195 (by decide) d_M_merge_11 <| S.iload d_M_merge_14 <| S.aload d_M_merge_16 <| S.iload d_M_merge_18 <| S.iload d_M_merge_20 <| S.iadd d_M_merge_22 <| S.iald d_M_merge_23 <| S.isk (by decide) d_M_merge_24 <| S.iinc d_M_merge_25 (by decide) <| S.goto d_M_merge_28 (by decide) (fun _ _ _ h => h)
set_option maxRecDepth 8000 in
theorem s_M_merge_3 {l : Launch} {ad : Nat → Nat} {D : va_G} {cA : Nat → ClassId} {WW : Nat → qP} {QR : Option qA → qS → Prop} (S : qSnd l rm_M_merge ad D cA R_M b_M_merge 11 WW) (Q : qRet (some .int) b_M_merge WW QR) : qle (k_M_merge_3 QR WW) WW 3 :=
  S.iload d_M_merge_3 <| S.iload d_M_merge_5 <| S.icmp_ge d_M_merge_7 (by decide) (s_M_merge_31 S Q) (s_M_merge_10 S Q)
set_option maxRecDepth 8000 in
theorem s_M_merge_0 {l : Launch} {ad : Nat → Nat} {D : va_G} {cA : Nat → ClassId} {WW : Nat → qP} {QR : Option qA → qS → Prop} (S : qSnd l rm_M_merge ad D cA R_M b_M_merge 11 WW) (Q : qRet (some .int) b_M_merge WW QR) : qle (k_M_merge_0 QR WW) WW 0 :=
  S.iconst d_M_merge_0 (by decide) <| S.istore d_M_merge_1 (by decide) <| (fun _ _ _ h => h)
def hdf (σ : qS) : Nat → Int := fun k => σ 81 k
theorem l_split {α : Type} {L : List α} {j : Nat} {a : α} (h : L[j]? = some a) : L = L.take j ++ a :: L.drop (j + 1) := by
  obtain ⟨h1, h2⟩ := List.getElem?_eq_some_iff.mp h
  have := List.take_append_drop j L
  rw [List.drop_eq_getElem_cons h1, h2] at this
  exact this.symm
theorem l_split2 {α : Type} {L L' : List α} {j : Nat} {a : α} (h : L'[j]? = some a) (ho : ∀ k, k ≠ j → L'[k]? = L[k]?) : L' = L.take j ++ a :: L.drop (j + 1) := by
  have e1 : L'.take j = L.take j := by
    apply List.ext_getElem?; intro i
    rw [List.getElem?_take, List.getElem?_take]
    split
    · exact ho i (by omega)
    · rfl
  have e2 : L'.drop (j + 1) = L.drop (j + 1) := by
    apply List.ext_getElem?; intro i
    rw [List.getElem?_drop, List.getElem?_drop]
    exact ho _ (by omega)
  rw [← e1, ← e2]
  exact l_split h
theorem A_mono {A : Nat → Int} {ct : Nat} (h : ∀ i, i < ct → A i ≤ A (i + 1)) : ∀ (j i : Nat), i ≤ j → j ≤ ct → A i ≤ A j := by
  intro j
  induction j with
  | zero => intro i hi _; rw [show i = 0 by omega]; omega
  | succ j ih =>
    intro i hi hj
    by_cases e : i = j + 1
    · rw [e]; omega
    · have := ih i (by omega) (by omega)
      have := h j (by omega)
      omega
def Bst (hd A key : Nat → Int) (k : Nat) (best : Int) : Prop := (best = -1 ∧ ∀ j, j < k → ¬ hd j < A (j + 1)) ∨ ∃ j : Nat, best = j ∧ j < k ∧ hd j < A (j + 1) ∧ (∀ i, i < k → hd i < A (i + 1) → key j ≤ key i) ∧ ∀ i, i < j → hd i < A (i + 1) → key j < key i
theorem v_M_merge_48 {l : Launch} {ad : Nat → Nat} {D : va_G} {cA : Nat → ClassId} {WW : Nat → qP} {QR : Option qA → qS → Prop} (S : qSnd l rm_M_merge ad D cA R_M b_M_merge 11 WW) (Q : qRet (some .int) b_M_merge WW QR) (σ0 σ : qS) (rk rv : Nat) (b : Int) (rt : Nat) (ra_ ct n : Int) (hp : P_M_merge rk rv b rt ra_ ct σ0) (hF : F_mrg σ0 σ) (hh : ∀ k : Nat, (k : Int) < ct → AA σ0 rt ra_ k ≤ hdf σ k ∧ hdf σ k ≤ AA σ0 rt ra_ (k + 1)) (K : ∀ best, Bst (hdf σ) (AA σ0 rt ra_) (fun i => σ0 rk (b + hdf σ i)) ct.toNat best → WW 117 [] [some (.inr (.inr 900)), some (.inr (.inr rk)), some (.inr (.inr rv)), some (.inl b), some (.inr (.inr rt)), some (.inl ra_), some (.inl ct), some (.inl n), some (.inl 1), some (.inl best), none] σ) :
    ∀ (m k : Nat) (best : Int), ((k + m : Nat) : Int) = ct → Bst (hdf σ) (AA σ0 rt ra_) (fun i => σ0 rk (b + hdf σ i)) k best → WW 48 [] [some (.inr (.inr 900)), some (.inr (.inr rk)), some (.inr (.inr rv)), some (.inl b), some (.inr (.inr rt)), some (.inl ra_), some (.inl ct), some (.inl n), some (.inl 1), some (.inl best), some (.inl (k : Int))] σ := by
  obtain ⟨⟨q1, q2, q3, q4, q5, q6⟩, ⟨n1, n2, n3⟩, hct, hra, hb, hA0, hlen, htot, hmon, hsrt⟩ := hp
  have hm2 := A_mono (A := AA σ0 rt ra_) (ct := ct.toNat) (fun i hi => hmon i (by omega))
  have eK : σ rk = σ0 rk := hF rk n1
  have eT : σ rt = σ0 rt := hF rt n3
  have lk : (qln rk : Int) < 100000 := by have := qar_bd rk q1; omega
  have lt : (qln rt : Int) < 100000 := by have := qar_bd rt q5; omega
  intro m
  induction m with
  | zero =>
    intro k best hk hB
    refine s_M_merge_48 S Q _ _ _ ?_
    simp only [k_M_merge_0, k_M_merge_3, k_M_merge_10, k_M_merge_31, k_M_merge_37, k_M_merge_42, k_M_merge_48, k_M_merge_55, k_M_merge_75, k_M_merge_81, k_M_merge_107, k_M_merge_111, k_M_merge_117, k_M_merge_123, k_M_merge_127, k_M_merge_128, k_M_merge_135, k_M_merge_138, k_M_merge_191, o_c, o_il, o_ll, o_al, o_is, o_as, o_ls, o_inc, o_bi, o_bid, o_bl, o_bld, o_sl, o_i2l, o_l2i, o_dup, o_dup2, o_pop, o_pop2, o_if, o_i2, o_l2, swg, o_sw, o_gI, o_gZ, o_gJ, o_gA, o_gR, o_pI, o_pZ, o_pJ, o_pR, o_ia, o_iak, o_zak, o_ja, o_jak, o_is_, o_isk, o_zsk, o_js_, o_jsk, o_len, o_ri, o_rz, o_rl, o_rv, ls1, ls2, lks, lkj, List.getD_cons_zero, List.getD_cons_succ, List.set_cons_zero, List.set_cons_succ, qcat, true_and, and_true, List.map_nil, List.map_cons, List.sum_nil, List.sum_cons, Nat.reduceAdd, Nat.reduceLeDiff, Nat.zero_le, Int.reduceAdd, Int.reduceNeg, Int.reduceEq, or_true, true_or, Decidable.not_not, false_implies, not_false_eq_true, true_implies, not_true_eq_false, Int.reduceLT, Int.reduceLE]
    refine ⟨fun _ => S.fg (ls' := [some (.inr (.inr 900)), some (.inr (.inr rk)), some (.inr (.inr rv)), some (.inl b), some (.inr (.inr rt)), some (.inl ra_), some (.inl ct), some (.inl n), some (.inl 1), some (.inl best), none]) ⟨rfl, rfl, rfl, rfl, rfl, rfl, rfl, rfl, rfl, rfl, trivial⟩ (K best ?_), fun h => by omega⟩
    rw [show ct.toNat = k by omega]; exact hB
  | succ m ih =>
    intro k best hk hB
    refine s_M_merge_48 S Q _ _ _ ?_
    simp only [k_M_merge_0, k_M_merge_3, k_M_merge_10, k_M_merge_31, k_M_merge_37, k_M_merge_42, k_M_merge_48, k_M_merge_55, k_M_merge_75, k_M_merge_81, k_M_merge_107, k_M_merge_111, k_M_merge_117, k_M_merge_123, k_M_merge_127, k_M_merge_128, k_M_merge_135, k_M_merge_138, k_M_merge_191, o_c, o_il, o_ll, o_al, o_is, o_as, o_ls, o_inc, o_bi, o_bid, o_bl, o_bld, o_sl, o_i2l, o_l2i, o_dup, o_dup2, o_pop, o_pop2, o_if, o_i2, o_l2, swg, o_sw, o_gI, o_gZ, o_gJ, o_gA, o_gR, o_pI, o_pZ, o_pJ, o_pR, o_ia, o_iak, o_zak, o_ja, o_jak, o_is_, o_isk, o_zsk, o_js_, o_jsk, o_len, o_ri, o_rz, o_rl, o_rv, ls1, ls2, lks, lkj, List.getD_cons_zero, List.getD_cons_succ, List.set_cons_zero, List.set_cons_succ, qcat, true_and, and_true, List.map_nil, List.map_cons, List.sum_nil, List.sum_cons, Nat.reduceAdd, Nat.reduceLeDiff, Nat.zero_le, Int.reduceAdd, Int.reduceNeg, Int.reduceEq, or_true, true_or, Decidable.not_not, false_implies, not_false_eq_true, true_implies, not_true_eq_false, Int.reduceLT, Int.reduceLE]
    have e1 : z_add (z_add ra_ (k : Int)) 1 = ra_ + ((k + 1 : Nat) : Int) := by unfold z_add; rw [w32_i (ra_ + k) (by omega) (by omega), w32_i _ (by omega) (by omega)]; omega
    rw [e1, eT, eK, w32_i _ (by omega) (by omega)]
    have hk1 := hh k (by omega)
    have hk2 := hm2 ct.toNat (k + 1) (by omega) (Nat.le_refl _)
    have hk3 := hm2 k 0 (by omega) (by omega)
    refine ⟨fun h => by omega, fun _ => ⟨by omega, ⟨q5, q6⟩, by omega, fun hge => ?_, fun hlt => ⟨fun hb1 => ?_, fun hb1 => ?_⟩⟩⟩
    · refine ih (k + 1) best (by omega) ?_
      rcases hB with ⟨e, g⟩ | ⟨j, e, g1, g2, g3, g4⟩
      · refine Or.inl ⟨e, fun j hj => ?_⟩
        by_cases ej : j = k
        · rw [ej]; show ¬ σ 81 k < σ0 rt (ra_ + ((k + 1 : Nat) : Int)); omega
        · exact g j (by omega)
      · refine Or.inr ⟨j, e, by omega, g2, fun i hi hl => ?_, g4⟩
        by_cases ei : i = k
        · rw [ei] at hl; exact absurd hge (by show ¬ σ0 rt (ra_ + ((k + 1 : Nat) : Int)) ≤ σ 81 k; have : σ 81 k < σ0 rt (ra_ + ((k + 1 : Nat) : Int)) := hl; omega)
        · exact g3 i (by omega) hl
    · refine ih (k + 1) k (by omega) (Or.inr ⟨k, rfl, by omega, by show σ 81 k < σ0 rt (ra_ + ((k + 1 : Nat) : Int)); omega, fun i hi hl => ?_, fun i hi hl => ?_⟩)
      · rcases hB with ⟨e, g⟩ | ⟨j, e, g1, g2, g3, g4⟩
        · by_cases ei : i = k
          · rw [ei]; exact Int.le_refl _
          · exact absurd hl (g i (by omega))
        · omega
      · rcases hB with ⟨e, g⟩ | ⟨j, e, g1, g2, g3, g4⟩
        · exact absurd hl (g i (by omega))
        · omega
    · rcases hB with ⟨e, g⟩ | ⟨j, e, g1, g2, g3, g4⟩
      · exact absurd e hb1
      · subst e
        have hj1 := hh j (by omega)
        have hj2 := hm2 ct.toNat (j + 1) (by omega) (Nat.le_refl _)
        have hj3 := hm2 j 0 (by omega) (by omega)
        have hjk : hdf σ k < AA σ0 rt ra_ (k + 1) := by show σ 81 k < σ0 rt (ra_ + ((k + 1 : Nat) : Int)); omega
        have e2 : z_add b (σ 81 k) = b + hdf σ k := by unfold z_add; exact w32_i _ (by show -2147483648 ≤ b + hdf σ k; omega) (by show b + hdf σ k < 2147483648; omega)
        have e3 : z_add b (σ 81 j) = b + hdf σ j := by unfold z_add; exact w32_i _ (by show -2147483648 ≤ b + hdf σ j; omega) (by show b + hdf σ j < 2147483648; omega)
        rw [e2, e3]
        refine ⟨by omega, ⟨q1, q2⟩, by omega, by omega, ⟨q1, q2⟩, by omega, fun hle => ?_, fun hle => ?_⟩
        · refine ih (k + 1) j (by omega) (Or.inr ⟨j, rfl, by omega, g2, fun i hi hl => ?_, g4⟩)
          by_cases ei : i = k
          · rw [ei]; exact hle
          · exact g3 i (by omega) hl
        · refine ih (k + 1) k (by omega) (Or.inr ⟨k, rfl, by omega, hjk, fun i hi hl => ?_, fun i hi hl => ?_⟩)
          · by_cases ei : i = k
            · rw [ei]; exact Int.le_refl _
            · have := g3 i (by omega) hl; show σ0 rk (b + hdf σ k) ≤ σ0 rk (b + hdf σ i); simp only at this; omega
          · have := g3 i (by omega) hl; show σ0 rk (b + hdf σ k) < σ0 rk (b + hdf σ i); simp only at this; omega
theorem v_M_merge_37 {l : Launch} {ad : Nat → Nat} {D : va_G} {cA : Nat → ClassId} {WW : Nat → qP} {QR : Option qA → qS → Prop} (S : qSnd l rm_M_merge ad D cA R_M b_M_merge 11 WW) (Q : qRet (some .int) b_M_merge WW QR) (σ0 : qS) (rk rv : Nat) (b : Int) (rt : Nat) (ra_ ct : Int) (hp : P_M_merge rk rv b rt ra_ ct σ0) (hq : ∀ r σ', Q_M_merge rk rv b rt ra_ ct σ0 r σ' → QR (some (.inl r)) σ') :
    ∀ (m n : Nat) (σ : qS), F_mrg σ0 σ → ((n + m : Nat) : Int) = AA σ0 rt ra_ ct.toNat - AA σ0 rt ra_ 0 → (sgm σ0 rk rv b (AA σ0 rt ra_) (hdf σ) ct.toNat).flatten.length = m → (∀ k : Nat, (k : Int) < ct → AA σ0 rt ra_ k ≤ hdf σ k ∧ hdf σ k ≤ AA σ0 rt ra_ (k + 1)) → (∀ c, fk c (row σ 79 80 0 n) ++ fk c (sgm σ0 rk rv b (AA σ0 rt ra_) (hdf σ) ct.toNat).flatten = fk c (row σ0 rk rv (b + AA σ0 rt ra_ 0) (AA σ0 rt ra_ ct.toNat - AA σ0 rt ra_ 0).toNat)) → srtd (row σ 79 80 0 n) → (∀ x ∈ row σ 79 80 0 n, ∀ y ∈ (sgm σ0 rk rv b (AA σ0 rt ra_) (hdf σ) ct.toNat).flatten, x.1 ≤ y.1) →
      WW 37 [] [some (.inr (.inr 900)), some (.inr (.inr rk)), some (.inr (.inr rv)), some (.inl b), some (.inr (.inr rt)), some (.inl ra_), some (.inl ct), some (.inl (n : Int)), some (.inl 1), none, none] σ := by
  have hp' := hp
  obtain ⟨⟨q1, q2, q3, q4, q5, q6⟩, ⟨n1, n2, n3⟩, hct, hra, hb, hA0, hlen, htot, hmon, hsrt⟩ := hp
  have hm2 := A_mono (A := AA σ0 rt ra_) (ct := ct.toNat) (fun i hi => hmon i (by omega))
  have lk : (qln rk : Int) < 100000 := by have := qar_bd rk q1; omega
  intro m
  induction m with
  | zero =>
    intro n σ hF hn hl hh hf hs hle
    have hnil : (sgm σ0 rk rv b (AA σ0 rt ra_) (hdf σ) ct.toNat).flatten = [] := List.eq_nil_of_length_eq_zero hl
    refine s_M_merge_37 S Q _ _ _ ?_
    simp only [k_M_merge_0, k_M_merge_3, k_M_merge_10, k_M_merge_31, k_M_merge_37, k_M_merge_42, k_M_merge_48, k_M_merge_55, k_M_merge_75, k_M_merge_81, k_M_merge_107, k_M_merge_111, k_M_merge_117, k_M_merge_123, k_M_merge_127, k_M_merge_128, k_M_merge_135, k_M_merge_138, k_M_merge_191, o_c, o_il, o_ll, o_al, o_is, o_as, o_ls, o_inc, o_bi, o_bid, o_bl, o_bld, o_sl, o_i2l, o_l2i, o_dup, o_dup2, o_pop, o_pop2, o_if, o_i2, o_l2, swg, o_sw, o_gI, o_gZ, o_gJ, o_gA, o_gR, o_pI, o_pZ, o_pJ, o_pR, o_ia, o_iak, o_zak, o_ja, o_jak, o_is_, o_isk, o_zsk, o_js_, o_jsk, o_len, o_ri, o_rz, o_rl, o_rv, ls1, ls2, lks, lkj, List.getD_cons_zero, List.getD_cons_succ, List.set_cons_zero, List.set_cons_succ, qcat, true_and, and_true, List.map_nil, List.map_cons, List.sum_nil, List.sum_cons, Nat.reduceAdd, Nat.reduceLeDiff, Nat.zero_le, Int.reduceAdd, Int.reduceNeg, Int.reduceEq, or_true, true_or, Decidable.not_not, false_implies, not_false_eq_true, true_implies, not_true_eq_false, Int.reduceLT, Int.reduceLE]
    refine v_M_merge_48 S Q σ0 σ rk rv b rt ra_ ct n hp' hF hh (fun best hB => ?_) ct.toNat 0 (-1) (by omega) (Or.inl ⟨rfl, fun j hj => by omega⟩)
    have hbest : best = -1 := by
      rcases hB with ⟨e, -⟩ | ⟨j, e, g1, g2, -⟩
      · exact e
      · exfalso
        have : row σ0 rk rv (b + hdf σ j) (AA σ0 rt ra_ (j + 1) - hdf σ j).toNat = [] := by
          have h1 := List.flatten_eq_nil_iff.mp hnil _ (List.mem_of_getElem? (sgm_at (σ := σ0) (rk := rk) (rv := rv) (b := b) (A := AA σ0 rt ra_) (hd := hdf σ) g1))
          exact h1
        have h2 := row_len σ0 rk rv (b + hdf σ j) (AA σ0 rt ra_ (j + 1) - hdf σ j).toNat
        rw [this] at h2
        simp at h2
        omega
    subst hbest
    refine s_M_merge_117 S Q _ _ _ ?_
    simp only [k_M_merge_0, k_M_merge_3, k_M_merge_10, k_M_merge_31, k_M_merge_37, k_M_merge_42, k_M_merge_48, k_M_merge_55, k_M_merge_75, k_M_merge_81, k_M_merge_107, k_M_merge_111, k_M_merge_117, k_M_merge_123, k_M_merge_127, k_M_merge_128, k_M_merge_135, k_M_merge_138, k_M_merge_191, o_c, o_il, o_ll, o_al, o_is, o_as, o_ls, o_inc, o_bi, o_bid, o_bl, o_bld, o_sl, o_i2l, o_l2i, o_dup, o_dup2, o_pop, o_pop2, o_if, o_i2, o_l2, swg, o_sw, o_gI, o_gZ, o_gJ, o_gA, o_gR, o_pI, o_pZ, o_pJ, o_pR, o_ia, o_iak, o_zak, o_ja, o_jak, o_is_, o_isk, o_zsk, o_js_, o_jsk, o_len, o_ri, o_rz, o_rl, o_rv, ls1, ls2, lks, lkj, List.getD_cons_zero, List.getD_cons_succ, List.set_cons_zero, List.set_cons_succ, qcat, true_and, and_true, List.map_nil, List.map_cons, List.sum_nil, List.sum_cons, Nat.reduceAdd, Nat.reduceLeDiff, Nat.zero_le, Int.reduceAdd, Int.reduceNeg, Int.reduceEq, or_true, true_or, Decidable.not_not, false_implies, not_false_eq_true, true_implies, not_true_eq_false, Int.reduceLT, Int.reduceLE]
    refine s_M_merge_37 S Q _ _ _ ?_
    simp only [k_M_merge_0, k_M_merge_3, k_M_merge_10, k_M_merge_31, k_M_merge_37, k_M_merge_42, k_M_merge_48, k_M_merge_55, k_M_merge_75, k_M_merge_81, k_M_merge_107, k_M_merge_111, k_M_merge_117, k_M_merge_123, k_M_merge_127, k_M_merge_128, k_M_merge_135, k_M_merge_138, k_M_merge_191, o_c, o_il, o_ll, o_al, o_is, o_as, o_ls, o_inc, o_bi, o_bid, o_bl, o_bld, o_sl, o_i2l, o_l2i, o_dup, o_dup2, o_pop, o_pop2, o_if, o_i2, o_l2, swg, o_sw, o_gI, o_gZ, o_gJ, o_gA, o_gR, o_pI, o_pZ, o_pJ, o_pR, o_ia, o_iak, o_zak, o_ja, o_jak, o_is_, o_isk, o_zsk, o_js_, o_jsk, o_len, o_ri, o_rz, o_rl, o_rv, ls1, ls2, lks, lkj, List.getD_cons_zero, List.getD_cons_succ, List.set_cons_zero, List.set_cons_succ, qcat, true_and, and_true, List.map_nil, List.map_cons, List.sum_nil, List.sum_cons, Nat.reduceAdd, Nat.reduceLeDiff, Nat.zero_le, Int.reduceAdd, Int.reduceNeg, Int.reduceEq, or_true, true_or, Decidable.not_not, false_implies, not_false_eq_true, true_implies, not_true_eq_false, Int.reduceLT, Int.reduceLE]
    have en : (n : Int) = AA σ0 rt ra_ ct.toNat - AA σ0 rt ra_ 0 := by omega
    refine hq _ _ ⟨hF, en, ?_⟩
    rw [show ((n : Int)).toNat = n by omega]
    refine srt_eq ⟨hs, fun k => ?_⟩
    have := hf k
    rw [hnil, show fk k [] = [] from rfl, List.append_nil] at this
    rw [this, ← en]; rfl
  | succ m ih =>
    intro n σ hF hn hl hh hf hs hle
    refine s_M_merge_37 S Q _ _ _ ?_
    simp only [k_M_merge_0, k_M_merge_3, k_M_merge_10, k_M_merge_31, k_M_merge_37, k_M_merge_42, k_M_merge_48, k_M_merge_55, k_M_merge_75, k_M_merge_81, k_M_merge_107, k_M_merge_111, k_M_merge_117, k_M_merge_123, k_M_merge_127, k_M_merge_128, k_M_merge_135, k_M_merge_138, k_M_merge_191, o_c, o_il, o_ll, o_al, o_is, o_as, o_ls, o_inc, o_bi, o_bid, o_bl, o_bld, o_sl, o_i2l, o_l2i, o_dup, o_dup2, o_pop, o_pop2, o_if, o_i2, o_l2, swg, o_sw, o_gI, o_gZ, o_gJ, o_gA, o_gR, o_pI, o_pZ, o_pJ, o_pR, o_ia, o_iak, o_zak, o_ja, o_jak, o_is_, o_isk, o_zsk, o_js_, o_jsk, o_len, o_ri, o_rz, o_rl, o_rv, ls1, ls2, lks, lkj, List.getD_cons_zero, List.getD_cons_succ, List.set_cons_zero, List.set_cons_succ, qcat, true_and, and_true, List.map_nil, List.map_cons, List.sum_nil, List.sum_cons, Nat.reduceAdd, Nat.reduceLeDiff, Nat.zero_le, Int.reduceAdd, Int.reduceNeg, Int.reduceEq, or_true, true_or, Decidable.not_not, false_implies, not_false_eq_true, true_implies, not_true_eq_false, Int.reduceLT, Int.reduceLE]
    refine v_M_merge_48 S Q σ0 σ rk rv b rt ra_ ct n hp' hF hh (fun best hB => ?_) ct.toNat 0 (-1) (by omega) (Or.inl ⟨rfl, fun j hj => by omega⟩)
    rcases hB with ⟨e, g⟩ | ⟨j, e, g1, g2, g3, g4⟩
    · exfalso
      have hnil : (sgm σ0 rk rv b (AA σ0 rt ra_) (hdf σ) ct.toNat).flatten = [] := by
        rw [List.flatten_eq_nil_iff]
        intro l hl'
        obtain ⟨i, hi⟩ := List.getElem?_of_mem hl'
        by_cases hi2 : i < ct.toNat
        · rw [sgm_at hi2] at hi
          cases hi
          have := g i hi2
          rw [show (AA σ0 rt ra_ (i + 1) - hdf σ i).toNat = 0 by omega]; rfl
        · rw [sgm_no hi2] at hi; cases hi
      rw [hnil] at hl; simp at hl
    · subst e
      have hj1 := hh j (by omega)
      have hj2 := hm2 ct.toNat (j + 1) (by omega) (Nat.le_refl _)
      have hj3 := hm2 j 0 (by omega) (by omega)
      have eK : σ rk = σ0 rk := hF rk n1
      have eV : σ rv = σ0 rv := hF rv n2
      have e2 : z_add b (σ 81 j) = b + hdf σ j := by unfold z_add; exact w32_i _ (by show -2147483648 ≤ b + hdf σ j; omega) (by show b + hdf σ j < 2147483648; omega)
      have e4 : z_add (σ 81 j) 1 = hdf σ j + 1 := by unfold z_add; exact w32_i _ (by show -2147483648 ≤ hdf σ j + 1; omega) (by show hdf σ j + 1 < 2147483648; omega)
      refine s_M_merge_117 S Q _ _ _ ?_
      simp only [k_M_merge_0, k_M_merge_3, k_M_merge_10, k_M_merge_31, k_M_merge_37, k_M_merge_42, k_M_merge_48, k_M_merge_55, k_M_merge_75, k_M_merge_81, k_M_merge_107, k_M_merge_111, k_M_merge_117, k_M_merge_123, k_M_merge_127, k_M_merge_128, k_M_merge_135, k_M_merge_138, k_M_merge_191, o_c, o_il, o_ll, o_al, o_is, o_as, o_ls, o_inc, o_bi, o_bid, o_bl, o_bld, o_sl, o_i2l, o_l2i, o_dup, o_dup2, o_pop, o_pop2, o_if, o_i2, o_l2, swg, o_sw, o_gI, o_gZ, o_gJ, o_gA, o_gR, o_pI, o_pZ, o_pJ, o_pR, o_ia, o_iak, o_zak, o_ja, o_jak, o_is_, o_isk, o_zsk, o_js_, o_jsk, o_len, o_ri, o_rz, o_rl, o_rv, ls1, ls2, lks, lkj, List.getD_cons_zero, List.getD_cons_succ, List.set_cons_zero, List.set_cons_succ, qcat, true_and, and_true, List.map_nil, List.map_cons, List.sum_nil, List.sum_cons, Nat.reduceAdd, Nat.reduceLeDiff, Nat.zero_le, Int.reduceAdd, Int.reduceNeg, Int.reduceEq, or_true, true_or, Decidable.not_not, false_implies, not_false_eq_true, true_implies, not_true_eq_false, Int.reduceLT, Int.reduceLE]
      refine ⟨fun h => by omega, fun _ => ?_⟩
      simp (disch := omega) only [su_k]
      have sk1 : ∀ v i, su σ 79 v i rv = σ rv := fun v i => su_k (by intro e; subst e; exact n2 (by decide))
      rw [sk1, e2, e4, eK, eV, w32_i _ (by omega) (by omega)]
      refine ⟨by omega, ⟨q1, q2⟩, by omega, by omega, by omega, ⟨q3, q4⟩, by omega, by omega, by omega, by omega, ?_⟩
      generalize hT : su (su (su σ 79 (n : Int) (σ0 rk (b + hdf σ j))) 80 (n : Int) (σ0 rv (b + hdf σ j))) 81 (j : Int) (hdf σ j + 1) = σ'
      have f1 : F_mrg σ0 σ' := fun k hk => by
        rw [← hT, su_k (by intro e; subst e; exact hk (by decide)), su_k (by intro e; subst e; exact hk (by decide)), su_k (by intro e; subst e; exact hk (by decide))]; exact hF k hk
      have f2 : ∀ k, hdf σ' k = if k = j then hdf σ j + 1 else hdf σ k := fun k => by
        unfold hdf
        rw [← hT, su_e]
        by_cases e : k = j
        · rw [if_pos (by omega), if_pos e]; rfl
        · rw [if_neg (by omega), if_neg e]; simp (disch := omega) only [su_k]
      have f3 : row σ' 79 80 0 (n + 1) = row σ 79 80 0 n ++ [(σ0 rk (b + hdf σ j), σ0 rv (b + hdf σ j))] := by
        rw [row_s]
        congr 1
        · apply row_keep
          intro i i0 i1
          rw [← hT]; simp (disch := omega) only [su_k]; rw [su_e, su_e, if_neg (by omega), if_neg (by omega)]
          simp (disch := omega) only [su_k]; exact ⟨trivial, trivial⟩
        · rw [← hT]; simp (disch := omega) only [su_k]; rw [su_e, su_e, if_pos (by omega), if_pos (by omega)]
      have hseg : (sgm σ0 rk rv b (AA σ0 rt ra_) (hdf σ) ct.toNat)[j]? = some ((σ0 rk (b + hdf σ j), σ0 rv (b + hdf σ j)) :: row σ0 rk rv (b + hdf σ j + 1) ((AA σ0 rt ra_ (j + 1) - hdf σ j).toNat - 1)) := by
        rw [sgm_at g1]
        obtain ⟨q, hq'⟩ : ∃ q, (AA σ0 rt ra_ (j + 1) - hdf σ j).toNat = q + 1 := ⟨(AA σ0 rt ra_ (j + 1) - hdf σ j).toNat - 1, by omega⟩
        rw [hq', row_c]; simp
      have hseg' : (sgm σ0 rk rv b (AA σ0 rt ra_) (hdf σ') ct.toNat)[j]? = some (row σ0 rk rv (b + hdf σ j + 1) ((AA σ0 rt ra_ (j + 1) - hdf σ j).toNat - 1)) := by
        rw [sgm_at g1, f2, if_pos rfl, show b + (hdf σ j + 1) = b + hdf σ j + 1 by omega, show (AA σ0 rt ra_ (j + 1) - (hdf σ j + 1)).toNat = (AA σ0 rt ra_ (j + 1) - hdf σ j).toNat - 1 by omega]
      have hoth : ∀ k, k ≠ j → (sgm σ0 rk rv b (AA σ0 rt ra_) (hdf σ') ct.toNat)[k]? = (sgm σ0 rk rv b (AA σ0 rt ra_) (hdf σ) ct.toNat)[k]? := by
        intro k hk
        by_cases hk2 : k < ct.toNat
        · rw [sgm_at hk2, sgm_at hk2, f2, if_neg hk]
        · rw [sgm_no hk2, sgm_no hk2]
      have hsorted : ∀ i, i < ct.toNat → srtd (row σ0 rk rv (b + hdf σ i) (AA σ0 rt ra_ (i + 1) - hdf σ i).toNat) := by
        intro i hi
        have hi1 := hh i (by omega)
        have := pw_sub (hsrt i (by omega)) (i := (hdf σ i - AA σ0 rt ra_ i).toNat)
        rw [← row_drop (by omega)] at this
        rw [show b + AA σ0 rt ra_ i + (((hdf σ i - AA σ0 rt ra_ i).toNat : Nat) : Int) = b + hdf σ i by omega, show (AA σ0 rt ra_ (i + 1) - AA σ0 rt ra_ i).toNat - (hdf σ i - AA σ0 rt ra_ i).toNat = (AA σ0 rt ra_ (i + 1) - hdf σ i).toNat by omega] at this
        exact this
      have hhead : ∀ i, i < ct.toNat → ∀ y ∈ row σ0 rk rv (b + hdf σ i) (AA σ0 rt ra_ (i + 1) - hdf σ i).toNat, hdf σ i < AA σ0 rt ra_ (i + 1) ∧ σ0 rk (b + hdf σ i) ≤ y.1 := by
        intro i hi y hy
        obtain ⟨q, hq'⟩ := List.getElem?_of_mem hy
        have hlt : q < (AA σ0 rt ra_ (i + 1) - hdf σ i).toNat := by
          by_cases h : q < (AA σ0 rt ra_ (i + 1) - hdf σ i).toNat
          · exact h
          · rw [row_no h] at hq'; cases hq'
        have h1 := srtd_at (hsorted i hi) (i := 0) (j := q) (by omega) (row_at (by omega)) hq'
        simp only at h1
        rw [show b + hdf σ i + ((0 : Nat) : Int) = b + hdf σ i by omega] at h1
        exact ⟨by omega, h1⟩
      have hL := l_split hseg
      have hL' := l_split2 hseg' hoth
      rw [hL] at hf hle hl
      have hpre : ∀ y ∈ ((sgm σ0 rk rv b (AA σ0 rt ra_) (hdf σ) ct.toNat).take j).flatten, σ0 rk (b + hdf σ j) < y.1 := by
        intro y hy
        obtain ⟨l, h1, h2⟩ := List.mem_flatten.mp hy
        obtain ⟨i, hi⟩ := List.getElem?_of_mem h1
        rw [List.getElem?_take] at hi
        split at hi
        next hlt =>
          rw [sgm_at (by omega)] at hi
          cases hi
          obtain ⟨k1, k2⟩ := hhead i (by omega) y h2
          have := g4 i hlt k1
          simp only at this ⊢
          omega
        next => cases hi
      have hpost : ∀ y ∈ row σ0 rk rv (b + hdf σ j + 1) ((AA σ0 rt ra_ (j + 1) - hdf σ j).toNat - 1) ++ ((sgm σ0 rk rv b (AA σ0 rt ra_) (hdf σ) ct.toNat).drop (j + 1)).flatten, σ0 rk (b + hdf σ j) ≤ y.1 := by
        intro y hy
        rcases List.mem_append.mp hy with hy | hy
        · have := hhead j (by omega) y (by
            have e9 := sgm_at (σ := σ0) (rk := rk) (rv := rv) (b := b) (A := AA σ0 rt ra_) (hd := hdf σ) g1
            rw [hseg] at e9
            rw [← Option.some.inj e9]
            exact List.mem_cons_of_mem _ hy)
          exact this.2
        · obtain ⟨l, h1, h2⟩ := List.mem_flatten.mp hy
          obtain ⟨i, hi⟩ := List.getElem?_of_mem h1
          rw [List.getElem?_drop] at hi
          by_cases hi2 : j + 1 + i < ct.toNat
          · rw [sgm_at hi2] at hi
            cases hi
            obtain ⟨k1, k2⟩ := hhead (j + 1 + i) hi2 y h2
            have := g3 (j + 1 + i) hi2 k1
            simp only at this ⊢
            omega
          · rw [sgm_no hi2] at hi; cases hi
      obtain ⟨r1, r2, r3⟩ := mrg_step hf hs hle hpre hpost
      rw [← hL', ← f3] at r1
      rw [← hL', ← f3] at r3
      rw [← f3] at r2
      refine S.fg (ls' := [some (.inr (.inr 900)), some (.inr (.inr rk)), some (.inr (.inr rv)), some (.inl b), some (.inr (.inr rt)), some (.inl ra_), some (.inl ct), some (.inl ((n + 1 : Nat) : Int)), some (.inl 1), none, none]) ⟨rfl, rfl, rfl, rfl, rfl, rfl, rfl, rfl, rfl, trivial⟩ ?_
      refine ih (n + 1) σ' f1 (by omega) ?_ (fun k hk => ?_) r1 r2 r3
      · rw [hL']
        simp only [List.flatten_append, List.flatten_cons, List.length_append, List.length_cons] at hl ⊢
        omega
      · rw [f2]
        split
        next e => subst e; omega
        next => exact hh k hk
theorem v_M_merge_3 {l : Launch} {ad : Nat → Nat} {D : va_G} {cA : Nat → ClassId} {WW : Nat → qP} {QR : Option qA → qS → Prop} (S : qSnd l rm_M_merge ad D cA R_M b_M_merge 11 WW) (Q : qRet (some .int) b_M_merge WW QR) (σ0 : qS) (rk rv : Nat) (b : Int) (rt : Nat) (ra_ ct : Int) (hp : P_M_merge rk rv b rt ra_ ct σ0) (hq : ∀ r σ', Q_M_merge rk rv b rt ra_ ct σ0 r σ' → QR (some (.inl r)) σ') :
    ∀ (m k : Nat), ((k + m : Nat) : Int) = ct → WW 3 [] [some (.inr (.inr 900)), some (.inr (.inr rk)), some (.inr (.inr rv)), some (.inl b), some (.inr (.inr rt)), some (.inl ra_), some (.inl ct), some (.inl (k : Int)), none, none, none] (ra σ0 81 0 (k : Int) (fun i => σ0 rt (ra_ + i))) := by
  have hp' := hp
  obtain ⟨⟨q1, q2, q3, q4, q5, q6⟩, ⟨n1, n2, n3⟩, hct, hra, hb, hA0, hlen, htot, hmon, hsrt⟩ := hp
  have hm2 := A_mono (A := AA σ0 rt ra_) (ct := ct.toNat) (fun i hi => hmon i (by omega))
  have lt : (qln rt : Int) < 100000 := by have := qar_bd rt q5; omega
  intro m
  induction m with
  | zero =>
    intro k hk
    refine s_M_merge_3 S Q _ _ _ ?_
    simp only [k_M_merge_0, k_M_merge_3, k_M_merge_10, k_M_merge_31, k_M_merge_37, k_M_merge_42, k_M_merge_48, k_M_merge_55, k_M_merge_75, k_M_merge_81, k_M_merge_107, k_M_merge_111, k_M_merge_117, k_M_merge_123, k_M_merge_127, k_M_merge_128, k_M_merge_135, k_M_merge_138, k_M_merge_191, o_c, o_il, o_ll, o_al, o_is, o_as, o_ls, o_inc, o_bi, o_bid, o_bl, o_bld, o_sl, o_i2l, o_l2i, o_dup, o_dup2, o_pop, o_pop2, o_if, o_i2, o_l2, swg, o_sw, o_gI, o_gZ, o_gJ, o_gA, o_gR, o_pI, o_pZ, o_pJ, o_pR, o_ia, o_iak, o_zak, o_ja, o_jak, o_is_, o_isk, o_zsk, o_js_, o_jsk, o_len, o_ri, o_rz, o_rl, o_rv, ls1, ls2, lks, lkj, List.getD_cons_zero, List.getD_cons_succ, List.set_cons_zero, List.set_cons_succ, qcat, true_and, and_true, List.map_nil, List.map_cons, List.sum_nil, List.sum_cons, Nat.reduceAdd, Nat.reduceLeDiff, Nat.zero_le, Int.reduceAdd, Int.reduceNeg, Int.reduceEq, or_true, true_or, Decidable.not_not, false_implies, not_false_eq_true, true_implies, not_true_eq_false, Int.reduceLT, Int.reduceLE]
    refine ⟨fun _ => ?_, fun h => by omega⟩
    have ek : (k : Int) = ct := by omega
    rw [ek]
    have hF : F_mrg σ0 (ra σ0 81 0 ct (fun i => σ0 rt (ra_ + i))) := fun q hq' => ra_k (by intro e; subst e; exact hq' (by decide))
    have hhd : ∀ i : Nat, (i : Int) < ct → hdf (ra σ0 81 0 ct (fun i => σ0 rt (ra_ + i))) i = AA σ0 rt ra_ i := fun i hi => by unfold hdf AA; rw [ra_e, if_pos (by omega)]
    have hsg : sgm σ0 rk rv b (AA σ0 rt ra_) (hdf (ra σ0 81 0 ct (fun i => σ0 rt (ra_ + i)))) ct.toNat = sgm σ0 rk rv b (AA σ0 rt ra_) (AA σ0 rt ra_) ct.toNat := by
      unfold sgm
      apply List.map_congr_left
      intro i hi
      have := List.mem_range.mp hi
      rw [hhd i (by omega)]
    obtain ⟨t1, t2⟩ := sgm_flat (σ := σ0) (rk := rk) (rv := rv) (b := b) (A := AA σ0 rt ra_) ct.toNat (fun i hi => hmon i (by omega))
    have := v_M_merge_37 S Q σ0 rk rv b rt ra_ ct hp' hq (AA σ0 rt ra_ ct.toNat - AA σ0 rt ra_ 0).toNat 0 (ra σ0 81 0 ct (fun i => σ0 rt (ra_ + i))) hF (by omega) (by rw [hsg, t2, row_len]) (fun i hi => by rw [hhd i hi]; exact ⟨Int.le_refl _, hmon i hi⟩) (fun c => by rw [hsg, t2]; rfl) List.Pairwise.nil (fun x hx => by simp [row] at hx)
    exact this
  | succ m ih =>
    intro k hk
    refine s_M_merge_3 S Q _ _ _ ?_
    simp only [k_M_merge_0, k_M_merge_3, k_M_merge_10, k_M_merge_31, k_M_merge_37, k_M_merge_42, k_M_merge_48, k_M_merge_55, k_M_merge_75, k_M_merge_81, k_M_merge_107, k_M_merge_111, k_M_merge_117, k_M_merge_123, k_M_merge_127, k_M_merge_128, k_M_merge_135, k_M_merge_138, k_M_merge_191, o_c, o_il, o_ll, o_al, o_is, o_as, o_ls, o_inc, o_bi, o_bid, o_bl, o_bld, o_sl, o_i2l, o_l2i, o_dup, o_dup2, o_pop, o_pop2, o_if, o_i2, o_l2, swg, o_sw, o_gI, o_gZ, o_gJ, o_gA, o_gR, o_pI, o_pZ, o_pJ, o_pR, o_ia, o_iak, o_zak, o_ja, o_jak, o_is_, o_isk, o_zsk, o_js_, o_jsk, o_len, o_ri, o_rz, o_rl, o_rv, ls1, ls2, lks, lkj, List.getD_cons_zero, List.getD_cons_succ, List.set_cons_zero, List.set_cons_succ, qcat, true_and, and_true, List.map_nil, List.map_cons, List.sum_nil, List.sum_cons, Nat.reduceAdd, Nat.reduceLeDiff, Nat.zero_le, Int.reduceAdd, Int.reduceNeg, Int.reduceEq, or_true, true_or, Decidable.not_not, false_implies, not_false_eq_true, true_implies, not_true_eq_false, Int.reduceLT, Int.reduceLE]
    have e1 : z_add ra_ (k : Int) = ra_ + (k : Int) := by unfold z_add; exact w32_i _ (by omega) (by omega)
    have e2 : ra σ0 81 0 (k : Int) (fun i => σ0 rt (ra_ + i)) rt = σ0 rt := ra_k (by intro e; subst e; exact n3 (by decide))
    rw [e1, e2, w32_i _ (by omega) (by omega)]
    refine ⟨fun h => by omega, fun _ => ⟨⟨q5, q6⟩, by omega, by omega, ?_⟩⟩
    rw [ra_s (by omega) rfl]
    exact ih (k + 1) (by omega)
theorem w_M_merge {l : Launch} {ad : Nat → Nat} {D : va_G} {cA : Nat → ClassId} {WW : Nat → qP} {QR : Option qA → qS → Prop} (S : qSnd l rm_M_merge ad D cA R_M b_M_merge 11 WW) (Q : qRet (some .int) b_M_merge WW QR) (a1 : Nat) (a2 : Nat) (a3 : Int) (a4 : Nat) (a5 : Int) (a6 : Int) (σ : qS) (ha3 : r32 a3) (ha5 : r32 a5) (ha6 : r32 a6) (hσ : qoS σ) (h : P_M_merge a1 a2 a3 a4 a5 a6 σ) (hq : ∀ (r : Int) σ', Q_M_merge a1 a2 a3 a4 a5 a6 σ r σ' → QR (some (.inl r)) σ') : WW 0 [] [some (.inr (.inr 900)), some (.inr (.inr a1)), some (.inr (.inr a2)), some (.inl a3), some (.inr (.inr a4)), some (.inl a5), some (.inl a6), none, none, none, none] σ := by
  refine s_M_merge_0 S Q _ _ _ ?_
  simp only [k_M_merge_0, k_M_merge_3, k_M_merge_10, k_M_merge_31, k_M_merge_37, k_M_merge_42, k_M_merge_48, k_M_merge_55, k_M_merge_75, k_M_merge_81, k_M_merge_107, k_M_merge_111, k_M_merge_117, k_M_merge_123, k_M_merge_127, k_M_merge_128, k_M_merge_135, k_M_merge_138, k_M_merge_191, o_c, o_il, o_ll, o_al, o_is, o_as, o_ls, o_inc, o_bi, o_bid, o_bl, o_bld, o_sl, o_i2l, o_l2i, o_dup, o_dup2, o_pop, o_pop2, o_if, o_i2, o_l2, swg, o_sw, o_gI, o_gZ, o_gJ, o_gA, o_gR, o_pI, o_pZ, o_pJ, o_pR, o_ia, o_iak, o_zak, o_ja, o_jak, o_is_, o_isk, o_zsk, o_js_, o_jsk, o_len, o_ri, o_rz, o_rl, o_rv, ls1, ls2, lks, lkj, List.getD_cons_zero, List.getD_cons_succ, List.set_cons_zero, List.set_cons_succ, qcat, true_and, and_true, List.map_nil, List.map_cons, List.sum_nil, List.sum_cons, Nat.reduceAdd, Nat.reduceLeDiff, Nat.zero_le, Int.reduceAdd, Int.reduceNeg, Int.reduceEq, or_true, true_or, Decidable.not_not, false_implies, not_false_eq_true, true_implies, not_true_eq_false, Int.reduceLT, Int.reduceLE]
  have := v_M_merge_3 S Q σ a1 a2 a3 a4 a5 a6 h hq a6.toNat 0 (by have := h.2.2.1; omega)
  rw [ra_0 (by simp)] at this
  exact this
theorem c_M_merge (l : Launch) (ad : Nat → Nat) (D : va_G) (cA : Nat → ClassId) : qC l ad D cA y_M_merge (Cond.code y_M_merge b_M_merge 11 (some .int) :: lw_g) rm_M_merge pre_M_merge post_M_merge := by
  refine qC_of (own := R_M) (by decide) rfl ⟨rfl, rfl⟩ ?_ ?_
  · intro av σ h; unfold pre_M_merge at h; split at h
    · simp [qen]
    · exact h.elim
  · intro WW QR S Q av σ hav hσ h hq; unfold pre_M_merge at h; split at h
    next o a1 a2 a3 a4 a5 a6 =>
      obtain ⟨rfl, h⟩ := h
      exact w_M_merge S Q a1 a2 a3 a4 a5 a6 σ (hav _ (List.mem_of_getElem? (i := 3) rfl)) (hav _ (List.mem_of_getElem? (i := 5) rfl)) (hav _ (List.mem_of_getElem? (i := 6) rfl)) hσ h (fun r σ' h' => hq _ σ' h')
    next => exact h.elim

