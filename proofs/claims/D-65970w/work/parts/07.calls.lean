def qAr (ad : Nat → Nat) (sz : Nat) : Nat → Prop := fun q => (∃ r ∈ qtb, q = ad r) ∨ sz ≤ q
def qPc (ad : Nat → Nat) (D : va_G) (cA : Nat → ClassId) (av : List qA) (σ : qS) (sz : Nat) : Array Value → State → Prop := va_Pc (av.map (qv ad)) (fun U => U.heap.size = sz ∧ va_P D qcl (qw ad cA σ) U.heap ∧ va_K D qcl [(cA 0, .int), (cA 1, .long), (cA 2, .boolean)] U)
def qQc (ad : Nat → Nat) (D : va_G) (cA : Nat → ClassId) (post : Option qA → qS → Prop) (A : Nat → Prop) : Array Value → State → Outcome → State → Prop := fun _ st o t =>
  (∃ (r : Option qA) (σ' : qS), o = .returned (r.map (qv ad)) ∧ (∀ v, r = some v → qok v) ∧ qoS σ' ∧ post r σ' ∧ va_P D qcl (qw ad cA σ') t.heap) ∧ va_F A st t
def qC (l : Launch) (ad : Nat → Nat) (D : va_G) (cA : Nat → ClassId) (y : MethodName) (ws : List Cond) (rm : Room) (pre : List qA → qS → Prop) (post : List qA → qS → Option qA → qS → Prop) : Prop :=
  (∀ r ∈ qtb, ∀ r' ∈ qtb, ad r = ad r' → r = r') → ∀ (av : List qA) (σ : qS) (sz : Nat), (∀ v ∈ av, qok v) → qoS σ → pre av σ → Met l y ws rm (qPc ad D cA av σ sz) (qQc ad D cA (post av σ) (qAr ad sz)) 0 0 (qAr ad sz)
theorem qPc_blind {ad : Nat → Nat} {D : va_G} {cA : Nat → ClassId} {av : List qA} {σ : qS} {sz : Nat} : FrameBlind (qPc ad D cA av σ sz) := fun a U g mk q => by
  obtain ⟨q0, q1, qP, qK⟩ := q
  exact ⟨q0, q1, qP, va_K.moved (u := U) (U := U.calling g mk a) (Vm.Alike.refl U.vm) qK⟩
def o_cl (n : Nat) (pre : List qA → qS → Prop) (post : List qA → qS → Option qA → qS → Prop) (K : qP) : qP := fun st ls σ =>
  ∃ av rest, st = av.reverse ++ rest ∧ av.length = n ∧ (rest.map qcat).sum ≤ 8 ∧ pre av σ ∧ ∀ r σ', post av σ r σ' → K (r.toList ++ rest) ls σ'
def qCB (own : String) (i : Nat) (y : MethodName) (bytes : ByteArray) (maxL : Nat) (ret : Option FieldType) (n : Nat) : Prop :=
  Cond.code y bytes maxL ret ∈ lw_g ∧ Cond.methodLink own i y ∈ lw_g ∧ Cond.initialized y.cls ∈ lw_g ∧ (y.cls ≠ "java/lang/invoke/MethodHandle" ∧ y.cls ≠ "java/lang/invoke/VarHandle" ∧ (parseMethodDescriptor y.desc).map (fun d => d.parameters.length) = some n)
def swok (WW : Nat → qP) (pc : Nat) : List Int → List qP → Prop
  | [], [] => True
  | off :: os, K :: Ks => (∃ t : Nat, (pc : Int) + off = (t : Int) ∧ qle K WW t) ∧ swok WW pc os Ks
  | _, _ => False
theorem swg_at {WW : Nat → qP} {pc : Nat} {z : Int} : ∀ (os : List Int) (Ks : List qP) (lo : Int) (Kd : qP) (st : List qA) (ls : qL) (σ : qS), swok WW pc os Ks → swg z lo Ks Kd st ls σ →
    ((z < lo ∨ lo + os.length ≤ z) ∧ Kd st ls σ) ∨ (lo ≤ z ∧ z < lo + os.length ∧ ∃ (t : Nat) (off : Int), os[(z - lo).toNat]? = some off ∧ (pc : Int) + off = (t : Int) ∧ WW t st ls σ)
  | [], [], lo, Kd, st, ls, σ, _, h => Or.inl ⟨by simp; omega, h⟩
  | [], K :: Ks, lo, Kd, st, ls, σ, hs, h => hs.elim
  | off :: os, [], lo, Kd, st, ls, σ, hs, h => hs.elim
  | off :: os, K :: Ks, lo, Kd, st, ls, σ, hs, h => by
    obtain ⟨⟨t, ht, hk⟩, hs⟩ := hs
    obtain ⟨h1, h2⟩ := h
    by_cases e : z = lo
    · subst e
      exact Or.inr ⟨Int.le_refl _, by simp; omega, t, off, by simp, ht, hk _ _ _ (h1 rfl)⟩
    · rcases swg_at os Ks (lo + 1) Kd st ls σ hs (h2 e) with ⟨g1, g2⟩ | ⟨g1, g2, t', off', g3, g4, g5⟩
      · exact Or.inl ⟨by simp only [List.length_cons]; omega, g2⟩
      · refine Or.inr ⟨by omega, by simp only [List.length_cons]; omega, t', off', ?_, g4, g5⟩
        rw [show (z - lo).toNat = (z - (lo + 1)).toNat + 1 by omega, List.getElem?_cons_succ]
        exact g3
section Q7
variable {p : Program} {l : Launch} {e : Env} {R : Room} {s : State} {m : MethodId} {args : Array Value} {below : List Frame} {meth : Method} {c : Code} {cc : ByteArray} {nL : Nat} {own : String} {ad : Nat → Nat} {D : va_G} {cA : Nat → ClassId} {A : Nat → Prop} {cells slots : Nat} {Q : State → Prop} {pc : Nat} {K : qP}
theorem q_sw (X : qX p s m args meth c cc nL own ad D cA A) {dflt lo hi : Int} {offs : Array Int} {len td : Nat} {Ks : List qP} {Kd : qP} (d : decode cc pc = .ok (.tableswitch dflt lo hi offs, len)) (hh : hi = lo + offs.toList.length - 1) (hs : swok (qWW p l e R s m args below meth c nL ad D cA A cells slots Q) pc offs.toList Ks) (htd : (pc : Int) + dflt = (td : Int)) (hd : qle Kd (qWW p l e R s m args below meth c nL ad D cA A cells slots Q) td) : qle (o_sw lo Ks Kd) (qWW p l e R s m args below meth c nL ad D cA A cells slots Q) pc := by
  intro st ls σ k o1 o2 o3 H locs la hP hS hl
  unfold o_sw at k
  split at k
  next z st =>
    obtain ⟨q0, q⟩ : r32 z ∧ ∀ v ∈ st, qok v := List.forall_mem_cons.mp o1
    rcases swg_at offs.toList Ks lo Kd st ls σ hs k with ⟨g1, g2⟩ | ⟨g1, g2, t, off, g3, g4, g5⟩
    · refine lv_tableOut X.1 X.2.1 d ?_ htd (hd _ _ _ g2 q o2 o3 H locs la hP hS hl)
      rw [i32_t q0]; omega
    · refine lv_tableIn X.1 X.2.1 d (by rw [i32_t q0]; omega) (by rw [i32_t q0]; omega) ?_ g4 (g5 q o2 o3 H locs la hP hS hl)
      rw [i32_t q0, ← Array.getElem?_toList]; exact g3
  next => exact k.elim
theorem q_asm {WW0 : Nat → qP} (hW0 : WW0 = (qWW p l e R s m args below meth c nL ad D cA A cells slots Q)) (pc : Nat) (st : List qA) (ls : qL) (σ : qS) (h : qoS σ → (∀ v ∈ st, qok v) → (∀ (i : Nat) v, ls[i]? = some (some v) → qok v) → WW0 pc st ls σ) : WW0 pc st ls σ := by
  subst hW0
  intro o1 o2 o3
  exact h o3 o1 o2 o1 o2 o3
theorem q_fgt {WW0 : Nat → qP} (hW0 : WW0 = (qWW p l e R s m args below meth c nL ad D cA A cells slots Q)) (pc : Nat) (st : List qA) (ls ls' : qL) (σ : qS) (hs : ∀ (i : Nat) v, ls'[i]? = some (some v) → ls[i]? = some (some v)) (hn : ls'.length ≤ ls.length) (h : WW0 pc st ls' σ) : WW0 pc st ls σ := by
  subst hW0
  intro o1 o2 o3 H locs la hP hS hl
  exact h o1 (fun i v hv => o2 i v (hs i v hv)) o3 H locs la hP hS ⟨hl.1, Nat.le_trans hn hl.2.1, hl.2.2.1, fun i v hv => hl.2.2.2 i v (hs i v hv)⟩
theorem qA_sub (X : qX p s m args meth c cc nL own ad D cA A) {H : Heap} {locs : List Loc} (hS : va_S A s.heap H locs) : ∀ q, qAr ad H.size q → A q := by
  intro q hq
  rcases hq with ⟨r, hr, rfl⟩ | hq
  · exact X.2.2.2.2.2.2.2.1 r hr
  · exact X.2.2.2.2.2.2.2.2.1 q (Nat.le_trans hS.1 hq)
theorem q_back (X : qX p s m args meth c cc nL own ad D cA A) {st0 rest0 : List Value} {rest : List qA} {post : Option qA → qS → Prop} {a : Array Value} {la : Array Slot} {ls : qL} {H : Heap} {locs : List Loc} (hrest : rest0 = rest.map (qv ad)) (hr : va_Run p l e R s m args below meth c H locs cells slots 0 0 (F0 m pc la st0) rest0 (qQc ad D cA post (qAr ad H.size) a) (qAr ad H.size)) (hS : va_S A s.heap H locs) (o1 : ∀ v ∈ rest, qok v) (o2 : ∀ (i : Nat) v, ls[i]? = some (some v) → qok v) (hl : qlr ad la nL ls)
    (h : qle K (qWW p l e R s m args below meth c nL ad D cA A cells slots Q) (pc + 3)) (k : ∀ r σ', post r σ' → K (r.toList ++ rest) ls σ') : W p l e R s m args below meth c H locs cells slots Q (F0 m pc la st0) := by
  intro T hT Xs
  subst hrest
  obtain ⟨v, st₀, t, T', L, h0, X', hL, e1, e2, ⟨⟨r, σ', hv, hok, hoS, hp, hP1⟩, hz, hk⟩, st⟩ := hr T hT Xs
  have hv' : v = r.map (qv ad) := Outcome.returned.inj hv
  subst hv'
  rw [h0] at hz hk
  have hA1 := qA_sub X hS
  have hS' : va_S A s.heap T'.heap (locs ++ L) := ⟨Nat.le_trans hS.1 (by rw [e1]; exact hz), fun q h1 h2 => by
      rw [e1, hk q (Nat.lt_of_lt_of_le h1 hS.1) (fun z => h2 (hA1 q z))]; exact hS.2.1 q h1 h2, fun q hq => by
      rcases List.mem_append.mp hq with h | h
      · exact hS.2.2 q h
      · exact hA1 _ (hL q h)⟩
  have hok2 : ∀ v ∈ r.toList ++ rest, qok v := by
    intro v hv
    rcases List.mem_append.mp hv with h | h
    · exact hok v (by cases r with | none => cases h | some x => rw [Option.toList_some, List.mem_singleton] at h; rw [h])
    · exact o1 v h
  have hst : (r.toList ++ rest).map (qv ad) = (r.map (qv ad)).toList ++ rest.map (qv ad) := by cases r <;> simp
  obtain ⟨t2, a1, b1⟩ := h (r.toList ++ rest) ls σ' (k r σ' hp) hok2 o2 hoS T'.heap (locs ++ L) la (by rw [e1]; exact hP1) hS' hl T' rfl X'
  rw [hst] at a1
  exact ⟨t2, st t2 a1, b1⟩
theorem qcat_sum (rest : List qA) : ((rest.map (qv ad)).map fun v => v.category).sum = (rest.map qcat).sum := by
  rw [List.map_map]
  congr 1
  apply List.map_congr_left
  intro v _
  exact qv_cat ad v
theorem q_callS (X : qX p s m args meth c cc nL own ad D cA A) (hcs : cells ≤ R.cells ∧ slots ≤ R.slots) {i n maxL : Nat} {y : MethodName} {bytes : ByteArray} {ret : Option FieldType} {rm : Room} {pre : List qA → qS → Prop} {post : List qA → qS → Option qA → qS → Prop} (hB : qCB own i y bytes maxL ret n) (hst : Cond.static y ∈ lw_g) (hrm : rm.cells = 0 ∧ rm.slots = 0) (hR : rm.frames + 1 ≤ R.frames ∧ 8 + (maxL + 11) + rm.locals ≤ R.locals) (hC : qC l ad D cA y (Cond.code y bytes maxL ret :: lw_g) rm pre post)
    (d : decode cc pc = .ok (.invokestatic i, 3)) (h : qle K (qWW p l e R s m args below meth c nL ad D cA A cells slots Q) (pc + 3)) : qle (o_cl n pre post K) (qWW p l e R s m args below meth c nL ad D cA A cells slots Q) pc := by
  rintro st ls σ ⟨av, rest, rfl, hn, hsum, hpre, k⟩ o1 o2 o3 H locs la hP hS hl
  have hts := X.2.2.2.2.1
  have okav : ∀ v ∈ av, qok v := fun v hv => o1 v (List.mem_append_left _ (List.mem_reverse.mpr hv))
  have okr : ∀ v ∈ rest, qok v := fun v hv => o1 v (List.mem_append_right _ hv)
  have hM := hC X.2.2.2.2.2.2.1 av σ H.size okav o3 hpre
  have cb := callB_of (R := R) (own := own) (index := i) n hts (lw_gcons hB.1) rfl hrm.1 hrm.2 (hts _ hB.2.2.1) (hts _ hB.2.1) hB.2.2.2 hR
  refine q_back X rfl (va_runS (As := av.map (qv ad)) ⟨X.1, X.2.1, X.2.2.1, X.2.2.2.1, hts⟩ hM ⟨cb, hts _ hst⟩ ⟨qPc_blind, fun U hU hW => ⟨rfl, by rw [hU], by rw [hU]; exact hP, va_K.moved hW.alike X.2.2.2.2.2.1⟩⟩ rfl (by rw [List.length_map, hn]) hl.1 (by rw [List.map_append, List.map_reverse]) (lv_room (by rw [qcat_sum]; exact hsum)) d ⟨hcs.1, hcs.2⟩) hS okr o2 hl h k
theorem q_callV (X : qX p s m args meth c cc nL own ad D cA A) (hcs : cells ≤ R.cells ∧ slots ≤ R.slots) {o ci N base i n maxL : Nat} {C : String} {T : u_T} {y : MethodName} {bytes : ByteArray} {ret : Option FieldType} {rm : Room} {pre : List qA → qS → Prop} {post : List qA → qS → Option qA → qS → Prop} (hO : qob o ci N base C T) (hB : qCB own i y bytes maxL ret n) (hst : Cond.instanceMethod y ∈ lw_g ∧ Cond.selects C y y ∈ lw_g) (hrm : rm.cells = 0 ∧ rm.slots = 0) (hR : rm.frames + 1 ≤ R.frames ∧ 8 + (maxL + 11) + rm.locals ≤ R.locals) (hC : qC l ad D cA y (Cond.code y bytes maxL ret :: lw_g) rm pre post) (hpr : ∀ av σ, pre av σ → ∃ t, av = .inr (.inr o) :: t)
    (d : decode cc pc = .ok (.invokevirtual i, 3)) (h : qle K (qWW p l e R s m args below meth c nL ad D cA A cells slots Q) (pc + 3)) : qle (o_cl (n + 1) pre post K) (qWW p l e R s m args below meth c nL ad D cA A cells slots Q) pc := by
  rintro st ls σ ⟨av, rest, rfl, hn, hsum, hpre, k⟩ o1 o2 o3 H locs la hP hS hl
  have hts := X.2.2.2.2.1
  have okav : ∀ v ∈ av, qok v := fun v hv => o1 v (List.mem_append_left _ (List.mem_reverse.mpr hv))
  have okr : ∀ v ∈ rest, qok v := fun v hv => o1 v (List.mem_append_right _ hv)
  have hM := hC X.2.2.2.2.2.2.1 av σ H.size okav o3 hpre
  obtain ⟨tl, rfl⟩ := hpr av σ hpre
  have cb := callB_of (R := R) (own := own) (index := i) n hts (lw_gcons hB.1) rfl hrm.1 hrm.2 (hts _ hB.2.2.1) (hts _ hB.2.1) hB.2.2.2 hR
  have hcell : ∃ cellB : Cell, H[ad o]? = some cellB ∧ cellB.vm.isStatics = false ∧ s.vm.findClass C = some cellB.cls := by
    obtain ⟨h1, h2, h3, h4⟩ := qob_e hO ad cA σ
    obtain ⟨q, -, hq⟩ := qw_get (ad := ad) (cA := cA) (σ := σ) h1
    rw [h2] at hq
    obtain ⟨r, g1, cell, g2, g3, g4, -⟩ := hP q _ hq
    have hr : r = (C, T, N) := Option.some.inj (g1.symm.trans h3)
    subst hr
    obtain ⟨-, hfc, -⟩ := X.2.2.2.2.2.1.1 ci _ h3
    exact ⟨cell, g2, by rw [g4]; rfl, by rw [g3]; exact hfc⟩
  refine q_back X rfl (va_runV (As := tl.map (qv ad)) (b := ad o) ⟨X.1, X.2.1, X.2.2.1, X.2.2.2.1, hts⟩ hM ⟨cb, hts _ hst.1, hts _ hst.2⟩ ⟨qPc_blind, hcell, fun U hU hW => ⟨rfl, by rw [hU], by rw [hU]; exact hP, va_K.moved hW.alike X.2.2.2.2.2.1⟩⟩ rfl (by rw [List.length_map]; simpa using hn) hl.1 ?_ (lv_room (by rw [qcat_sum]; exact hsum)) d ⟨hcs.1, hcs.2⟩) hS okr o2 hl h k
  rw [List.map_append, List.map_reverse, List.map_cons, List.reverse_cons, List.append_assoc]; rfl
theorem q_ri (X : qX p s m args meth c cc nL own ad D cA A) {QR : Option qA → qS → Prop} {post : Option qA → qS → Prop} (hr : meth.sig.returnType = some .int) (hQ : ∀ r σ', QR r σ' → post r σ') (d : decode cc pc = .ok (.ireturn, 1)) : qle (o_ri QR) (qWW p l e R s m args below meth c nL ad D cA A cells slots (MQ below (qQc ad D cA post A) args s cells slots A)) pc := by
  intro st ls σ k o1 o2 o3 H locs la hP hS hl
  unfold o_ri at k
  split at k
  next z =>
    exact W.iret X.1 X.2.1 hr (fun t ht hW => ⟨⟨some (.inl z), σ, rfl, fun v hv => by cases hv; exact o1 _ List.mem_cons_self, o3, hQ _ _ k, by rw [ht]; exact hP⟩, hS.F ht⟩) hS.2.2 d X.2.2.2.2.2.2.2.2.2
  next => exact k.elim
theorem q_rz (X : qX p s m args meth c cc nL own ad D cA A) {QR : Option qA → qS → Prop} {post : Option qA → qS → Prop} (hr : meth.sig.returnType = some .boolean) (hQ : ∀ r σ', QR r σ' → post r σ') (d : decode cc pc = .ok (.ireturn, 1)) : qle (o_rz QR) (qWW p l e R s m args below meth c nL ad D cA A cells slots (MQ below (qQc ad D cA post A) args s cells slots A)) pc := by
  intro st ls σ k o1 o2 o3 H locs la hP hS hl
  unfold o_rz at k
  split at k
  next z =>
    exact W.zret X.1 X.2.1 hr (by rcases k.1 with rfl | rfl <;> rfl) (fun t ht hW => ⟨⟨some (.inl z), σ, rfl, fun v hv => by cases hv; exact o1 _ List.mem_cons_self, o3, hQ _ _ k.2, by rw [ht]; exact hP⟩, hS.F ht⟩) hS.2.2 d X.2.2.2.2.2.2.2.2.2
  next => exact k.elim
theorem q_rl (X : qX p s m args meth c cc nL own ad D cA A) {QR : Option qA → qS → Prop} {post : Option qA → qS → Prop} (hr : meth.sig.returnType = some .long) (hQ : ∀ r σ', QR r σ' → post r σ') (d : decode cc pc = .ok (.lreturn, 1)) : qle (o_rl QR) (qWW p l e R s m args below meth c nL ad D cA A cells slots (MQ below (qQc ad D cA post A) args s cells slots A)) pc := by
  intro st ls σ k o1 o2 o3 H locs la hP hS hl
  unfold o_rl at k
  split at k
  next z =>
    exact W.lret X.1 X.2.1 hr (fun t ht hW => ⟨⟨some (.inr (.inl z)), σ, rfl, fun v hv => by cases hv; exact o1 _ List.mem_cons_self, o3, hQ _ _ k, by rw [ht]; exact hP⟩, hS.F ht⟩) hS.2.2 d X.2.2.2.2.2.2.2.2.2
  next => exact k.elim
theorem q_rv (X : qX p s m args meth c cc nL own ad D cA A) {QR : Option qA → qS → Prop} {post : Option qA → qS → Prop} (hr : meth.sig.returnType = none) (hQ : ∀ r σ', QR r σ' → post r σ') (d : decode cc pc = .ok (.return_, 1)) : qle (o_rv QR) (qWW p l e R s m args below meth c nL ad D cA A cells slots (MQ below (qQc ad D cA post A) args s cells slots A)) pc := by
  intro st ls σ k o1 o2 o3 H locs la hP hS hl
  unfold o_rv at k
  split at k
  next =>
    exact W.vret X.1 X.2.1 hr (fun t ht hW => ⟨⟨none, σ, rfl, fun v hv => (by cases hv), o3, hQ _ _ k, by rw [ht]; exact hP⟩, hS.F ht⟩) hS.2.2 d X.2.2.2.2.2.2.2.2.2
  next => exact k.elim
end Q7
def qen : List qA → qL
  | [] => []
  | .inr (.inl z) :: t => some (.inr (.inl z)) :: none :: qen t
  | v :: t => some v :: qen t
theorem qen_at (ad : Nat → Nat) : ∀ (av : List qA) (b i : Nat) (v : qA), (qen av)[i]? = some (some v) → (b + i, qv ad v) ∈ lv_args b (av.map (qv ad))
  | [], b, i, v, h => by simp [qen] at h
  | .inr (.inl z) :: t, b, i, v, h => by
    rw [qen] at h
    match i, h with
    | 0, h => cases h; exact List.mem_cons_self
    | 1, h => cases h
    | i + 2, h =>
      have := qen_at ad t (b + 2) i v h
      rw [show b + (i + 2) = b + 2 + i by omega]
      exact List.mem_cons_of_mem _ this
  | .inl z :: t, b, i, v, h => by
    rw [qen] at h
    · match i, h with
      | 0, h => cases h; exact List.mem_cons_self
      | i + 1, h =>
        have := qen_at ad t (b + 1) i v h
        rw [show b + (i + 1) = b + 1 + i by omega]
        exact List.mem_cons_of_mem _ this
    · intro z h; cases h
  | .inr (.inr z) :: t, b, i, v, h => by
    rw [qen] at h
    · match i, h with
      | 0, h => cases h; exact List.mem_cons_self
      | i + 1, h =>
        have := qen_at ad t (b + 1) i v h
        rw [show b + (i + 1) = b + 1 + i by omega]
        exact List.mem_cons_of_mem _ this
    · intro z h; cases h
theorem qen_len (ad : Nat → Nat) : ∀ av : List qA, (lg_sl (av.map (qv ad))).length = (qen av).length
  | [] => rfl
  | .inr (.inl z) :: t => by
    have := qen_len ad t
    simp only [lg_sl, List.map_cons, List.flatMap_cons, List.length_append, qen, List.length_cons] at *
    rw [← this]; simp [qv, Value.category]; omega
  | .inl z :: t => by
    have := qen_len ad t
    simp only [lg_sl, List.map_cons, List.flatMap_cons, List.length_append, List.length_cons] at *
    rw [qen, List.length_cons, ← this]
    · simp [qv, Value.category]; omega
    · intro z h; cases h
  | .inr (.inr z) :: t => by
    have := qen_len ad t
    simp only [lg_sl, List.map_cons, List.flatMap_cons, List.length_append, List.length_cons] at *
    rw [qen, List.length_cons, ← this]
    · simp [qv, Value.category]; omega
    · intro z h; cases h
def qent (av : List qA) (nL : Nat) : qL := qen av ++ List.replicate (nL - (qen av).length) none
theorem qent_at {av : List qA} {nL i : Nat} {v : qA} (h : (qent av nL)[i]? = some (some v)) : (qen av)[i]? = some (some v) := by
  unfold qent at h
  by_cases hi : i < (qen av).length
  · rwa [List.getElem?_append_left hi] at h
  · rw [List.getElem?_append_right (by omega), List.getElem?_replicate] at h
    split at h <;> cases h
theorem qen_mem : ∀ (av : List qA) (i : Nat) (v : qA), (qen av)[i]? = some (some v) → v ∈ av
  | [], i, v, h => by simp [qen] at h
  | .inr (.inl z) :: t, i, v, h => by
    rw [qen] at h
    match i, h with
    | 0, h => cases h; exact List.mem_cons_self
    | 1, h => cases h
    | i + 2, h => exact List.mem_cons_of_mem _ (qen_mem t i v h)
  | .inl z :: t, i, v, h => by
    rw [qen] at h
    · match i, h with
      | 0, h => cases h; exact List.mem_cons_self
      | i + 1, h => exact List.mem_cons_of_mem _ (qen_mem t i v h)
    · intro z h; cases h
  | .inr (.inr z) :: t, i, v, h => by
    rw [qen] at h
    · match i, h with
      | 0, h => cases h; exact List.mem_cons_self
      | i + 1, h => exact List.mem_cons_of_mem _ (qen_mem t i v h)
    · intro z h; cases h
