theorem q_core {p : Program} {l : Launch} {e : Env} {R : Room} {s : State} {m : MethodId} {args : Array Value} {below : List Frame} {meth : Method} {c : Code} {cc : ByteArray} {nL : Nat} {own : String} {ad : Nat → Nat} {D : va_G} {cA : Nat → ClassId} {A : Nat → Prop} {cells slots pc : Nat}
    (X : qX p s m args meth c cc nL own ad D cA A) (htr : ∀ e, l.admits e → e.platform.stackTraces = false) (ham : am s) (hns : ∀ q, A q → ∀ cell, s.heap[q]? = some cell → cell.vm.isStatics = false)
    {i n maxL : Nat} {y : MethodName} {bytes : ByteArray} {ret : Option FieldType} {rm : Room} {pre : List qA → qS → Prop} {post : List qA → qS → Option qA → qS → Prop} {postT : List qA → qS → Nat → qS → Prop}
    (hB : qCB own i y bytes maxL ret n) (hR : rm.frames + 1 ≤ R.frames ∧ 8 + (maxL + 11) + rm.locals ≤ R.locals ∧ cells + rm.cells ≤ R.cells ∧ slots + rm.slots ≤ R.slots) (hC : qT l ad D cA y (Cond.code y bytes maxL ret :: lw_g) rm pre post postT)
    {av rest : List qA} {σ : qS} {ls : qL} {H : Heap} {locs : List Loc} {la : Array Slot} (okav : ∀ v ∈ av, qok v) (o3 : qoS σ) (hpre : pre av σ) (hsum : (rest.map qcat).sum ≤ 8) (hP : va_P D qcl (qw ad cA σ) H) (hS : va_S A s.heap H locs) (hl : qlr ad la nL ls)
    {T : State} (hT : T.heap = H) {vm₁ : Vm} {mk : MethodId} {st0 : List Value} {ig : Instr} (X₁ : Stand p l e R s m args below meth c (T.setVm vm₁) locs cells slots) (hnm : (T.setVm vm₁).methodNamed? y = some mk) (hdg : decode cc pc = .ok (ig, 3))
    (hst : ∀ target, Steps p.tables e below (doInvoke e ((T.setVm vm₁).setTop (F0 m pc la (rest.map (qv ad)))) [] mk (av.map (qv ad)).toArray).1 target → Steps p.tables e below (T.setTop (F0 m pc la st0)) target) :
    (∃ (r : Option qA) (σ' : qS) (T' : State) (L : List Loc), (∀ v, r = some v → qok v) ∧ qoS σ' ∧ post av σ r σ' ∧ va_P D qcl (qw ad cA σ') T'.heap ∧ va_S A s.heap T'.heap (locs ++ L) ∧ Stand p l e R s m args below meth c T' (locs ++ L) cells slots ∧ ∀ target, Steps p.tables e below (T'.setTop (F0 m (pc + 3) la ((r.map (qv ad)).toList ++ rest.map (qv ad)))) target → Steps p.tables e below (T.setTop (F0 m pc la st0)) target) ∨
    (∃ (x tag : Nat) (σ' : qS) (ce : Cell) (T' : State) (L : List Loc), tag < 4 ∧ qoS σ' ∧ postT av σ tag σ' ∧ va_P D qcl (qw ad cA σ') T'.heap ∧ va_S A s.heap T'.heap (locs ++ L) ∧ Stand p l e R s m args below meth c T' (locs ++ L) (cells + 1) (slots + 6) ∧ (T'.heap[x]? = some ce ∧ ce.vm.isStatics = false ∧ s.vm.findClass (exN tag) = some ce.cls) ∧ Steps p.tables e below (T.setTop (F0 m pc la st0)) ((T'.setTop (F0 m pc la (rest.map (qv ad)))).pushFrame (.throwing x))) := by
  have hts := X.2.2.2.2.1
  have hU : ∀ w ∈ lw_g, ∀ a', w.before a' (T.setVm vm₁) = true := fun w hw a' => word_at X₁.warmed (good_of_word (List.mem_filter.mp hw).2) (hts w hw)
  have hM := hC htr X.2.2.2.2.2.2.1 av σ H.size okav o3 hpre
  have ham' : am (T.setVm vm₁) := am_mv X₁.warmed (by show stk0 s.heap T.heap; rw [hT]; exact stk_S hS hns) ham
  obtain ⟨o, s₂, hq, hgo⟩ := q_inv (g := F0 m pc la (rest.map (qv ad))) (ig := ig) (len := 3) (bytes := bytes) (maxL := maxL) (ret := ret) (a := (av.map (qv ad)).toArray) hM X₁ rfl (by rw [X.2.2.1]; exact hl.1) (by rw [X.2.1]; exact hdg)
    (by rw [show (2 * JFrame.monitorRoom (F0 m pc la (rest.map (qv ad)))) = 0 from rfl, qcat_sum]; omega) hR.1 hR.2.2.1 hR.2.2.2 hnm
    (atoms_intro fun w hw => by rcases List.mem_cons.mp hw with rfl | h; exact hU _ hB.1 _; exact hU w h _) (hU _ hB.1 _) (hU _ hB.2.2.1 _)
    ⟨rfl, by show T.heap.size = H.size; rw [hT], by show va_P D qcl (qw ad cA σ) T.heap; rw [hT]; exact hP, va_K.moved (u := s) X₁.warmed.alike X.2.2.2.2.2.1, am_eq (s := T.setVm vm₁) rfl rfl ham'⟩
  have hA1 := qA_sub X hS
  have mkS : ∀ (L : List Loc), (∀ q ∈ L, qAr ad H.size q.base) → va_F (qAr ad H.size) ((T.setVm vm₁).calling (F0 m pc la (rest.map (qv ad))) mk (av.map (qv ad)).toArray) s₂ → va_S A s.heap s₂.heap (locs ++ L) := by
    intro L hL hF
    obtain ⟨hz, hk⟩ := hF
    have hz : T.heap.size ≤ s₂.heap.size := hz
    have hk : ∀ q : Nat, q < T.heap.size → ¬ qAr ad H.size q → s₂.heap[q]? = T.heap[q]? := hk
    rw [hT] at hz hk
    exact ⟨Nat.le_trans hS.1 hz, fun q h1 h2 => by rw [hk q (Nat.lt_of_lt_of_le h1 hS.1) (fun z => h2 (hA1 q z))]; exact hS.2.1 q h1 h2, fun q hq => by
      rcases List.mem_append.mp hq with h | h
      · exact hS.2.2 q h
      · exact hA1 _ (hL q h)⟩
  rcases hq with ⟨r, σ', ho, h4, h5, h6, h7, h8, L, hFE, hL⟩ | ⟨x, tag, σ', ce, ho, h3, h5, h6, h7, h8, h9, L, hFE, hL⟩
  · obtain ⟨Y, g1, -⟩ := hgo L 0 0 hFE
    exact Or.inl ⟨r, σ', (({ T.setVm vm₁ with heap := s₂.heap, slotsUsed := s₂.slotsUsed } : State)).setVm s₂.vm, L, h4, h5, h6, h7, mkS L hL h8, Y, fun target ht => hst target ((g1 _ ho).trans ht)⟩
  · obtain ⟨Y, -, g2⟩ := hgo L 1 6 hFE
    refine Or.inr ⟨x, tag, σ', ce, (({ T.setVm vm₁ with heap := s₂.heap, slotsUsed := s₂.slotsUsed } : State)).setVm s₂.vm, L, h3, h5, h6, h7, mkS L hL h8, Y, ⟨h9.1, h9.2.1, ?_⟩, hst _ (g2 _ ho)⟩
    have := h9.2.2
    rw [show ((T.setVm vm₁).calling (F0 m pc la (rest.map (qv ad))) mk (av.map (qv ad)).toArray).vm = vm₁ from rfl] at this
    rw [← X₁.warmed.alike.findClass]; exact this
def o_ct (n : Nat) (pre : List qA → qS → Prop) (post : List qA → qS → Option qA → qS → Prop) (postT : List qA → qS → Nat → qS → Prop) (QT : Nat → qS → Prop) (K : qP) : qP := fun st ls σ =>
  ∃ av rest, st = av.reverse ++ rest ∧ av.length = n ∧ (rest.map qcat).sum ≤ 8 ∧ pre av σ ∧ (∀ r σ', post av σ r σ' → K (r.toList ++ rest) ls σ') ∧ ∀ tag σ', postT av σ tag σ' → QT tag σ'
theorem q_fin {p : Program} {l : Launch} {e : Env} {R : Room} {s : State} {m : MethodId} {args : Array Value} {below : List Frame} {meth : Method} {c : Code} {cc : ByteArray} {nL : Nat} {own : String} {ad : Nat → Nat} {D : va_G} {cA : Nat → ClassId} {A : Nat → Prop} {pc : Nat} {post0 : Option qA → qS → Prop} {postT0 QT : Nat → qS → Prop} {K : qP} {post : Option qA → qS → Prop} {postT : Nat → qS → Prop} {rest : List qA} {ls : qL} {locs : List Loc} {la : Array Slot} {T : State} {st0 : List Value}
    (X : qX p s m args meth c cc nL own ad D cA A) (hex : c.exceptionTable.toList = []) (o1 : ∀ v ∈ rest, qok v) (o2 : ∀ (i : Nat) v, ls[i]? = some (some v) → qok v) (hl : qlr ad la nL ls)
    (h : qle K (qWW p l e R s m args below meth c nL ad D cA A 0 0 (MQT below (qZ ad D cA post0 postT0 A) s)) (pc + 3)) (k1 : ∀ r σ', post r σ' → K (r.toList ++ rest) ls σ') (k2 : ∀ tag σ', postT tag σ' → QT tag σ') (hQ : ∀ tag σ', QT tag σ' → postT0 tag σ')
    (hc : (∃ (r : Option qA) (σ' : qS) (T' : State) (L : List Loc), (∀ v, r = some v → qok v) ∧ qoS σ' ∧ post r σ' ∧ va_P D qcl (qw ad cA σ') T'.heap ∧ va_S A s.heap T'.heap (locs ++ L) ∧ Stand p l e R s m args below meth c T' (locs ++ L) 0 0 ∧ ∀ target, Steps p.tables e below (T'.setTop (F0 m (pc + 3) la ((r.map (qv ad)).toList ++ rest.map (qv ad)))) target → Steps p.tables e below (T.setTop (F0 m pc la st0)) target) ∨
    (∃ (x tag : Nat) (σ' : qS) (ce : Cell) (T' : State) (L : List Loc), tag < 4 ∧ qoS σ' ∧ postT tag σ' ∧ va_P D qcl (qw ad cA σ') T'.heap ∧ va_S A s.heap T'.heap (locs ++ L) ∧ Stand p l e R s m args below meth c T' (locs ++ L) (0 + 1) (0 + 6) ∧ (T'.heap[x]? = some ce ∧ ce.vm.isStatics = false ∧ s.vm.findClass (exN tag) = some ce.cls) ∧ Steps p.tables e below (T.setTop (F0 m pc la st0)) ((T'.setTop (F0 m pc la (rest.map (qv ad)))).pushFrame (.throwing x)))) :
    ∃ t, Steps p.tables e below (T.setTop (F0 m pc la st0)) t ∧ MQT below (qZ ad D cA post0 postT0 A) s t := by
  rcases hc with ⟨r, σ', T', L, hok, hoS, hp, hP1, hS', Y, st⟩ | ⟨x, tag, σ', ce, T', L, ht, hoS, hp, hP1, hS', Y, hce, st⟩
  · have hok2 : ∀ v ∈ r.toList ++ rest, qok v := by
      intro v hv
      rcases List.mem_append.mp hv with h | h
      · exact hok v (by cases r with | none => cases h | some x => rw [Option.toList_some, List.mem_singleton] at h; rw [h])
      · exact o1 v h
    have hst : (r.toList ++ rest).map (qv ad) = (r.map (qv ad)).toList ++ rest.map (qv ad) := by cases r <;> simp
    obtain ⟨t2, a1, b1⟩ := h (r.toList ++ rest) ls σ' (k1 r σ' hp) hok2 o2 hoS T'.heap (locs ++ L) la hP1 hS' hl T' rfl Y
    rw [hst] at a1
    exact ⟨t2, st t2 a1, b1⟩
  · obtain ⟨w1, w2, w3, w4, w5⟩ := Y.leaveThrown x (g := F0 m pc la (rest.map (qv ad))) rfl rfl rfl (by rw [hex]; intro y hy; cases hy) X.2.2.2.2.2.2.2.2.2
    exact ⟨_, st.trans w1, .threw x, w2, w3, Or.inr ⟨x, tag, σ', ce, rfl, ht, hoS, hQ _ _ (k2 _ _ hp), hP1, hS'.F rfl, hce, locs ++ L, ⟨w4, w5⟩, hS'.2.2⟩⟩
theorem q_ctS {p : Program} {l : Launch} {e : Env} {R : Room} {s : State} {m : MethodId} {args : Array Value} {below : List Frame} {meth : Method} {c : Code} {cc : ByteArray} {nL : Nat} {own : String} {ad : Nat → Nat} {D : va_G} {cA : Nat → ClassId} {A : Nat → Prop} {pc : Nat} {post0 : Option qA → qS → Prop} {postT0 QT : Nat → qS → Prop} {K : qP}
    (X : qX p s m args meth c cc nL own ad D cA A) (htr : ∀ e, l.admits e → e.platform.stackTraces = false) (ham : am s) (hns : ∀ q, A q → ∀ cell, s.heap[q]? = some cell → cell.vm.isStatics = false) (hex : c.exceptionTable.toList = [])
    {i n maxL : Nat} {y : MethodName} {bytes : ByteArray} {ret : Option FieldType} {rm : Room} {pre : List qA → qS → Prop} {post : List qA → qS → Option qA → qS → Prop} {postT : List qA → qS → Nat → qS → Prop}
    (hB : qCB own i y bytes maxL ret n) (hst : Cond.static y ∈ lw_g) (hR : rm.frames + 1 ≤ R.frames ∧ 8 + (maxL + 11) + rm.locals ≤ R.locals ∧ 0 + rm.cells ≤ R.cells ∧ 0 + rm.slots ≤ R.slots) (hC : qT l ad D cA y (Cond.code y bytes maxL ret :: lw_g) rm pre post postT) (hQ : ∀ tag σ', QT tag σ' → postT0 tag σ')
    (d : decode cc pc = .ok (.invokestatic i, 3)) (h : qle K (qWW p l e R s m args below meth c nL ad D cA A 0 0 (MQT below (qZ ad D cA post0 postT0 A) s)) (pc + 3)) : qle (o_ct n pre post postT QT K) (qWW p l e R s m args below meth c nL ad D cA A 0 0 (MQT below (qZ ad D cA post0 postT0 A) s)) pc := by
  rintro st ls σ ⟨av, rest, rfl, hn, hsum, hpre, k1, k2⟩ o1 o2 o3 H locs la hP hS hl
  have hts := X.2.2.2.2.1
  have okav : ∀ v ∈ av, qok v := fun v hv => o1 v (List.mem_append_left _ (List.mem_reverse.mpr hv))
  have okr : ∀ v ∈ rest, qok v := fun v hv => o1 v (List.mem_append_right _ hv)
  intro T hT Xs
  have hcode := hts _ hB.1
  obtain ⟨mk, hnamed⟩ := Cond.code_named hcode
  obtain ⟨methM, cM, hmethM, -, -, -, -, -, -, hsigM⟩ := Cond.code_spec hnamed hcode
  have hstatic : methM.isStatic = true := Cond.static_spec hnamed hmethM (hts _ hst)
  obtain ⟨kP, hkP, -⟩ := className_of_methodNamed hnamed
  have hinitP : kP.init = .initialized := Cond.initialized_spec (findClass_of_methodNamed hnamed) hkP (hts _ hB.2.2.1)
  obtain ⟨hy1, hy2, hpd⟩ := hB.2.2.2
  obtain ⟨vm₁, X₁, hstep₁⟩ := Xs.invokestatic X.1 X.2.2.2.1 (hts _ hB.2.1) hnamed hmethM hstatic hkP hinitP ⟨hy1, hy2⟩ (g := F0 m pc la ((av.reverse ++ rest).map (qv ad))) rfl (argsL := av.map (qv ad)) (rest := rest.map (qv ad)) (by rw [hsigM] at hpd; rw [List.length_map, hn]; exact (Option.some.inj hpd).symm) (by rw [List.map_append, List.map_reverse]) (by rw [X.2.1]; exact d)
  exact q_fin X hex okr o2 hl h (k1 := fun r σ' => k1 r σ') (k2 := fun t σ' => k2 t σ') hQ (q_core X htr ham hns hB hR hC okav o3 hpre hsum hP hS hl hT X₁ (X₁.named hnamed) d (fun target ht => hstep₁ _ fun acts => by rw [doInvoke_state]; exact ht))
theorem q_ctV {p : Program} {l : Launch} {e : Env} {R : Room} {s : State} {m : MethodId} {args : Array Value} {below : List Frame} {meth : Method} {c : Code} {cc : ByteArray} {nL : Nat} {own : String} {ad : Nat → Nat} {D : va_G} {cA : Nat → ClassId} {A : Nat → Prop} {pc : Nat} {post0 : Option qA → qS → Prop} {postT0 QT : Nat → qS → Prop} {K : qP}
    (X : qX p s m args meth c cc nL own ad D cA A) (htr : ∀ e, l.admits e → e.platform.stackTraces = false) (ham : am s) (hns : ∀ q, A q → ∀ cell, s.heap[q]? = some cell → cell.vm.isStatics = false) (hex : c.exceptionTable.toList = [])
    {o ci N base i n maxL : Nat} {C : String} {T0 : u_T} {y : MethodName} {bytes : ByteArray} {ret : Option FieldType} {rm : Room} {pre : List qA → qS → Prop} {post : List qA → qS → Option qA → qS → Prop} {postT : List qA → qS → Nat → qS → Prop}
    (hO : qob o ci N base C T0) (hB : qCB own i y bytes maxL ret n) (hst : Cond.instanceMethod y ∈ lw_g ∧ Cond.selects C y y ∈ lw_g) (hR : rm.frames + 1 ≤ R.frames ∧ 8 + (maxL + 11) + rm.locals ≤ R.locals ∧ 0 + rm.cells ≤ R.cells ∧ 0 + rm.slots ≤ R.slots) (hC : qT l ad D cA y (Cond.code y bytes maxL ret :: lw_g) rm pre post postT) (hpr : ∀ av σ, pre av σ → ∃ t, av = .inr (.inr o) :: t) (hQ : ∀ tag σ', QT tag σ' → postT0 tag σ')
    (d : decode cc pc = .ok (.invokevirtual i, 3)) (h : qle K (qWW p l e R s m args below meth c nL ad D cA A 0 0 (MQT below (qZ ad D cA post0 postT0 A) s)) (pc + 3)) : qle (o_ct (n + 1) pre post postT QT K) (qWW p l e R s m args below meth c nL ad D cA A 0 0 (MQT below (qZ ad D cA post0 postT0 A) s)) pc := by
  rintro st ls σ ⟨av, rest, rfl, hn, hsum, hpre, k1, k2⟩ o1 o2 o3 H locs la hP hS hl
  have hts := X.2.2.2.2.1
  have okav : ∀ v ∈ av, qok v := fun v hv => o1 v (List.mem_append_left _ (List.mem_reverse.mpr hv))
  have okr : ∀ v ∈ rest, qok v := fun v hv => o1 v (List.mem_append_right _ hv)
  obtain ⟨tl, rfl⟩ := hpr av σ hpre
  have htl : tl.length = n := by simpa using hn
  have hcell : ∃ cellB : Cell, H[ad o]? = some cellB ∧ cellB.vm.isStatics = false ∧ s.vm.findClass C = some cellB.cls := by
    obtain ⟨h1, h2, h3, h4⟩ := qob_e hO ad cA σ
    obtain ⟨q, -, hq⟩ := qw_get (ad := ad) (cA := cA) (σ := σ) h1
    rw [h2] at hq
    obtain ⟨r, g1, cell, g2, g3, g4, -⟩ := hP q _ hq
    have hr : r = (C, T0, N) := Option.some.inj (g1.symm.trans h3)
    subst hr
    obtain ⟨-, hfc, -⟩ := X.2.2.2.2.2.1.1 ci _ h3
    exact ⟨cell, g2, by rw [g4]; rfl, by rw [g3]; exact hfc⟩
  obtain ⟨cellB, hcB, hobj, hcls⟩ := hcell
  intro T hT Xs
  have hcode := hts _ hB.1
  obtain ⟨hy1, hy2, hpd⟩ := hB.2.2.2
  obtain ⟨mk, methM, hnamed, hmethM, hstM, habM⟩ := Cond.instanceMethod_spec (hts _ hst.1)
  obtain ⟨methM', cM, hmethM', -, -, -, -, -, -, hsigM⟩ := Cond.code_spec hnamed hcode
  cases hmethM.symm.trans hmethM'
  obtain ⟨c2, r2, m2, q1, q2, q3, q4, kP, hkP, hkPi⟩ := Cond.selects_spec (hts _ hst.2)
  cases hcls.symm.trans q1
  cases (State.methodFound?_of_named hnamed ⟨hy1, hy2⟩).symm.trans q2
  cases hnamed.symm.trans q3
  have hselP : selectMethod e.platform s.vm cellB.cls mk = .method mk := by rw [Launch.admits_selectMethod Xs.admits]; exact q4
  obtain ⟨vm₁, X₁, hstep₁⟩ := Xs.invokevirtual X.1 X.2.2.2.1 (hts _ hB.2.1) hnamed hmethM hstM hkP hkPi ⟨hy1, hy2⟩ (a := ad o) (cell := cellB) (by rw [hT]; exact hcB) (fun z h => by rw [h] at hobj; cases hobj) hselP hmethM habM hkP hkPi (g := F0 m pc la (((Sum.inr (Sum.inr o) :: tl).reverse ++ rest).map (qv ad))) rfl (argsL := tl.map (qv ad)) (rest := rest.map (qv ad)) (by rw [hsigM] at hpd; rw [List.length_map, htl]; exact (Option.some.inj hpd).symm) (by simp [qv]) (by rw [X.2.1]; exact d)
  exact q_fin X hex okr o2 hl h (k1 := fun r σ' => k1 r σ') (k2 := fun t σ' => k2 t σ') hQ (q_core X htr ham hns hB hR hC okav o3 hpre hsum hP hS hl hT X₁ (X₁.named hnamed) d (fun target ht => hstep₁ _ fun acts => by rw [doInvoke_state]; exact ht))
def qThr (l : Launch) (R : Room) (ad : Nat → Nat) (D : va_G) (cA : Nat → ClassId) (own : String) (cc : ByteArray) (WW : Nat → qP) (QT : Nat → qS → Prop) : Prop :=
  (own = "ShuffleMill" → ∀ (tag i pc : Nat), tag < 4 → Cond.classLink "ShuffleMill" i (exN tag) ∈ lw_g → Cond.instantiable (exN tag) 6 ∈ lw_g → Cond.initialized (exN tag) ∈ lw_g → (5 < R.frames ∧ 81 ≤ R.locals ∧ 1 ≤ R.cells ∧ 6 ≤ R.slots) → decode cc pc = .ok (.new i, 3) → decode cc (pc + 3) = .ok (.dup, 1) → decode cc (pc + 4) = .ok (.invokespecial (exI tag), 3) → decode cc (pc + 7) = .ok (.athrow, 1) → qle (o_th QT tag) WW pc) ∧
  (∀ (i n maxL pc : Nat) (y : MethodName) (bytes : ByteArray) (ret : Option FieldType) (rm : Room) (pre : List qA → qS → Prop) (post : List qA → qS → Option qA → qS → Prop) (postT : List qA → qS → Nat → qS → Prop) (K : qP), qCB own i y bytes maxL ret n → Cond.static y ∈ lw_g → (rm.frames + 1 ≤ R.frames ∧ 8 + (maxL + 11) + rm.locals ≤ R.locals ∧ 0 + rm.cells ≤ R.cells ∧ 0 + rm.slots ≤ R.slots) → qT l ad D cA y (Cond.code y bytes maxL ret :: lw_g) rm pre post postT → decode cc pc = .ok (.invokestatic i, 3) → qle K WW (pc + 3) → qle (o_ct n pre post postT QT K) WW pc) ∧
  (∀ (o ci N base i n maxL pc : Nat) (C : String) (T0 : u_T) (y : MethodName) (bytes : ByteArray) (ret : Option FieldType) (rm : Room) (pre : List qA → qS → Prop) (post : List qA → qS → Option qA → qS → Prop) (postT : List qA → qS → Nat → qS → Prop) (K : qP), qob o ci N base C T0 → qCB own i y bytes maxL ret n → (Cond.instanceMethod y ∈ lw_g ∧ Cond.selects C y y ∈ lw_g) → (rm.frames + 1 ≤ R.frames ∧ 8 + (maxL + 11) + rm.locals ≤ R.locals ∧ 0 + rm.cells ≤ R.cells ∧ 0 + rm.slots ≤ R.slots) → qT l ad D cA y (Cond.code y bytes maxL ret :: lw_g) rm pre post postT → (∀ av σ, pre av σ → ∃ t, av = .inr (.inr o) :: t) → decode cc pc = .ok (.invokevirtual i, 3) → qle K WW (pc + 3) → qle (o_ct (n + 1) pre post postT QT K) WW pc)
theorem qT_of {l : Launch} {ad : Nat → Nat} {D : va_G} {cA : Nat → ClassId} {own : String} {cc : ByteArray} {nL : Nat} {ret : Option FieldType} {y : MethodName} {rm : Room} {pre : List qA → qS → Prop} {post : List qA → qS → Option qA → qS → Prop} {postT : List qA → qS → Nat → qS → Prop}
    (hy : plainName y.cls = true) (hown : y.cls = own) (hlen : ∀ av σ, pre av σ → (qen av).length ≤ nL)
    (body : ∀ (WW : Nat → qP) (QR : Option qA → qS → Prop) (QT : Nat → qS → Prop), qSnd l rm ad D cA own cc nL WW → qRet ret cc WW QR → qThr l rm ad D cA own cc WW QT → ∀ (av : List qA) (σ : qS), (∀ v ∈ av, qok v) → qoS σ → pre av σ → (∀ r σ', post av σ r σ' → QR r σ') → (∀ t σ', postT av σ t σ' → QT t σ') → WW 0 [] (qent av nL) σ) :
    qT l ad D cA y (Cond.code y cc nL ret :: lw_g) rm pre post postT := by
  intro htr hinj av σ sz hav hσ hpre
  refine MetFree.of_bodyS (code := cc) (maxLocals := nL) (ret := ret) hy ?_ ?_
  · intro args s m h hn
    obtain ⟨meth, c, h1, h2, h3, h4, h5, h6, -, -⟩ := Cond.code_spec hn (atoms_spec (ws := Cond.code y cc nL ret :: lw_g) h _ List.mem_cons_self)
    exact ⟨meth, c, h1, h2, h3, h4, h5, h6⟩
  · intro p e s m args below meth c s₁ B hml hv _
    obtain ⟨rfl, hsz, hP, hK, ham⟩ := hv
    have hts := atoms_spec (ws := Cond.code y cc nL ret :: lw_g) B.pre
    have hown' : s.vm.findClass own = some m.cls := by rw [← hown]; exact findClass_of_methodNamed B.named
    have hex : c.exceptionTable.toList = [] := by
      have := B.noHandlers (hts _ List.mem_cons_self)
      simpa using this
    subst hsz
    have X : qX p s m ((av.map (qv ad)).toArray) meth c cc nL own ad D cA (qAr ad s.heap.size) := ⟨B.exec, B.bytes, hml, hown', fun w hw => hts w (List.mem_cons_of_mem _ hw), hK, hinj, fun r hr => Or.inl ⟨r, hr, rfl⟩, fun q hq => Or.inr hq, B.notSynchronized⟩
    have hns := qAr_ns hP
    have hl := lv_entry (av.map (qv ad)) (n := nL) (by rw [qen_len]; exact hlen av σ hpre)
    have hh0 : s₁.heap = s.heap := by rw [B.state]; rfl
    have XS := Stand.of_body B
    rw [lg_entry_eq]
    generalize (lg_sl (av.map (qv ad)) ++ List.replicate (nL - (lg_sl (av.map (qv ad))).length) Slot.unset).toArray = la at hl ⊢
    have hlr : qlr ad la nL (qent av nL) := by
      refine ⟨hl.1, ?_, hl.2.1, fun i v hv => ?_⟩
      · have := hlen av σ hpre
        unfold qent; rw [List.length_append, List.length_replicate]; omega
      · have := hl.2.2 _ (qen_at ad av 0 i v (qent_at hv))
        simpa using this
    have hS := q_snd (l := l) (e := e) (R := rm) (below := below) (cells := 0) (slots := 0) (Q := MQT below (qZ ad D cA (post av σ) (postT av σ) (qAr ad s.heap.size)) s) X ⟨Nat.zero_le _, Nat.zero_le _⟩
    have hR : qRet ret cc (qWW p l e rm s m ((av.map (qv ad)).toArray) below meth c nL ad D cA (qAr ad s.heap.size) 0 0 (MQT below (qZ ad D cA (post av σ) (postT av σ) (qAr ad s.heap.size)) s)) (post av σ) := by
      refine ⟨fun h pc d => ?_, fun h pc d => ?_, fun h pc d => ?_, fun h pc d => ?_⟩
      · exact qWW_mono (fun t => MQ_T) (q_ri X (by rw [B.returns, h]) (fun _ _ h => h) d)
      · exact qWW_mono (fun t => MQ_T) (q_rz X (by rw [B.returns, h]) (fun _ _ h => h) d)
      · exact qWW_mono (fun t => MQ_T) (q_rl X (by rw [B.returns, h]) (fun _ _ h => h) d)
      · exact qWW_mono (fun t => MQ_T) (q_rv X (by rw [B.returns, h]) (fun _ _ h => h) d)
    have hT : qThr l rm ad D cA own cc (qWW p l e rm s m ((av.map (qv ad)).toArray) below meth c nL ad D cA (qAr ad s.heap.size) 0 0 (MQT below (qZ ad D cA (post av σ) (postT av σ) (qAr ad s.heap.size)) s)) (postT av σ) := by
      refine ⟨fun ho tag i pc h1 h2 h3 h4 h5 d1 d2 d3 d4 => ?_, fun i n maxL pc y' bytes ret' rm' pre' post' postT' K hB hst hR' hC d h => q_ctS X htr ham hns hex hB hst hR' hC (fun _ _ h => h) d h, fun o ci N base i n maxL pc C T0 y' bytes ret' rm' pre' post' postT' K hO hB hst hR' hC hpr d h => q_ctV X htr ham hns hex hO hB hst hR' hC hpr (fun _ _ h => h) d h⟩
      subst ho
      exact q_th X htr ham hns hex h1 h2 h3 h4 h5 d1 d2 d3 d4 (fun _ h => h)
    obtain ⟨t, a1, o, b1, b2, b3⟩ := body _ _ _ hS hR hT av σ hav hσ hpre (fun _ _ h => h) (fun _ _ h => h) (fun v hv => by cases hv) (fun i v hv => hav v (qen_mem av i v (qent_at hv))) hσ s.heap [] la hP va_S.rf hlr s₁ hh0 XS
    exact ⟨t, o, a1, b1, b2, b3⟩

