def qLc (l : Launch) (ad : Nat → Nat) (D : va_G) (cA : Nat → ClassId) (y : MethodName) (ws : List Cond) (rm : Room) (pre : List qA → qS → Prop) (post : List qA → qS → Option qA → qS → Prop) : Prop :=
  (∀ e, l.admits e → e.platform.stackTraces = false) → (∀ r ∈ qtb, ∀ r' ∈ qtb, ad r = ad r' → r = r') → ∀ (av : List qA) (σ : qS) (sz : Nat), (∀ v ∈ av, qok v) → qoS σ → pre av σ → Met l y ws rm (qPT ad D cA av σ sz) (qQc ad D cA (post av σ) (qAr ad sz)) 1 6 (qAr ad sz)
def hdl (cc : ByteArray) (nL hp : Nat) (k : Int) : Prop := ∃ a d, ((decode cc hp = .ok (.astore a, 2) ∧ d = 2) ∨ (∃ j : Fin 4, (j : Nat) = a ∧ decode cc hp = .ok (.astore_n j, 1) ∧ d = 1)) ∧ a < nL ∧ decode cc (hp + d) = .ok (.iconst k, 1) ∧ decode cc (hp + d + 1) = .ok (.ireturn, 1)
def tgf (tag : Nat) : List (Nat × Int) → Option Int
  | [] => none
  | x :: t => if tag = x.1 then some x.2 else tgf tag t
def hOK (own : String) (cc : ByteArray) (nL : Nat) : List (Nat × Nat × Nat × Nat) → List (Nat × Int) → Prop
  | [], [] => True
  | h :: hh, t :: tt => (h.2.2.2 ≠ 0 ∧ t.1 < 4 ∧ r32 t.2 ∧ Cond.classLink own h.2.2.2 (exN t.1) ∈ lw_g ∧ hdl cc nL h.2.2.1 t.2) ∧ hOK own cc nL hh tt
  | _, _ => False
def qWrp (l : Launch) (R : Room) (ad : Nat → Nat) (D : va_G) (cA : Nat → ClassId) (own : String) (cc : ByteArray) (hh : List (Nat × Nat × Nat × Nat)) (tgs : List (Nat × Int)) (WW : Nat → qP) (QR : Option qA → qS → Prop) : Prop :=
  ∀ (o ci N base i n maxL pc : Nat) (C : String) (T0 : u_T) (y : MethodName) (bytes : ByteArray) (ret : Option FieldType) (rm : Room) (pre : List qA → qS → Prop) (post : List qA → qS → Option qA → qS → Prop) (postT : List qA → qS → Nat → qS → Prop) (K : qP), (∀ h ∈ hh, h.1 ≤ pc ∧ pc < h.2.1) → qob o ci N base C T0 → qCB own i y bytes maxL ret n → (Cond.instanceMethod y ∈ lw_g ∧ Cond.selects C y y ∈ lw_g) → (rm.frames + 1 ≤ R.frames ∧ 8 + (maxL + 11) + rm.locals ≤ R.locals ∧ 0 + rm.cells ≤ R.cells ∧ 0 + rm.slots ≤ R.slots) → qT l ad D cA y (Cond.code y bytes maxL ret :: lw_g) rm pre post postT → (∀ av σ, pre av σ → ∃ t, av = .inr (.inr o) :: t) → decode cc pc = .ok (.invokevirtual i, 3) → qle K WW (pc + 3) → qle (o_ct (n + 1) pre post postT (fun tag σ' => ∃ k, tgf tag tgs = some k ∧ QR (some (.inl k)) σ') K) WW pc
theorem th_es {own : String} {cc : ByteArray} {nL : Nat} {args : Array Value} {s : State} (hts : ∀ w ∈ lw_g, w.before args s = true) {pc tag : Nat} {k : Int} : ∀ (ents : List ExceptionTableEntry) (hh : List (Nat × Nat × Nat × Nat)) (tgs : List (Nat × Int)), ents.map (fun h => (h.startPc, h.endPc, h.handlerPc, h.catchType)) = hh → (∀ h ∈ hh, h.1 ≤ pc ∧ pc < h.2.1) → hOK own cc nL hh tgs → tgf tag tgs = some k →
    ∃ es : List (ExceptionTableEntry × Nat), es.map (·.1) = ents ∧ (∀ y ∈ es, covers y.1 pc = true ∧ y.1.catchType ≠ 0 ∧ y.2 < 4 ∧ (Cond.classLink own y.1.catchType (exN y.2)).before args s = true) ∧ ∃ hp, hpcOf tag es = some hp ∧ hdl cc nL hp k ∧ r32 k
  | [], hh, [], _, _, _, h => by cases h
  | [], hh, t :: tt, e, _, h, _ => by subst e; cases h
  | x :: xs, hh, [], e, _, h, _ => by subst e; cases h
  | x :: xs, hh, t :: tt, e, hcov, hok, hk => by
    subst e
    rw [List.map_cons] at hcov hok
    obtain ⟨⟨h1, h2, h3, h4, h5⟩, h6⟩ := hok
    have hc := hcov _ List.mem_cons_self
    have hx : covers x pc = true := by simp only [covers, Bool.and_eq_true, decide_eq_true_eq]; exact hc
    by_cases e1 : tag = t.1
    · rw [tgf, if_pos e1] at hk
      cases hk
      obtain ⟨es, e2, e3, -⟩ : ∃ es : List (ExceptionTableEntry × Nat), es.map (·.1) = xs ∧ (∀ y ∈ es, covers y.1 pc = true ∧ y.1.catchType ≠ 0 ∧ y.2 < 4 ∧ (Cond.classLink own y.1.catchType (exN y.2)).before args s = true) ∧ True := by
        clear hx hc h1 h2 h3 h4 h5 e1
        have hcov' : ∀ h ∈ xs.map (fun h => (h.startPc, h.endPc, h.handlerPc, h.catchType)), h.1 ≤ pc ∧ pc < h.2.1 := fun h hh => hcov h (List.mem_cons_of_mem _ hh)
        clear hcov
        induction xs generalizing tt with
        | nil => exact ⟨[], rfl, fun y hy => (by cases hy), trivial⟩
        | cons z zs ih =>
          cases tt with
          | nil => cases h6
          | cons u uu =>
            rw [List.map_cons] at hcov' h6
            obtain ⟨⟨g1, g2, g3, g4, g5⟩, g6⟩ := h6
            obtain ⟨es, e2, e3, -⟩ := ih uu g6 (fun h hh => hcov' h (List.mem_cons_of_mem _ hh))
            have hc := hcov' _ List.mem_cons_self
            refine ⟨(z, u.1) :: es, by rw [List.map_cons, e2], fun y hy => ?_, trivial⟩
            rcases List.mem_cons.mp hy with rfl | hy
            · exact ⟨by simp only [covers, Bool.and_eq_true, decide_eq_true_eq]; exact hc, g1, g2, hts _ g4⟩
            · exact e3 y hy
      refine ⟨(x, t.1) :: es, by rw [List.map_cons, e2], fun y hy => ?_, x.handlerPc, by rw [hpcOf, if_pos e1], h5, h3⟩
      rcases List.mem_cons.mp hy with rfl | hy
      · exact ⟨hx, h1, h2, hts _ h4⟩
      · exact e3 y hy
    · rw [tgf, if_neg e1] at hk
      obtain ⟨es, e2, e3, hp, e4, e5, e6⟩ := th_es hts xs _ tt rfl (fun h hh => hcov h (List.mem_cons_of_mem _ hh)) h6 hk
      refine ⟨(x, t.1) :: es, by rw [List.map_cons, e2], fun y hy => ?_, hp, by rw [hpcOf, if_neg e1]; exact e4, e5, e6⟩
      rcases List.mem_cons.mp hy with rfl | hy
      · exact ⟨hx, h1, h2, hts _ h4⟩
      · exact e3 y hy
section Q66
variable {p : Program} {l : Launch} {e : Env} {R : Room} {s : State} {m : MethodId} {args : Array Value} {below : List Frame} {meth : Method} {c : Code} {cc : ByteArray} {nL : Nat} {own : String} {ad : Nat → Nat} {D : va_G} {cA : Nat → ClassId} {A : Nat → Prop} {Q : State → Prop} {pc : Nat} {K : qP}
theorem qWW_wid {ce sl ce' sl' : Nat} (h1 : ce ≤ ce') (h2 : sl ≤ sl') (hk : qle K (qWW p l e R s m args below meth c nL ad D cA A ce' sl' Q) pc) : qle K (qWW p l e R s m args below meth c nL ad D cA A ce sl Q) pc := by
  intro st ls σ k o1 o2 o3 H locs la hP hS hl T hT Xs
  exact hk st ls σ k o1 o2 o3 H locs la hP hS hl T hT (stand_widen Xs h1 h2)
theorem q_hand (X : qX p s m args meth c cc nL own ad D cA A) {ce sl hp : Nat} {k : Int} {QR : Option qA → qS → Prop} (hh : hdl cc nL hp k) (hk : r32 k) (hret : ∀ pc, decode cc pc = .ok (.ireturn, 1) → qle (o_ri QR) (qWW p l e R s m args below meth c nL ad D cA A ce sl Q) pc) {σ : qS} (o3 : qoS σ) (hQ : QR (some (.inl k)) σ) {H : Heap} {locs : List Loc} {la : Array Slot} {ls : qL} (hP : va_P D qcl (qw ad cA σ) H) (hS : va_S A s.heap H locs) (hl : qlr ad la nL ls) {x : Nat} :
    W p l e R s m args below meth c H locs ce sl Q (F0 m hp la [.ref x]) := by
  obtain ⟨a, d, hd, ha, d1, d2⟩ := hh
  have fin : ∀ la', lv_has la' nL ((a, Value.ref x) :: (qas ad ls).filter (fun q => !(q.1 == a) && !(q.1 + 1 == a && q.2.category == 2))) → W p l e R s m args below meth c H locs ce sl Q (F0 m (hp + d) la' []) := by
    intro la' h'
    exact q_iconst X d1 hk (hret _ d2) [] [] σ hQ (fun v hv => by cases hv) (fun i v hv => by cases hv) o3 H locs la' hP hS ⟨h'.1, Nat.zero_le _, h'.2.1, fun i v hv => by cases hv⟩
  rcases hd with ⟨hd, rfl⟩ | ⟨j, hj, hd, rfl⟩
  · exact lv_astore X.1 X.2.1 hd (qlr_has hl) ha rfl fin
  · exact lv_astore_n X.1 X.2.1 hd hj (qlr_has hl) ha rfl fin
theorem q_wr (X : qX p s m args meth c cc nL own ad D cA A) (htr : ∀ e, l.admits e → e.platform.stackTraces = false) (ham : am s) (hns : ∀ q, A q → ∀ cell, s.heap[q]? = some cell → cell.vm.isStatics = false) {hh : List (Nat × Nat × Nat × Nat)} {tgs : List (Nat × Int)} (htab : c.exceptionTable.toList.map (fun h => (h.startPc, h.endPc, h.handlerPc, h.catchType)) = hh) (hok : hOK own cc nL hh tgs) (hcov : ∀ h ∈ hh, h.1 ≤ pc ∧ pc < h.2.1)
    {QR : Option qA → qS → Prop} (hret : ∀ pc, decode cc pc = .ok (.ireturn, 1) → qle (o_ri QR) (qWW p l e R s m args below meth c nL ad D cA A (0 + 1) (0 + 6) Q) pc)
    {o ci N base i n maxL : Nat} {C : String} {T0 : u_T} {y : MethodName} {bytes : ByteArray} {ret : Option FieldType} {rm : Room} {pre : List qA → qS → Prop} {post : List qA → qS → Option qA → qS → Prop} {postT : List qA → qS → Nat → qS → Prop}
    (hO : qob o ci N base C T0) (hB : qCB own i y bytes maxL ret n) (hst : Cond.instanceMethod y ∈ lw_g ∧ Cond.selects C y y ∈ lw_g) (hR : rm.frames + 1 ≤ R.frames ∧ 8 + (maxL + 11) + rm.locals ≤ R.locals ∧ 0 + rm.cells ≤ R.cells ∧ 0 + rm.slots ≤ R.slots) (hC : qT l ad D cA y (Cond.code y bytes maxL ret :: lw_g) rm pre post postT) (hpr : ∀ av σ, pre av σ → ∃ t, av = .inr (.inr o) :: t)
    (d : decode cc pc = .ok (.invokevirtual i, 3)) (h : qle K (qWW p l e R s m args below meth c nL ad D cA A 0 0 Q) (pc + 3)) : qle (o_ct (n + 1) pre post postT (fun tag σ' => ∃ k, tgf tag tgs = some k ∧ QR (some (.inl k)) σ') K) (qWW p l e R s m args below meth c nL ad D cA A 0 0 Q) pc := by
  rintro st ls σ ⟨av, rest, rfl, hn, hsum, hpre, k1, k2⟩ o1 o2 o3 H locs la hP hS hl
  have hts := X.2.2.2.2.1
  have okav : ∀ v ∈ av, qok v := fun v hv => o1 v (List.mem_append_left _ (List.mem_reverse.mpr hv))
  have okr : ∀ v ∈ rest, qok v := fun v hv => o1 v (List.mem_append_right _ hv)
  obtain ⟨tl, rfl⟩ := hpr av σ hpre
  have htl : tl.length = n := by simpa using hn
  have hcell : ∃ cellB : Cell, H[ad o]? = some cellB ∧ cellB.vm.isStatics = false ∧ s.vm.findClass C = some cellB.cls := by
    obtain ⟨h1, h2, h3, h4⟩ := qob_e hO ad cA σ
    obtain ⟨q, -, hq⟩ := qw_get (ad := ad) (cA := cA) (σ := σ) h1
    rw [h2] at hq
    obtain ⟨r, g1, cell, g2, g3, g4, -⟩ := hP q _ hq
    have hr : r = (C, T0, N) := Option.some.inj (g1.symm.trans h3)
    subst hr
    obtain ⟨-, hfc, -⟩ := X.2.2.2.2.2.1.1 ci _ h3
    exact ⟨cell, g2, by rw [g4]; rfl, by rw [g3]; exact hfc⟩
  obtain ⟨cellB, hcB, hobj, hcls⟩ := hcell
  intro T hT Xs
  have hcode := hts _ hB.1
  obtain ⟨hy1, hy2, hpd⟩ := hB.2.2.2
  obtain ⟨mk, methM, hnamed, hmethM, hstM, habM⟩ := Cond.instanceMethod_spec (hts _ hst.1)
  obtain ⟨methM', cM, hmethM', -, -, -, -, -, -, hsigM⟩ := Cond.code_spec hnamed hcode
  cases hmethM.symm.trans hmethM'
  obtain ⟨c2, r2, m2, q1, q2, q3, q4, kP, hkP, hkPi⟩ := Cond.selects_spec (hts _ hst.2)
  cases hcls.symm.trans q1
  cases (State.methodFound?_of_named hnamed ⟨hy1, hy2⟩).symm.trans q2
  cases hnamed.symm.trans q3
  have hselP : selectMethod e.platform s.vm cellB.cls mk = .method mk := by rw [Launch.admits_selectMethod Xs.admits]; exact q4
  obtain ⟨vm₁, X₁, hstep₁⟩ := Xs.invokevirtual X.1 X.2.2.2.1 (hts _ hB.2.1) hnamed hmethM hstM hkP hkPi ⟨hy1, hy2⟩ (a := ad o) (cell := cellB) (by rw [hT]; exact hcB) (fun z h => by rw [h] at hobj; cases hobj) hselP hmethM habM hkP hkPi (g := F0 m pc la (((Sum.inr (Sum.inr o) :: tl).reverse ++ rest).map (qv ad))) rfl (argsL := tl.map (qv ad)) (rest := rest.map (qv ad)) (by rw [hsigM] at hpd; rw [List.length_map, htl]; exact (Option.some.inj hpd).symm) (by simp [qv]) (by rw [X.2.1]; exact d)
  rcases q_core X htr ham hns hB hR hC okav o3 hpre hsum hP hS hl hT X₁ (X₁.named hnamed) d (fun target ht => hstep₁ _ fun acts => by rw [doInvoke_state]; exact ht) with ⟨r, σ', T', L, hok', hoS, hp, hP1, hS', Y, st⟩ | ⟨x, tag, σ', ce, T', L, ht, hoS, hp, hP1, hS', Y, hce, st⟩
  · have hok2 : ∀ v ∈ r.toList ++ rest, qok v := by
      intro v hv
      rcases List.mem_append.mp hv with h | h
      · exact hok' v (by cases r with | none => cases h | some x => rw [Option.toList_some, List.mem_singleton] at h; rw [h])
      · exact okr v h
    have hst : (r.toList ++ rest).map (qv ad) = (r.map (qv ad)).toList ++ rest.map (qv ad) := by cases r <;> simp
    obtain ⟨t2, a1, b1⟩ := h (r.toList ++ rest) ls σ' (k1 r σ' hp) hok2 o2 hoS T'.heap (locs ++ L) la hP1 hS' hl T' rfl Y
    rw [hst] at a1
    exact ⟨t2, st t2 a1, b1⟩
  · obtain ⟨k, hk, hQR⟩ := k2 tag σ' hp
    obtain ⟨es, e2, e3, hpc, e4, e5, e6⟩ := th_es (own := own) (cc := cc) (nL := nL) hts _ hh tgs htab hcov hok hk
    obtain ⟨vm2, Y2, hf⟩ := th_find (g := F0 m pc la (rest.map (qv ad))) X.2.2.2.1 ham ht hce.2.1 hce.2.2 rfl es e3 e4 T' Y hce.1
    obtain ⟨t2, a1, b1⟩ := q_hand X e5 e6 hret hoS hQR hP1 hS' hl (x := x) (T'.setVm vm2) rfl Y2
    refine ⟨t2, st.trans (tx_caught Y.here (fun Q' E d acts => ?_) a1), b1⟩
    have hm' : ((T'.setTop (F0 m pc la (rest.map (qv ad)))).pushFrame (.throwing x)).vm.method? m = some meth := Y.method'
    rw [W.findHandler_eq (f := F0 m pc la (rest.map (qv ad))) hm' Y.code]
    rw [← e2]
    exact hf Q' E d acts
end Q66
theorem qL_of {l : Launch} {ad : Nat → Nat} {D : va_G} {cA : Nat → ClassId} {own : String} {cc : ByteArray} {nL : Nat} {y : MethodName} {rm : Room} {pre : List qA → qS → Prop} {post : List qA → qS → Option qA → qS → Prop} {hh : List (Nat × Nat × Nat × Nat)} {tgs : List (Nat × Int)}
    (hy : plainName y.cls = true) (hown : y.cls = own) (hok : hOK own cc nL hh tgs) (hlen : ∀ av σ, pre av σ → (qen av).length ≤ nL)
    (body : ∀ (WW : Nat → qP) (QR : Option qA → qS → Prop), qSnd l rm ad D cA own cc nL WW → qRet (some .int) cc WW QR → qWrp l rm ad D cA own cc hh tgs WW QR → ∀ (av : List qA) (σ : qS), (∀ v ∈ av, qok v) → qoS σ → pre av σ → (∀ r σ', post av σ r σ' → QR r σ') → WW 0 [] (qent av nL) σ) :
    qLc l ad D cA y (Cond.codeWith y cc nL (some .int) hh :: lw_g) rm pre post := by
  intro htr hinj av σ sz hav hσ hpre
  refine va_MetW (cc := cc) (maxL := nL) (ret := some .int) (hh := hh) hy rfl ?_
  intro p e s m args below meth c s₁ B hml hv
  obtain ⟨rfl, hsz, hP, hK, ham⟩ := hv
  have hts := atoms_spec (ws := Cond.codeWith y cc nL (some .int) hh :: lw_g) B.pre
  have hown' : s.vm.findClass own = some m.cls := by rw [← hown]; exact findClass_of_methodNamed B.named
  have htab : c.exceptionTable.toList.map (fun h => (h.startPc, h.endPc, h.handlerPc, h.catchType)) = hh := by
    obtain ⟨m9, meth9, c9, hn9, h1, h2, -, -, h5, -⟩ := Cond.codeWith_spec (hts _ List.mem_cons_self)
    cases B.named.symm.trans hn9
    cases B.method.symm.trans h1
    have XS := Stand.of_body B
    cases XS.code.symm.trans h2
    exact h5
  subst hsz
  have X : qX p s m ((av.map (qv ad)).toArray) meth c cc nL own ad D cA (qAr ad s.heap.size) := ⟨B.exec, B.bytes, hml, hown', fun w hw => hts w (List.mem_cons_of_mem _ hw), hK, hinj, fun r hr => Or.inl ⟨r, hr, rfl⟩, fun q hq => Or.inr hq, B.notSynchronized⟩
  have hns := qAr_ns hP
  have hl := lv_entry (av.map (qv ad)) (n := nL) (by rw [qen_len]; exact hlen av σ hpre)
  rw [lg_entry_eq]
  generalize (lg_sl (av.map (qv ad)) ++ List.replicate (nL - (lg_sl (av.map (qv ad))).length) Slot.unset).toArray = la at hl ⊢
  have hlr : qlr ad la nL (qent av nL) := by
    refine ⟨hl.1, ?_, hl.2.1, fun i v hv => ?_⟩
    · have := hlen av σ hpre
      unfold qent; rw [List.length_append, List.length_replicate]; omega
    · have := hl.2.2 _ (qen_at ad av 0 i v (qent_at hv))
      simpa using this
  have hS := q_snd (l := l) (e := e) (R := rm) (below := below) (cells := 0) (slots := 0) (Q := MQ below (qQc ad D cA (post av σ) (qAr ad s.heap.size)) ((av.map (qv ad)).toArray) s 1 6 (qAr ad s.heap.size)) X ⟨Nat.zero_le _, Nat.zero_le _⟩
  have hR1 : ∀ pc, decode cc pc = .ok (.ireturn, 1) → qle (o_ri (post av σ)) (qWW p l e rm s m ((av.map (qv ad)).toArray) below meth c nL ad D cA (qAr ad s.heap.size) (0 + 1) (0 + 6) (MQ below (qQc ad D cA (post av σ) (qAr ad s.heap.size)) ((av.map (qv ad)).toArray) s 1 6 (qAr ad s.heap.size))) pc := fun pc d => q_ri X B.returns (fun _ _ h => h) d
  have hR : qRet (some .int) cc (qWW p l e rm s m ((av.map (qv ad)).toArray) below meth c nL ad D cA (qAr ad s.heap.size) 0 0 (MQ below (qQc ad D cA (post av σ) (qAr ad s.heap.size)) ((av.map (qv ad)).toArray) s 1 6 (qAr ad s.heap.size))) (post av σ) :=
    ⟨fun _ pc d => qWW_wid (by omega) (by omega) (hR1 pc d), fun h => (by cases h), fun h => (by cases h), fun h => (by cases h)⟩
  exact body _ _ hS hR (fun o ci N base i n maxL pc C T0 y' bytes ret' rm' pre' post' postT' K hcov hO hB hst hR' hC hpr d h => q_wr X htr ham hns htab hok hcov hR1 hO hB hst hR' hC hpr d h) av σ hav hσ hpre (fun _ _ h => h) (fun v hv => by cases hv) (fun i v hv => hav v (qen_mem av i v (qent_at hv))) hσ s.heap [] la hP va_S.rf hlr

