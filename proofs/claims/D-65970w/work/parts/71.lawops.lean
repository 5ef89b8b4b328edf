def o_slen (L : Nat) (K : qP) : qP := fun st ls σ => match st with
  | .inr (.inr r) :: st => r = 150 ∧ K (.inl (L : Int) :: st) ls σ
  | _ => False
def o_sld (xs : Nat → Int32) (L : Nat) (K : qP) : qP := fun st ls σ => match st with
  | .inl i :: .inr (.inr r) :: st => r = 150 ∧ (0 ≤ i ∧ i < L) ∧ K (.inl (xs i.toNat).toInt :: st) ls σ
  | _ => False
def qScr (xs : Nat → Int32) (L : Nat) (cc : ByteArray) (WW : Nat → qP) : Prop := (∀ (pc : Nat) (K : qP), decode cc pc = .ok (.arraylength, 1) → qle K WW (pc + 1) → qle (o_slen L K) WW pc) ∧ (∀ (pc : Nat) (K : qP), decode cc pc = .ok (.iaload, 1) → qle K WW (pc + 1) → qle (o_sld xs L K) WW pc)
def qLcl (l : Launch) (R : Room) (ad : Nat → Nat) (D : va_G) (cA : Nat → ClassId) (own : String) (cc : ByteArray) (WW WW2 : Nat → qP) : Prop :=
  ∀ (i n maxL pc : Nat) (y : MethodName) (bytes : ByteArray) (ret : Option FieldType) (hh : List (Nat × Nat × Nat × Nat)) (rm : Room) (pre : List qA → qS → Prop) (post : List qA → qS → Option qA → qS → Prop), (Cond.codeWith y bytes maxL ret hh ∈ lw_g ∧ Cond.methodLink own i y ∈ lw_g ∧ Cond.initialized y.cls ∈ lw_g ∧ Cond.static y ∈ lw_g ∧ (y.cls ≠ "java/lang/invoke/MethodHandle" ∧ y.cls ≠ "java/lang/invoke/VarHandle" ∧ (parseMethodDescriptor y.desc).map (fun d => d.parameters.length) = some n)) → (rm.cells = 1 ∧ rm.slots = 6) → (rm.frames + 1 ≤ R.frames ∧ 8 + (maxL + 11) + rm.locals ≤ R.locals) → qLc l ad D cA y (Cond.codeWith y bytes maxL ret hh :: lw_g) rm pre post → decode cc pc = .ok (.invokestatic i, 3) → qle (o_cl n pre post (WW2 (pc + 3))) WW pc
theorem qPT_blind {ad : Nat → Nat} {D : va_G} {cA : Nat → ClassId} {av : List qA} {σ : qS} {sz : Nat} : FrameBlind (qPT ad D cA av σ sz) := fun a U g mk q => by
  obtain ⟨q0, q1, qP, qK, qa⟩ := q
  exact ⟨q0, q1, qP, va_K.moved (u := U) (U := U.calling g mk a) (Vm.Alike.refl U.vm) qK, am_eq (s := U) rfl rfl qa⟩
section Q71
variable {p : Program} {l : Launch} {e : Env} {R : Room} {s : State} {m : MethodId} {args : Array Value} {below : List Frame} {meth : Method} {c : Code} {cc : ByteArray} {nL : Nat} {own : String} {ad : Nat → Nat} {D : va_G} {cA : Nat → ClassId} {A : Nat → Prop} {Q : State → Prop} {pc cells slots : Nat} {K : qP}
theorem q_slen (X : qX p s m args meth c cc nL own ad D cA A) {b L : Nat} {xs : Nat → Int32} (hX : va_X b L xs s s.heap) (hbl : b < s.heap.size) (hbA : ¬ A b) (had : ad 150 = b) (hL : L < 2147483648) (d : decode cc pc = .ok (.arraylength, 1)) (h : qle K (qWW p l e R s m args below meth c nL ad D cA A cells slots Q) (pc + 1)) : qle (o_slen L K) (qWW p l e R s m args below meth c nL ad D cA A cells slots Q) pc := by
  intro st ls σ k o1 o2 o3 H locs la hP hS hl
  unfold o_slen at k
  split at k
  next r st =>
    obtain ⟨rfl, k⟩ := k
    subst had
    refine va_slen X.1 X.2.1 hX hbl hbA hS d ?_
    exact h _ ls σ k (List.forall_mem_cons.mpr ⟨by show r32 _; unfold r32; omega, (List.forall_mem_cons.mp o1).2⟩) o2 o3 H locs la hP hS hl
  next => exact k.elim
theorem q_sld (X : qX p s m args meth c cc nL own ad D cA A) {b L : Nat} {xs : Nat → Int32} (hX : va_X b L xs s s.heap) (hbl : b < s.heap.size) (hbA : ¬ A b) (had : ad 150 = b) (d : decode cc pc = .ok (.iaload, 1)) (h : qle K (qWW p l e R s m args below meth c nL ad D cA A cells slots Q) (pc + 1)) : qle (o_sld xs L K) (qWW p l e R s m args below meth c nL ad D cA A cells slots Q) pc := by
  intro st ls σ k o1 o2 o3 H locs la hP hS hl
  unfold o_sld at k
  split at k
  next i r st =>
    obtain ⟨rfl, ⟨h0, h1⟩, k⟩ := k
    subst had
    have q0 : r32 i := (List.forall_mem_cons.mp o1).1
    refine va_sld X.1 X.2.1 hX hbl hbA hS (i32_in q0 h0 h1) d ?_
    have := h _ ls σ k (List.forall_mem_cons.mpr ⟨i32_r _, (List.forall_mem_cons.mp (List.forall_mem_cons.mp o1).2).2⟩) o2 o3 H locs la hP hS hl
    rw [i32_clamp q0]
    simpa [qv] using this
  next => exact k.elim
theorem q_lc (X : qX p s m args meth c cc nL own ad D cA A) (htr : ∀ e, l.admits e → e.platform.stackTraces = false) (ham : am s) (hns : ∀ q, A q → ∀ cell, s.heap[q]? = some cell → cell.vm.isStatics = false) (hcs : cells + 1 ≤ R.cells ∧ slots + 6 ≤ R.slots)
    {i n maxL : Nat} {y : MethodName} {bytes : ByteArray} {ret : Option FieldType} {hh : List (Nat × Nat × Nat × Nat)} {rm : Room} {pre : List qA → qS → Prop} {post : List qA → qS → Option qA → qS → Prop}
    (hB : Cond.codeWith y bytes maxL ret hh ∈ lw_g ∧ Cond.methodLink own i y ∈ lw_g ∧ Cond.initialized y.cls ∈ lw_g ∧ Cond.static y ∈ lw_g ∧ (y.cls ≠ "java/lang/invoke/MethodHandle" ∧ y.cls ≠ "java/lang/invoke/VarHandle" ∧ (parseMethodDescriptor y.desc).map (fun d => d.parameters.length) = some n)) (hrm : rm.cells = 1 ∧ rm.slots = 6) (hR : rm.frames + 1 ≤ R.frames ∧ 8 + (maxL + 11) + rm.locals ≤ R.locals) (hC : qLc l ad D cA y (Cond.codeWith y bytes maxL ret hh :: lw_g) rm pre post) (d : decode cc pc = .ok (.invokestatic i, 3)) :
    qle (o_cl n pre post (qWW p l e R s m args below meth c nL ad D cA A (cells + 1) (slots + 6) Q (pc + 3))) (qWW p l e R s m args below meth c nL ad D cA A cells slots Q) pc := by
  rintro st ls σ ⟨av, rest, rfl, hn, hsum, hpre, k⟩ o1 o2 o3 H locs la hP hS hl
  have hts := X.2.2.2.2.1
  have okav : ∀ v ∈ av, qok v := fun v hv => o1 v (List.mem_append_left _ (List.mem_reverse.mpr hv))
  have okr : ∀ v ∈ rest, qok v := fun v hv => o1 v (List.mem_append_right _ hv)
  have hM := hC htr X.2.2.2.2.2.2.1 av σ H.size okav o3 hpre
  have hU : ∀ w ∈ lw_g, ∀ (a' : Array Value) (U : State), s.WarmedH U.vm → w.before a' U = true := fun w hw a' U hW => word_at hW (good_of_word (List.mem_filter.mp hw).2) (hts w hw)
  have hK : Back l R p e below s args y 3 8 (PreOf R 1 6 (qPT ad D cA av σ H.size)) (PostOf (qQc ad D cA (post av σ) (qAr ad H.size)) 1 6 (qAr ad H.size)) :=
    va_backW (hh := hh) (bytes := bytes) (maxL := maxL) (ret := ret) hM qPT_blind hrm.1 hrm.2 hR.1 hR.2 (fun w hw a' U hW => by rcases List.mem_cons.mp hw with rfl | h; exact hU _ hB.1 a' U hW; exact hU w h a' U hW) List.mem_cons_self (fun a' U hW => hU _ hB.2.2.1 a' U hW)
  intro T hT Xs
  obtain ⟨mk, methM, cM, hnamed, hmethM, -, -, -, -, -, -, hsigM⟩ := Cond.codeWith_spec (hts _ hB.1)
  have hstatic : methM.isStatic = true := Cond.static_spec hnamed hmethM (hts _ hB.2.2.2.1)
  obtain ⟨kP, hkP, -⟩ := className_of_methodNamed hnamed
  have hinitP : kP.init = .initialized := Cond.initialized_spec (findClass_of_methodNamed hnamed) hkP (hts _ hB.2.2.1)
  obtain ⟨hy1, hy2, hpd⟩ := hB.2.2.2.2
  obtain ⟨vm₁, X₁, hstep₁⟩ := Xs.invokestatic X.1 X.2.2.2.1 (hts _ hB.2.1) hnamed hmethM hstatic hkP hinitP ⟨hy1, hy2⟩ (g := F0 m pc la ((av.reverse ++ rest).map (qv ad))) rfl (argsL := av.map (qv ad)) (rest := rest.map (qv ad)) (by rw [hsigM] at hpd; rw [List.length_map, hn]; exact (Option.some.inj hpd).symm) (by rw [List.map_append, List.map_reverse]) (by rw [X.2.1]; exact d)
  have ham' : am (T.setVm vm₁) := am_mv X₁.warmed (by show stk0 s.heap T.heap; rw [hT]; exact stk_S hS hns) ham
  obtain ⟨v, ⟨U', l2, c2, s2⟩, X', ⟨g', mk', t, L, e1, e2, hq, h1, hL, h2, h3⟩, st⟩ := hK m meth c ⟨T.setVm vm₁, locs, cells, slots⟩ (F0 m pc la (rest.map (qv ad))) (.invokestatic i) mk (av.map (qv ad)).toArray X₁ rfl (by rw [X.2.2.1]; exact hl.1) (by rw [X.2.1]; exact d) (by show 2 * 0 + _ ≤ 8; rw [qcat_sum]; omega) (X₁.named hnamed) ⟨hcs.1, hcs.2, rfl, by show T.heap.size = H.size; rw [hT], by show va_P D qcl (qw ad cA σ) T.heap; rw [hT]; exact hP, va_K.moved (u := s) X₁.warmed.alike X.2.2.2.2.2.1, ham'⟩
  dsimp only [Pt.U, Pt.locs, Pt.cells, Pt.slots] at X' e1 e2 h1 h2 h3 st hq
  subst h1; subst h2; subst h3
  obtain ⟨⟨r, σ', hv, hok, hoS, hp, hP1⟩, hz, hk⟩ := hq
  have hv' : v = r.map (qv ad) := Outcome.returned.inj hv
  subst hv'
  have hz : T.heap.size ≤ t.heap.size := hz
  have hk : ∀ q : Nat, q < T.heap.size → ¬ qAr ad H.size q → t.heap[q]? = T.heap[q]? := hk
  rw [hT] at hz hk
  have hA1 := qA_sub X hS
  have hS' : va_S A s.heap U'.heap (locs ++ L) := ⟨Nat.le_trans hS.1 (by rw [e1]; exact hz), fun q h1 h2 => by
      rw [e1, hk q (Nat.lt_of_lt_of_le h1 hS.1) (fun z => h2 (hA1 q z))]; exact hS.2.1 q h1 h2, fun q hq => by
      rcases List.mem_append.mp hq with h | h
      · exact hS.2.2 q h
      · exact hA1 _ (hL q h)⟩
  have hok2 : ∀ v ∈ r.toList ++ rest, qok v := by
    intro v hv
    rcases List.mem_append.mp hv with h | h
    · exact hok v (by cases r with | none => cases h | some x => rw [Option.toList_some, List.mem_singleton] at h; rw [h])
    · exact okr v h
  have hst : (r.toList ++ rest).map (qv ad) = (r.map (qv ad)).toList ++ rest.map (qv ad) := by cases r <;> simp
  obtain ⟨t2, a1, b1⟩ := k r σ' hp hok2 o2 hoS U'.heap (locs ++ L) la (by rw [e1]; exact hP1) hS' hl U' rfl X'
  rw [hst] at a1
  exact ⟨t2, hstep₁ _ (fun acts => by rw [doInvoke_state]; exact st.trans a1), b1⟩
end Q71

