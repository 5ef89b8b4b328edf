theorem rebase {p : Program} {l : Launch} {e : Env} {R R' : Room} {s : State} {m : MethodId} {args : Array Value} {below : List Frame} {meth : Method} {c : Code} {T : State} {locs : List Loc} {cells slots : Nat} (X : Stand p l e R s m args below meth c T locs cells slots) (h1 : R'.frames ≤ R.frames) (h2 : R'.locals ≤ R.locals) (h3 : cells + R'.cells ≤ R.cells) (h4 : slots + R'.slots ≤ R.slots) : Stand p l e R' (T.setFrames (.invoking m args :: below)) m args below meth c T [] 0 0 := by
  obtain ⟨g0, hfr⟩ := X.frames_eq
  have hcur := State.cur_lt_of_frames hfr
  have hf' : (T.setFrames (.invoking m args :: below)).frames = .invoking m args :: below := State.frames_setFrames _ hcur
  have hz := X.heapSize
  have hu := X.used
  refine ⟨X.admits, X.cas, X.clock, hf', ?_, ?_, X.method', X.code, X.here, X.tail, State.WarmedH.refl (T.setFrames (.invoking m args :: below)), by rw [State.stackLimits_setFrames], by rw [State.stackBytes_setFrames], ?_⟩
  · have r := X.room
    have hb := X.book
    simp only [State.hasRoom, Bool.and_eq_true, decide_eq_true_eq] at r ⊢
    rw [State.localsInUse_invoking X.frames X.method X.code, X.frames] at r
    rw [State.localsInUse_invoking hf' X.method' X.code, hf', State.stackLimits_setFrames, State.stackBytes_setFrames, X.limits, X.bytes]
    obtain ⟨⟨⟨⟨r1, r2, r3, r4, r5, r6⟩, r7⟩, r8⟩, r9⟩ := r
    refine ⟨⟨⟨⟨by omega, by omega, by omega, by omega, by omega, r6⟩, ?_⟩, ?_⟩, hb⟩
    · show T.heap.size + _ ≤ _; omega
    · show T.slotsUsed + _ ≤ _; omega
  · have hh := X.hears
    have hm := X.warmed.alike
    unfold State.hears at hh ⊢
    split at hh
    · simpa [State.code?_eq, hm.method?] using hh
    · rfl
    · rfl
    · rw [X.method] at hh
      show ((T.vm.method? m).any _) = true
      rw [X.method']; exact hh
  · obtain ⟨t, ht, -⟩ := State.frames_cons hf'
    obtain ⟨t2, ht2, -⟩ := State.frames_cons hfr
    have h := (State.sameButNew.refl (T.setFrames (.invoking m args :: below)) ht).setFrames T.frames (State.cur_lt_of_frames hf')
    rw [State.setFrames_setFrames, State.setFrames_self ht2] at h
    exact h
def FE (st t : State) (L : List Loc) (k n : Nat) : Prop := st.WarmedH t.vm ∧ st.sameButNew ({ t with vm := st.vm } : State) L k n
def qZ (ad : Nat → Nat) (D : va_G) (cA : Nat → ClassId) (post : Option qA → qS → Prop) (postT : Nat → qS → Prop) (A : Nat → Prop) (st : State) (o : Outcome) (t : State) : Prop :=
  (∃ (r : Option qA) (σ' : qS), o = .returned (r.map (qv ad)) ∧ (∀ v, r = some v → qok v) ∧ qoS σ' ∧ post r σ' ∧ va_P D qcl (qw ad cA σ') t.heap ∧ va_F A st t ∧ ∃ L, FE st t L 0 0 ∧ ∀ q ∈ L, A q.base) ∨
  (∃ (x tag : Nat) (σ' : qS) (ce : Cell), o = .threw x ∧ tag < 4 ∧ qoS σ' ∧ postT tag σ' ∧ va_P D qcl (qw ad cA σ') t.heap ∧ va_F A st t ∧ (t.heap[x]? = some ce ∧ ce.vm.isStatics = false ∧ st.vm.findClass (exN tag) = some ce.cls) ∧ ∃ L, FE st t L 1 6 ∧ ∀ q ∈ L, A q.base)
def qPT (ad : Nat → Nat) (D : va_G) (cA : Nat → ClassId) (av : List qA) (σ : qS) (sz : Nat) : Array Value → State → Prop := va_Pc (av.map (qv ad)) (fun U => U.heap.size = sz ∧ va_P D qcl (qw ad cA σ) U.heap ∧ va_K D qcl [(cA 0, .int), (cA 1, .long), (cA 2, .boolean)] U ∧ am U)
def qT (l : Launch) (ad : Nat → Nat) (D : va_G) (cA : Nat → ClassId) (y : MethodName) (ws : List Cond) (rm : Room) (pre : List qA → qS → Prop) (post : List qA → qS → Option qA → qS → Prop) (postT : List qA → qS → Nat → qS → Prop) : Prop :=
  (∀ e, l.admits e → e.platform.stackTraces = false) → (∀ r ∈ qtb, ∀ r' ∈ qtb, ad r = ad r' → r = r') → ∀ (av : List qA) (σ : qS) (sz : Nat), (∀ v ∈ av, qok v) → qoS σ → pre av σ → MetFree l y (headSpec ws rm) (qPT ad D cA av σ sz) (fun _ _ _ _ _ => True) (fun _ st o t => qZ ad D cA (post av σ) (postT av σ) (qAr ad sz) st o t)
def MQT (below : List Frame) (Z : State → Outcome → State → Prop) (s : State) : State → Prop := fun t => ∃ o, t.status = .running ∧ Ended t below o ∧ Z s o t
theorem vp_ns (c : ClassId) (a : vp_A) : (vp_cell c a).vm.isStatics = false := by
  unfold vp_cell
  repeat' split
  all_goals rfl
theorem va_ns {D : va_G} {q : Nat × va_E} {H : Heap} (h : va_at D qcl q H) : ∃ cell : Cell, H[q.1]? = some cell ∧ cell.vm.isStatics = false := by
  unfold va_at at h
  split at h
  · exact ⟨_, h, vp_ns _ _⟩
  · obtain ⟨r, h1, cell, h2, h3, h4, -⟩ := h
    exact ⟨cell, h2, by rw [h4]; rfl⟩
theorem qAr_ns {ad : Nat → Nat} {D : va_G} {cA : Nat → ClassId} {σ : qS} {H : Heap} (hP : va_P D qcl (qw ad cA σ) H) : ∀ q, qAr ad H.size q → ∀ cell, H[q]? = some cell → cell.vm.isStatics = false := by
  intro q hq cell hc
  rcases hq with ⟨r, hr, rfl⟩ | hq
  · obtain ⟨k, -, hk⟩ := qw_get (ad := ad) (cA := cA) (σ := σ) hr
    obtain ⟨cell', h1, h2⟩ := va_ns (hP k _ hk)
    have : cell' = cell := Option.some.inj (h1.symm.trans hc)
    rw [← this]; exact h2
  · have := (Array.getElem?_eq_some_iff.mp hc).1
    omega
theorem stk_S {A : Nat → Prop} {H0 H : Heap} {locs : List Loc} (hS : va_S A H0 H locs) (hA : ∀ q, A q → ∀ cell, H0[q]? = some cell → cell.vm.isStatics = false) : stk0 H0 H := by
  intro b cell hb hs
  have hlt := (Array.getElem?_eq_some_iff.mp hb).1
  rw [hS.2.1 b hlt (fun hAb => by rw [hA b hAb cell hb] at hs; cases hs)]; exact hb
def o_th (QT : Nat → qS → Prop) (tag : Nat) : qP := fun st _ σ => st = [] ∧ QT tag σ
theorem q_th {p : Program} {l : Launch} {e : Env} {R : Room} {s : State} {m : MethodId} {args : Array Value} {below : List Frame} {meth : Method} {c : Code} {cc : ByteArray} {nL : Nat} {ad : Nat → Nat} {D : va_G} {cA : Nat → ClassId} {A : Nat → Prop} {pc : Nat} {post : Option qA → qS → Prop} {postT QT : Nat → qS → Prop}
    (X : qX p s m args meth c cc nL "ShuffleMill" ad D cA A) (htr : ∀ e, l.admits e → e.platform.stackTraces = false) (ham : am s) (hns : ∀ q, A q → ∀ cell, s.heap[q]? = some cell → cell.vm.isStatics = false) (hex : c.exceptionTable.toList = []) {tag i : Nat} (ht : tag < 4)
    (hcl : Cond.classLink "ShuffleMill" i (exN tag) ∈ lw_g) (hins : Cond.instantiable (exN tag) 6 ∈ lw_g) (hini : Cond.initialized (exN tag) ∈ lw_g) (hR : 5 < R.frames ∧ 81 ≤ R.locals ∧ 1 ≤ R.cells ∧ 6 ≤ R.slots)
    (d1 : decode cc pc = .ok (.new i, 3)) (d2 : decode cc (pc + 3) = .ok (.dup, 1)) (d3 : decode cc (pc + 4) = .ok (.invokespecial (exI tag), 3)) (d4 : decode cc (pc + 7) = .ok (.athrow, 1)) (hQ : ∀ σ', QT tag σ' → postT tag σ') :
    qle (o_th QT tag) (qWW p l e R s m args below meth c nL ad D cA A 0 0 (MQT below (qZ ad D cA post postT A) s)) pc := by
  intro st ls σ k o1 o2 o3 H locs la hP hS hl
  obtain ⟨rfl, k⟩ := k
  intro T hT Xs
  have X' := rebase (R' := { R with cells := 1, slots := 6 }) Xs (Nat.le_refl _) (Nat.le_refl _) (by simpa using hR.2.2.1) (by simpa using hR.2.2.2)
  generalize hs' : T.setFrames (.invoking m args :: below) = s' at X'
  have hv' : s'.vm = T.vm := by rw [← hs']; rfl
  have hh' : s'.heap = H := by rw [← hs', ← hT]; rfl
  have hW' : s.WarmedH s'.vm := by rw [hv']; exact Xs.warmed
  have ham' : am s' := am_mv hW' (by rw [hh']; exact stk_S hS hns) ham
  have hts' : ∀ w ∈ lw_g, w.before args s' = true := fun w hw => word_at hW' (good_of_word (List.mem_filter.mp hw).2) (X.2.2.2.2.1 w hw)
  have hat : ∀ a ∈ Bundle.ownAtoms0 "ShuffleMill" (exI tag) (exN tag) exS, a.before args s' = true := fun a ha => (ex_atoms tag ht a ha).elim (hts' a) (fun h => ham' a h args)
  have hown' : s'.vm.findClass "ShuffleMill" = some m.cls := by rw [hW'.alike.findClass]; exact X.2.2.2.1
  have hfit : Bundle.fit (exN tag) = true := by
    match tag, ht with
    | 0, _ => decide
    | 1, _ => decide
    | 2, _ => decide
    | 3, _ => decide
  have key : W p l e { R with cells := 1, slots := 6 } s' m args below meth c H [] 0 0 (fun U => U.status = .running ∧ Ended U below (.threw H.size) ∧ s'.WarmedH U.vm ∧ s'.sameButNew ({ U with vm := s'.vm } : State) [] 1 6 ∧ ∃ ce, U.heap[H.size]? = some ce ∧ Bundle.OwnCell args s' (exN tag) H.size .null ce) (F0 m pc la []) := by
    refine W.newc X.1 X.2.1 hown' (hts' _ hcl) (hts' _ hins) (hts' _ hini) rfl d1 (Nat.le_refl _) (Nat.le_refl _) (fun cC kC f1 f2 f3 f4 => ?_)
    refine lv_dup X.1 X.2.1 d2 rfl ?_
    intro T2 hT2 X2
    obtain ⟨U, u1, u2, u3, u4, u5, ce, u6, u7⟩ := X2.ctorThrow0 X.1 (htr e X2.admits) (own := "ShuffleMill") (cls := exN tag) (names := exS) (ic := exI tag) hown' hfit (by decide) hat (fun x hx => by cases hx) (a := H.size) f1 f2 (by rw [hT2]; simp [freshCell]) (by rw [hh']; exact Nat.le_refl _) (g := F0 m (pc + 3 + 1) la [.ref H.size, .ref H.size]) rfl (by rw [X.2.2.1]; exact hl.1) rfl rfl (rest := []) rfl (by rw [X.2.1]; exact d3) (by rw [X.2.1]; exact d4) (by rw [hex]; intro x hx; cases hx) (by show exS.length + 3 < R.frames; exact hR.1) (by show _ ≤ R.locals; exact hR.2.1) X.2.2.2.2.2.2.2.2.2
    exact ⟨U, u1, u2, u3, u4, u5, ce, u6, u7⟩
  obtain ⟨U, v1, v2, v3, v4, v5, ce, v6, v7⟩ := key T hT X'
  have hold : ∀ q, q < H.size → U.heap[q]? = H[q]? := by
    intro q hq
    obtain ⟨c', g1, g2, g3, g4⟩ := v5.2.2.2.2.2 q H[q] (by rw [hh']; exact Array.getElem?_eq_getElem hq)
    have g1 : U.heap[q]? = some c' := g1
    rw [g1, Array.getElem?_eq_getElem hq]
    congr 1
    rw [g2]
    have : c'.slots = H[q].slots := Array.ext' (by
      apply List.ext_getElem?
      intro i
      have := g4 i (by simp)
      simpa using this)
    rw [this]
  have hsz : H.size ≤ U.heap.size := by have := v5.2.1; rw [hh'] at this; exact this
  have hP' : va_P D qcl (qw ad cA σ) U.heap := hP.kept (fun k q hk => by
    obtain ⟨cell, h1, -⟩ := va_ns (hP k q hk)
    exact hold q.1 (Array.getElem?_eq_some_iff.mp h1).1)
  refine ⟨U, v1, .threw H.size, v2, v3, Or.inr ⟨H.size, tag, σ, ce, rfl, ht, o3, hQ _ k, hP', ⟨Nat.le_trans hS.1 hsz, fun q h1 h2 => ?_⟩, ⟨v6, by rw [v7.vm]; rfl, by rw [← hW'.alike.findClass]; exact v7.cls⟩, locs, ⟨State.WarmedH.trans (t := s') hW' v4, ?_⟩, hS.2.2⟩⟩
  · rw [hold q (Nat.lt_of_lt_of_le h1 hS.1)]; exact hS.2.1 q h1 h2
  · have h1 := Xs.same.setFrames (.invoking m args :: below) Xs.cur
    have h2 := v5.setVm s.vm
    rw [← hs'] at h2
    have := State.sameButNew.trans (t := (T.setVm s.vm).setFrames (.invoking m args :: below)) h1 h2
    rw [List.append_nil] at this
    exact this

