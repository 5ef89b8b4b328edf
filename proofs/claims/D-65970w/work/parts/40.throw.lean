def exN : Nat → String
  | 0 => "java/lang/IllegalArgumentException"
  | 1 => "java/lang/IllegalStateException"
  | 2 => "java/lang/IndexOutOfBoundsException"
  | _ => "java/lang/UnsupportedOperationException"
def exS : List String := ["java/lang/RuntimeException", "java/lang/Exception"]
def amS : List Cond := [.laysStatic Bundle.tN "UNASSIGNED_STACK" Bundle.steD, .laysStatic Bundle.tN "SUPPRESSED_SENTINEL" Bundle.listD]
def amR : List Cond := [.isRef (.static Bundle.tN "UNASSIGNED_STACK" Bundle.steD), .isRef (.static Bundle.tN "SUPPRESSED_SENTINEL" Bundle.listD)]
def amC : List Cond := [.castable (exN 0) (exN 0), .castable (exN 1) (exN 1), .castable (exN 2) (exN 2), .castable (exN 3) (exN 3)]
def amN : List Cond := [.not (.castable (exN 0) (exN 1)), .not (.castable (exN 0) (exN 2)), .not (.castable (exN 0) (exN 3)), .not (.castable (exN 1) (exN 0)), .not (.castable (exN 1) (exN 2)), .not (.castable (exN 1) (exN 3)), .not (.castable (exN 2) (exN 0)), .not (.castable (exN 2) (exN 1)), .not (.castable (exN 2) (exN 3)), .not (.castable (exN 3) (exN 0)), .not (.castable (exN 3) (exN 1)), .not (.castable (exN 3) (exN 2))]
def amD : List Cond := [.declares ⟨"java/lang/RuntimeException", "<init>", "()V"⟩, .declares ⟨"java/lang/Exception", "<init>", "()V"⟩, .declares ⟨"java/lang/Throwable", "<init>", "()V"⟩]
def am (U : State) : Prop := ∀ w ∈ amS ++ amR ++ amC ++ amN ++ amD, ∀ args, w.before args U = true
def stk0 (H H' : Heap) : Prop := ∀ (b : Nat) (cell : Cell), H[b]? = some cell → cell.vm.isStatics = true → H'[b]? = some cell
theorem am_r {args : Array Value} {s : State} {H : Heap} (hH : stk0 s.heap H) {C n d : String} (h : (Cond.isRef (.static C n d)).before args s = true) : (Cond.isRef (.static C n d)).before args ({ s with heap := H } : State) = true := by
  simp only [Cond.before, Cond.holds, Cond.value, Term.eval] at h ⊢
  have hf : ({ s with heap := H } : State).fieldNamed? C n d true = s.fieldNamed? C n d true := rfl
  rw [hf]
  cases hq : s.fieldNamed? C n d true with
  | none => simp [hq] at h
  | some q =>
    obtain ⟨q1, k, slot⟩ := q
    simp only [hq, Option.bind_eq_bind, Option.bind_some] at h ⊢
    cases hk : k.statics with
    | none => simp [hk] at h
    | some b =>
      simp only [hk, Option.bind_some] at h ⊢
      cases hb : s.heap[b]? with
      | none => simp [hb] at h
      | some cell =>
        rw [hb] at h
        by_cases hs : cell.vm.isStatics = true
        · rw [hH b cell hb hs]; exact h
        · simp [hs] at h
theorem am_s {args : Array Value} {s : State} {H : Heap} (hH : stk0 s.heap H) {C n d : String} (h : (Cond.laysStatic C n d).before args s = true) : (Cond.laysStatic C n d).before args ({ s with heap := H } : State) = true := by
  simp only [Cond.before, Cond.holds, Cond.value] at h ⊢
  have hf : ({ s with heap := H } : State).fieldFound? C n d = s.fieldFound? C n d := rfl
  rw [hf]
  cases hc : s.vm.findClass C with
  | none => simp [hc] at h
  | some c0 =>
    cases hq : s.fieldFound? C n d with
    | none => simp [hc, hq] at h
    | some q =>
      obtain ⟨c', k, i, f⟩ := q
      simp only [hc, hq] at h ⊢
      cases hk : k.statics with
      | none => simp [hk] at h
      | some b =>
        simp only [hk, Option.bind_some] at h ⊢
        cases hb : s.heap[b]? with
        | none => simp [hb] at h
        | some cell =>
          rw [hb] at h
          by_cases hs : cell.vm.isStatics = true
          · rw [hH b cell hb hs]; exact h
          · simp [hs] at h
theorem am_heap {s : State} {H : Heap} (hH : stk0 s.heap H) (h : am s) : am ({ s with heap := H } : State) := by
  intro w hw args
  have hb := h w hw args
  simp only [List.mem_append] at hw
  rcases hw with (((hw | hw) | hw) | hw) | hw
  · simp only [amS, List.mem_cons, List.not_mem_nil, or_false] at hw
    rcases hw with rfl | rfl <;> exact am_s hH hb
  · simp only [amR, List.mem_cons, List.not_mem_nil, or_false] at hw
    rcases hw with rfl | rfl <;> exact am_r hH hb
  · simp only [amC, List.mem_cons, List.not_mem_nil, or_false] at hw
    rcases hw with rfl | rfl | rfl | rfl <;> exact hb
  · simp only [amN, List.mem_cons, List.not_mem_nil, or_false] at hw
    rcases hw with rfl | rfl | rfl | rfl | rfl | rfl | rfl | rfl | rfl | rfl | rfl | rfl <;> exact hb
  · simp only [amD, List.mem_cons, List.not_mem_nil, or_false] at hw
    rcases hw with rfl | rfl | rfl <;> exact hb
theorem am_vm {s : State} {vm' : Vm} (hW : s.WarmedH vm') (h : am s) : am (s.setVm vm') := by
  intro w hw args
  refine Cond.before_shiftedCast (State.Shifted.of_warmed hW) w ?_ (h w hw args)
  simp only [List.mem_append] at hw
  rcases hw with (((hw | hw) | hw) | hw) | hw
  · simp only [amS, List.mem_cons, List.not_mem_nil, or_false] at hw
    rcases hw with rfl | rfl <;> rfl
  · simp only [amR, List.mem_cons, List.not_mem_nil, or_false] at hw
    rcases hw with rfl | rfl <;> rfl
  · simp only [amC, List.mem_cons, List.not_mem_nil, or_false] at hw
    rcases hw with rfl | rfl | rfl | rfl <;> rfl
  · simp only [amN, List.mem_cons, List.not_mem_nil, or_false] at hw
    rcases hw with rfl | rfl | rfl | rfl | rfl | rfl | rfl | rfl | rfl | rfl | rfl | rfl <;> rfl
  · simp only [amD, List.mem_cons, List.not_mem_nil, or_false] at hw
    rcases hw with rfl | rfl | rfl <;> rfl
theorem am_eq {s U : State} (h1 : U.heap = s.heap) (h2 : U.vm = s.vm) (h : am s) : am U := by
  intro w hw args
  have hb := h w hw args
  obtain ⟨h_, v_, t_, c_, w_, d_, n_, su_, st_⟩ := s
  obtain ⟨h'_, v'_, t'_, c'_, w'_, d'_, n'_, su'_, st'_⟩ := U
  simp only at h1 h2
  subst h1; subst h2
  simp only [List.mem_append] at hw
  rcases hw with (((hw | hw) | hw) | hw) | hw
  · simp only [amS, List.mem_cons, List.not_mem_nil, or_false] at hw
    rcases hw with rfl | rfl <;> exact hb
  · simp only [amR, List.mem_cons, List.not_mem_nil, or_false] at hw
    rcases hw with rfl | rfl <;> exact hb
  · simp only [amC, List.mem_cons, List.not_mem_nil, or_false] at hw
    rcases hw with rfl | rfl | rfl | rfl <;> exact hb
  · simp only [amN, List.mem_cons, List.not_mem_nil, or_false] at hw
    rcases hw with rfl | rfl | rfl | rfl | rfl | rfl | rfl | rfl | rfl | rfl | rfl | rfl <;> exact hb
  · simp only [amD, List.mem_cons, List.not_mem_nil, or_false] at hw
    rcases hw with rfl | rfl | rfl <;> exact hb
theorem am_mv {s U : State} (hW : s.WarmedH U.vm) (hH : stk0 s.heap U.heap) (h : am s) : am U := am_eq (s := ({ s with heap := U.heap } : State).setVm U.vm) rfl rfl (am_vm (s := ({ s with heap := U.heap } : State)) hW (am_heap hH h))
theorem tx_cold {E : CtlPost} {e : Env} {d : Bool} {acts : List Action} {s : State} {f : JFrame} {a : Addr} {Q : Handler → Pre} {x : ExceptionTableEntry} {t : List ExceptionTableEntry} {c : ClassId} {cell : Cell} {vm' : Vm} (hx : covers x f.pc = true) (h0 : x.catchType ≠ 0)
    (hg : (Jvm.resolveClass f.method.cls x.catchType).Gives e.toSetting s.vm (.ok c) vm') (hsz : vm'.classes.size ≤ s.vm.classes.size) (hcell : s.heap[a]? = some cell) (hobj : ∀ k, cell.vm ≠ .statics k)
    (hk : ∃ k, vm'.classes[cell.cls]? = some k) (hc : ∃ k, vm'.classes[c]? = some k) :
    Sem.wp (findHandler.go f a (x :: t)) Q E e d acts s ↔
      if vm'.assignable cell.cls c = true then Q (.found x.handlerPc) d acts (s.setVm vm') else Sem.wp (findHandler.go f a t) Q E e d acts (s.setVm vm') := by
  simp only [covers] at hx
  obtain ⟨ha, ht⟩ := hg.op (op := VmOp.resolveClass f.method.cls x.catchType) rfl
  cases hfit : vm'.assignable cell.cls c <;>
    simp [findHandler.go, hx, h0, ha, ht, hsz, hcell, hobj, hk, hc, hfit, VmOp.dirties, VmOp.acts]
theorem tx_step {e : Env} {s : State} {a : Addr} {f : JFrame} {r : List Frame} {pc : Nat} {vm' : Vm} (hfind : ∀ (Q : Handler → Pre) (E : CtlPost) (d : Bool) (acts : List Action), Sem.wp (findHandler f a) Q E e d acts s ↔ Q (.found pc) d acts (s.setVm vm')) :
    (stepThrowing e s a (.java f :: r)).Is ((s.setVm vm').setFrames (.java { f with pc := pc, stack := [.ref a] } :: r)) [] := by
  simp only [stepThrowing, searchFrame, vmDo]
  generalize hr : Sem.go _ e false [] s = res
  obtain ⟨as, rfl, ha⟩ := Sem.eq_ok_of hr (a := Handler.found pc) (s' := s.setVm vm') (acts' := []) (by simp [hfind _ _ _ _])
  exact ⟨rfl, ha⟩
theorem tx_caught {tb : Tables} {e : Env} {s target : State} {g : JFrame} {c : Code} {below : List Frame} {a : Addr} (h : At s g.method c below) {pc : Nat} {vm' : Vm}
    (hfind : ∀ (Q : Handler → Pre) (E : CtlPost) (d : Bool) (acts : List Action), Sem.wp (findHandler g a) Q E e d acts ((s.setTop g).pushFrame (.throwing a)) ↔ Q (.found pc) d acts (((s.setTop g).pushFrame (.throwing a)).setVm vm'))
    (hrest : Steps tb e below ((s.setVm vm').setTop { g with pc := pc, stack := [.ref a] }) target) : Steps tb e below ((s.setTop g).pushFrame (.throwing a)) target := by
  obtain ⟨hgo, hw⟩ := h.throwing a
  refine Steps.head hgo hw ?_
  rw [stepThread_throwing (frames_entered h.top _), (tx_step (s := (s.setTop g).pushFrame (.throwing a)) hfind).1]
  obtain ⟨g₀, hg⟩ := Option.isSome_iff_exists.mp h.top
  obtain ⟨r, hr⟩ := State.topJava?_eq_some.mp hg
  have hr' : (s.setVm vm').frames = .java g₀ :: r := hr
  rw [State.setTop_of_frames _ hr'] at hrest
  have e1 : ∀ (X : State) (fs : List Frame) (v : Vm), (X.setFrames fs).setVm v = (X.setVm v).setFrames fs := fun _ _ _ => rfl
  rw [State.pushFrame, State.setTop_of_frames _ hr, hr, State.setFrames_setFrames, e1, State.setFrames_setFrames]
  exact hrest
def exI : Nat → Nat
  | 0 => 200
  | 1 => 203
  | 2 => 206
  | _ => 466
theorem ex_atoms0 : ∀ a ∈ Bundle.ownAtoms0 "ShuffleMill" (exI 0) (exN 0) exS, a ∈ lw_g ∨ a ∈ amS ++ amR ++ amC ++ amN ++ amD := by decide +kernel
theorem ex_atoms1 : ∀ a ∈ Bundle.ownAtoms0 "ShuffleMill" (exI 1) (exN 1) exS, a ∈ lw_g ∨ a ∈ amS ++ amR ++ amC ++ amN ++ amD := by decide +kernel
theorem ex_atoms2 : ∀ a ∈ Bundle.ownAtoms0 "ShuffleMill" (exI 2) (exN 2) exS, a ∈ lw_g ∨ a ∈ amS ++ amR ++ amC ++ amN ++ amD := by decide +kernel
theorem ex_atoms3 : ∀ a ∈ Bundle.ownAtoms0 "ShuffleMill" (exI 3) (exN 3) exS, a ∈ lw_g ∨ a ∈ amS ++ amR ++ amC ++ amN ++ amD := by decide +kernel
theorem ex_atoms (t : Nat) (ht : t < 4) : ∀ a ∈ Bundle.ownAtoms0 "ShuffleMill" (exI t) (exN t) exS, a ∈ lw_g ∨ a ∈ amS ++ amR ++ amC ++ amN ++ amD := by
  match t, ht with
  | 0, _ => exact ex_atoms0
  | 1, _ => exact ex_atoms1
  | 2, _ => exact ex_atoms2
  | 3, _ => exact ex_atoms3

