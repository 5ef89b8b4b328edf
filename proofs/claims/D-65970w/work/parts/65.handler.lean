theorem am_as {s : State} (h : am s) {t u : Nat} (ht : t < 4) (hu : u < 4) {c d : ClassId} (hc : s.vm.findClass (exN t) = some c) (hd : s.vm.findClass (exN u) = some d) : s.vm.assignable c d = decide (t = u) := by
  have yes : t = u → s.vm.assignable c d = true := by
    intro e
    subst e
    have h1 : (Cond.castable (exN t) (exN t)).before #[] s = true := h _ (by
      have : t = 0 ∨ t = 1 ∨ t = 2 ∨ t = 3 := by omega
      rcases this with rfl | rfl | rfl | rfl <;> decide) _
    obtain ⟨c', d', e1, e2, e3⟩ := Cond.castable_spec h1
    cases hc.symm.trans e1
    cases hd.symm.trans e2
    exact e3
  have no : t ≠ u → s.vm.assignable c d = false := by
    intro e
    have h1 : (Cond.not (Cond.castable (exN t) (exN u))).before #[] s = true := h _ (by
      have h1 : t = 0 ∨ t = 1 ∨ t = 2 ∨ t = 3 := by omega
      have h2 : u = 0 ∨ u = 1 ∨ u = 2 ∨ u = 3 := by omega
      rcases h1 with rfl | rfl | rfl | rfl <;> rcases h2 with rfl | rfl | rfl | rfl <;> first | (exact absurd rfl e) | decide) _
    simp [Cond.before, Cond.holds, Cond.value, hc, hd] at h1
    exact h1
  by_cases e : t = u
  · rw [yes e, decide_eq_true e]
  · rw [no e, decide_eq_false e]
def hpcOf (tag : Nat) : List (ExceptionTableEntry × Nat) → Option Nat
  | [] => none
  | x :: t => if tag = x.2 then some x.1.handlerPc else hpcOf tag t
theorem th_find {p : Program} {l : Launch} {e : Env} {R : Room} {s : State} {m : MethodId} {args : Array Value} {below : List Frame} {meth : Method} {c : Code} {locs : List Loc} {cells slots : Nat} {own : String} (hown : s.vm.findClass own = some m.cls) (ham : am s) {x tag : Nat} {ce : Cell} (htag : tag < 4) (hns : ce.vm.isStatics = false) (hcls : s.vm.findClass (exN tag) = some ce.cls) {g : JFrame} (hg : g.method = m) {hp : Nat} :
    ∀ (es : List (ExceptionTableEntry × Nat)), (∀ y ∈ es, covers y.1 g.pc = true ∧ y.1.catchType ≠ 0 ∧ y.2 < 4 ∧ (Cond.classLink own y.1.catchType (exN y.2)).before args s = true) → hpcOf tag es = some hp → ∀ (T : State), Stand p l e R s m args below meth c T locs cells slots → T.heap[x]? = some ce →
      ∃ vm', Stand p l e R s m args below meth c (T.setVm vm') locs cells slots ∧ ∀ (Q : Handler → Pre) (E : CtlPost) (d : Bool) (acts : List Action), Sem.wp (findHandler.go g x (es.map (·.1))) Q E e d acts ((T.setTop g).pushFrame (.throwing x)) ↔ Q (.found hp) d acts (((T.setTop g).pushFrame (.throwing x)).setVm vm') := by
  intro es
  induction es with
  | nil => intro _ h; cases h
  | cons y t ih =>
    intro hall hh T X hcell
    obtain ⟨h1, h2, h3, h4⟩ := hall y List.mem_cons_self
    have hpl : e.platform.magicAccessors = ({} : Platform).magicAccessors := by rw [X.admits.platform]
    obtain ⟨cC, hfc, hcl⟩ := Cond.classLink_spec hown h4 e.platform hpl
    obtain ⟨hg1, hw1, -⟩ := State.classEntry (e := e) X.warmed hcl
    have hsz : (T.vm.noted m.cls y.1.catchType (.cls cC)).classes.size ≤ T.vm.classes.size := by rw [Vm.size_noted]; exact Nat.le_refl _
    generalize T.vm.noted m.cls y.1.catchType (.cls cC) = vm1 at hg1 hw1 hsz
    have X1 := X.noted hw1
    have hcell' : ((T.setTop g).pushFrame (.throwing x)).heap[x]? = some ce := hcell
    have hk1 : ∃ k, vm1.classes[ce.cls]? = some k := Vm.classAt_of_findClass (by rw [hw1.alike.findClass]; exact hcls)
    have hk2 : ∃ k, vm1.classes[cC]? = some k := Vm.classAt_of_findClass (by rw [hw1.alike.findClass]; exact hfc)
    have has : vm1.assignable ce.cls cC = decide (tag = y.2) := by rw [hw1.alike.assignable]; exact am_as ham htag h3 hcls hfc
    have key : ∀ (Q : Handler → Pre) (E : CtlPost) (d : Bool) (acts : List Action), Sem.wp (findHandler.go g x (y.1 :: t.map (·.1))) Q E e d acts ((T.setTop g).pushFrame (.throwing x)) ↔ (if vm1.assignable ce.cls cC = true then Q (.found y.1.handlerPc) d acts (((T.setTop g).pushFrame (.throwing x)).setVm vm1) else Sem.wp (findHandler.go g x (t.map (·.1))) Q E e d acts (((T.setTop g).pushFrame (.throwing x)).setVm vm1)) := by
      intro Q E d acts
      exact tx_cold h1 h2 (by rw [hg]; exact hg1) hsz hcell' (fun k hk => by rw [hk] at hns; cases hns) hk1 hk2
    rw [List.map_cons]
    by_cases e1 : tag = y.2
    · rw [hpcOf, if_pos e1] at hh
      cases hh
      refine ⟨vm1, X1, fun Q E d acts => ?_⟩
      rw [key, has, decide_eq_true e1, if_pos rfl]
    · rw [hpcOf, if_neg e1] at hh
      obtain ⟨vm2, X2, k2⟩ := ih (fun z hz => hall z (List.mem_cons_of_mem _ hz)) hh (T.setVm vm1) X1 hcell
      refine ⟨vm2, X2, fun Q E d acts => ?_⟩
      rw [key, has, decide_eq_false e1, if_neg (by simp)]
      exact k2 Q E d acts

