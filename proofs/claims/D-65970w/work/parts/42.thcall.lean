theorem q_inv {p : Program} {l : Launch} {e : Env} {R : Room} {s : State} {m : MethodId} {sargs : Array Value} {below : List Frame} {meth : Method} {c : Code} {U : State} {Ls : List Loc} {c0 s0 : Nat} {y : MethodName} {ws : List Cond} {rm : Room} {Pc : Array Value → State → Prop} {Qf : Array Value → State → Outcome → State → Prop} {bytes : ByteArray} {maxL len : Nat} {ret : Option FieldType} {g : JFrame} {ig : Instr} {mk : MethodId} {a : Array Value}
    (hM : MetFree l y (headSpec ws rm) Pc (fun _ _ _ _ _ => True) Qf) (X : Stand p l e R s m sargs below meth c U Ls c0 s0) (hg : g.method = m) (hsize : g.locals.size = c.maxLocals) (hdg : decode c.code g.pc = .ok (ig, len))
    (hl : 2 * g.monitorRoom + (g.stack.map fun v => v.category).sum + (maxL + 11) + rm.locals ≤ R.locals) (hf : rm.frames + 1 ≤ R.frames) (hc : c0 + rm.cells ≤ R.cells) (hs : s0 + rm.slots ≤ R.slots) (hn : U.methodNamed? y = some mk)
    (hpre : (allAtoms ws).before a U = true) (hcode : (Cond.code y bytes maxL ret).before a U = true) (hini : (Cond.initialized y.cls).before a U = true) (hP : Pc a (U.calling g mk a)) :
    ∃ o s₂, Qf a (U.calling g mk a) o s₂ ∧ ∀ L k n, FE (U.calling g mk a) s₂ L k n → Stand p l e R s m sargs below meth c (({ U with heap := s₂.heap, slotsUsed := s₂.slotsUsed } : State).setVm s₂.vm) (Ls ++ L) (c0 + k) (s0 + n) ∧
      (∀ v, o = .returned v → Steps p.tables e below (doInvoke e (U.setTop g) [] mk a).1 ((({ U with heap := s₂.heap, slotsUsed := s₂.slotsUsed } : State).setVm s₂.vm).setTop { g with pc := g.pc + len, stack := v.toList ++ g.stack })) ∧
      (∀ x, o = .threw x → Steps p.tables e below (doInvoke e (U.setTop g) [] mk a).1 (((({ U with heap := s₂.heap, slotsUsed := s₂.slotsUsed } : State).setVm s₂.vm).setTop g).pushFrame (.throwing x))) := by
  obtain ⟨methY, cY, hmY, hcY, -, hlY, -⟩ := Cond.code_spec hn hcode
  obtain ⟨kY, hkY, -⟩ := className_of_methodNamed hn
  have hinitY : kY.init = .initialized := Cond.initialized_spec (findClass_of_methodNamed hn) hkY hini
  have h : At U g.method c below := by rw [hg]; exact X.here
  have happ : (headSpec ws rm).appliesLoose y e.platform (U.calling g mk a) = true :=
    Spec.appliesLoose_calling (g := g) h hdg hn hkY hinitY (X.room_calling (g := g) (R' := rm) hsize hmY hcY hf (by rw [hlY]; exact hl) hc hs) hpre
  obtain ⟨mid, hmid⟩ := h.above
  have hfr : (U.setTop g).frames = (.java g :: mid) ++ below := by rw [State.frames_setTop' g h.top, hmid]; rfl
  obtain ⟨o, s₂, hsteps, -, hend, hq⟩ := Steps.callFree hM p X.admits X.cas X.clock (acts := []) hfr happ hP trivial
  rw [State.frames_setTop' g h.top] at hend
  refine ⟨o, s₂, hq, fun L k n hFE => ?_⟩
  obtain ⟨hW₂, e2, q2, q3, q4, q5, q6⟩ := hFE
  have e3 : s₂ = ({ (U.calling g mk a).setFrames s₂.frames with heap := s₂.heap, slotsUsed := s₂.slotsUsed } : State).setVm s₂.vm := by
    have : s₂ = ({ s₂ with vm := (U.calling g mk a).vm } : State).setVm s₂.vm := rfl
    rw [e2] at this
    exact this
  have hW' : U.WarmedH s₂.vm := hW₂
  obtain ⟨g₀, hg0⟩ := Option.isSome_iff_exists.mp h.top
  obtain ⟨r, hr⟩ := State.topJava?_eq_some.mp hg0
  have hr' : (({ U with heap := s₂.heap, slotsUsed := s₂.slotsUsed } : State).setVm s₂.vm).frames = .java g₀ :: r := hr
  have hsame : U.sameButNew ({ U with heap := s₂.heap, slotsUsed := s₂.slotsUsed } : State) L k n := by
    refine ⟨?_, q2, q3, q4, q5, q6⟩
    obtain ⟨t, ht, -⟩ := State.frames_cons hr
    show ({ U with heap := s₂.heap, slotsUsed := s₂.slotsUsed } : State) = { U.setFrames U.frames with heap := s₂.heap, slotsUsed := s₂.slotsUsed }
    rw [State.setFrames_self ht]
  subst hg
  refine ⟨⟨X.admits, X.cas, X.clock, X.frames, X.room, X.hears, X.method, X.code, (X.here.setHeapUsed s₂.heap s₂.slotsUsed).setVm hW'.alike, X.tail, State.WarmedH.trans X.warmed hW', X.limits, X.bytes, X.same.trans (hsame.setVm s.vm)⟩, ?_, ?_⟩
  · intro v ho
    subst ho
    obtain ⟨c₂, i₂, len₂, hc₂, hd₂, hf₂⟩ := hend
    have hcc : c₂ = c := by
      have h1 : s₂.code? g.method = U.code? g.method := by rw [State.code?_eq, State.code?_eq, hW'.alike.method?]
      exact Option.some.inj (hc₂.symm.trans (h1.trans h.code))
    subst hcc
    have hlen : len₂ = len := by rw [hdg] at hd₂; cases hd₂; rfl
    subst hlen
    have hs₂ : s₂ = (({ U with heap := s₂.heap, slotsUsed := s₂.slotsUsed } : State).setVm s₂.vm).setTop { g with pc := g.pc + len₂, stack := v.toList ++ g.stack } := by
      refine e3.trans ?_
      rw [hf₂, State.calling_eq h.top, State.setFrames_setFrames, State.setTop_of_frames _ hr', hr]
      rfl
    rw [← hs₂]; exact hsteps
  · intro x ho
    subst ho
    have hf₂ : s₂.frames = .throwing x :: .java g :: U.frames.tail := hend
    have hs₂ : s₂ = ((({ U with heap := s₂.heap, slotsUsed := s₂.slotsUsed } : State).setVm s₂.vm).setTop g).pushFrame (.throwing x) := by
      refine e3.trans ?_
      rw [hf₂, State.calling_eq h.top, State.setFrames_setFrames, State.pushFrame, State.frames_setTop _ hr', State.setTop_of_frames _ hr', State.setFrames_setFrames, hr]
      rfl
    rw [← hs₂]; exact hsteps
theorem MQ_T {below : List Frame} {ad : Nat → Nat} {D : va_G} {cA : Nat → ClassId} {post : Option qA → qS → Prop} {postT : Nat → qS → Prop} {A : Nat → Prop} {args : Array Value} {s t : State} (h : MQ below (qQc ad D cA post A) args s 0 0 A t) : MQT below (qZ ad D cA post postT A) s t := by
  obtain ⟨o, h1, h2, ⟨⟨r, σ', h3, h4, h5, h6, h7⟩, h8⟩, L, ⟨-, h9, h10⟩, h11⟩ := h
  exact ⟨o, h1, h2, Or.inl ⟨r, σ', h3, h4, h5, h6, h7, h8, L, ⟨h9, h10⟩, h11⟩⟩
theorem qWW_mono {p : Program} {l : Launch} {e : Env} {R : Room} {s : State} {m : MethodId} {args : Array Value} {below : List Frame} {meth : Method} {c : Code} {nL : Nat} {ad : Nat → Nat} {D : va_G} {cA : Nat → ClassId} {A : Nat → Prop} {cells slots : Nat} {Q Q' : State → Prop} {K : qP} {pc : Nat} (h : ∀ t, Q t → Q' t) (hk : qle K (qWW p l e R s m args below meth c nL ad D cA A cells slots Q) pc) : qle K (qWW p l e R s m args below meth c nL ad D cA A cells slots Q') pc := by
  intro st ls σ k o1 o2 o3 H locs la hP hS hl T hT X
  obtain ⟨t, a, b⟩ := hk st ls σ k o1 o2 o3 H locs la hP hS hl T hT X
  exact ⟨t, a, h t b⟩

