def cpy (σ : qS) (d : Nat) (dp : Int) (s : Nat) (sp n : Int) : qS := fun k i => if k = d ∧ dp ≤ i ∧ i < dp + n then σ s (sp + (i - dp)) else σ k i
def o_cpl (K : qP) : qP := fun st ls σ => match st with
  | .inl n :: .inl dp :: .inr (.inr d) :: .inl sp :: .inr (.inr s) :: st => ((s ∈ qar ∧ qty s = 1) ∧ d ∈ qar ∧ qty d = 1) ∧ (0 ≤ sp ∧ 0 ≤ dp ∧ 0 ≤ n) ∧ (sp + n ≤ qln s ∧ dp + n ≤ qln d) ∧ (st.map qcat).sum ≤ 8 ∧ K st ls (cpy σ d dp s sp n)
  | _ => False
theorem cpy_k {σ : qS} {d k : Nat} {dp : Int} {s : Nat} {sp n : Int} (h : k ≠ d) : cpy σ d dp s sp n k = σ k := by funext i; unfold cpy; rw [if_neg (fun e => h e.1)]
theorem cpy_e {σ : qS} {d : Nat} {dp : Int} {s : Nat} {sp n i : Int} : cpy σ d dp s sp n d i = if dp ≤ i ∧ i < dp + n then σ s (sp + (i - dp)) else σ d i := by unfold cpy; simp
theorem qfv_cpy {ad : Nat → Nat} {σ : qS} {d k : Nat} {dp : Int} {s : Nat} {sp n : Int} (h : qln d ≠ 0) : qfv ad (cpy σ d dp s sp n) k = qfv ad σ k := by
  by_cases e : k = d
  · subst e; rw [qfv_arr h, qfv_arr h]
  · unfold qfv; rw [cpy_k e]
theorem qe_cpy {ad : Nat → Nat} {cA : Nat → ClassId} {σ : qS} {d r' : Nat} {dp : Int} {s : Nat} {sp n : Int} (h : qln d ≠ 0) (hr : r' ≠ d) : qe ad cA (cpy σ d dp s sp n) r' = qe ad cA σ r' := by
  unfold qe
  have e : qct (cpy σ d dp s sp n) r' = qct σ r' := by unfold qct; rw [cpy_k hr]
  rw [e]
  simp only [qfv_cpy h]
theorem i32_nn {x : Int} (h : r32 x) (h0 : 0 ≤ x) : ¬ Int32.ofInt x < 0 := by
  rw [i32_0, i32_lt h (by unfold r32; omega)]; omega
section Q61
variable {p : Program} {l : Launch} {e : Env} {R : Room} {s : State} {m : MethodId} {args : Array Value} {below : List Frame} {meth : Method} {c : Code} {cc : ByteArray} {nL : Nat} {own : String} {ad : Nat → Nat} {D : va_G} {cA : Nat → ClassId} {A : Nat → Prop} {cells slots : Nat} {Q : State → Prop} {pc : Nat} {K : qP}
theorem q_cpl (X : qX p s m args meth c cc nL own ad D cA A) (hR : 1 ≤ R.frames ∧ 8 + (nativeFrameWords "java/lang/System" "arraycopy" 5 + 11) ≤ R.locals) {index : Nat} (hlink : Cond.methodLink own index arraycopyName ∈ lw_g) (hnat : Cond.native arraycopyName ∈ lw_g) (hstat : Cond.static arraycopyName ∈ lw_g) (hini : Cond.initialized "java/lang/System" ∈ lw_g) (d : decode cc pc = .ok (.invokestatic index, 3)) (h : qle K (qWW p l e R s m args below meth c nL ad D cA A cells slots Q) (pc + 3)) : qle (o_cpl K) (qWW p l e R s m args below meth c nL ad D cA A cells slots Q) pc := by
  intro st ls σ k o1 o2 o3 H locs la hP hS hl
  unfold o_cpl at k
  split at k
  next n dp dd sp ss st =>
    obtain ⟨⟨⟨hs, hts⟩, hd, htd⟩, ⟨p1, p2, p3⟩, ⟨b1, b2⟩, hsum, k⟩ := k
    have q1 := List.forall_mem_cons.mp o1
    have q2 := List.forall_mem_cons.mp q1.2
    have q3 := List.forall_mem_cons.mp q2.2
    have q4 := List.forall_mem_cons.mp q3.2
    have q5 := List.forall_mem_cons.mp q4.2
    have rn : r32 n := q1.1
    have rdp : r32 dp := q2.1
    have rsp : r32 sp := q4.1
    obtain ⟨x0, hx00, hx0⟩ := qw_get (ad := ad) (cA := cA) (σ := σ) (qar_tb hs)
    obtain ⟨x1, hx10, hx1⟩ := qw_get (ad := ad) (cA := cA) (σ := σ) (qar_tb hd)
    have hset := qw_set (ad := ad) (cA := cA) (σ := σ) (σ' := cpy σ dd dp ss sp n) hx10 (fun r' _ hr' => qe_cpy (qar_len dd hd) hr')
    rw [qe_arr hd, htd, show qct (cpy σ dd dp ss sp n) dd = .inr (.inl (va_cpy (fun j => Int64.ofInt (σ ss j)) (fun j => Int64.ofInt (σ dd j)) (Int32.ofInt sp).toNatClampNeg (Int32.ofInt dp).toNatClampNeg (Int32.ofInt n).toNatClampNeg)) by
      unfold qct
      rw [if_pos htd, i32_clamp rn, i32_clamp rdp, i32_clamp rsp]
      congr 2
      funext j
      unfold va_cpy
      rw [cpy_e]
      by_cases hj : dp ≤ (j : Int) ∧ (j : Int) < dp + n
      · rw [if_pos hj, if_pos (by omega), show sp + ((j : Int) - dp) = ((sp.toNat + (j - dp.toNat) : Nat) : Int) by omega]
      · rw [if_neg hj, if_neg (by omega)]] at hset
    rw [qe_arr hs, hts, show qct σ ss = .inr (.inl (fun j => Int64.ofInt (σ ss j))) by simp [qct, hts]] at hx0
    rw [qe_arr hd, htd, show qct σ dd = .inr (.inl (fun j => Int64.ofInt (σ dd j))) by simp [qct, htd]] at hx1
    refine va_copyl X.1 X.2.1 (X.2.2.1.trans hl.1.symm) X.2.2.2.1 (X.2.2.2.2.1 _ hlink) (X.2.2.2.2.1 _ hnat) (X.2.2.2.2.1 _ hstat) (X.2.2.2.2.1 _ hini) X.2.2.2.2.2.1 hP (qD X σ) hS x0 x1 1 1 hx0 hx1 rfl rfl rfl (i32_nn rsp p1) (i32_nn rdp p2) (i32_nn rn p3) (by rw [i32_clamp rsp, i32_clamp rn]; omega) (by rw [i32_clamp rdp, i32_clamp rn]; omega) (fun i _ => rfl) hR.1 (by rw [qcat_sum]; omega) d (fun H1 locs1 hP1 _ hS1 => ?_)
    rw [hset] at hP1
    refine h _ _ _ k q5.2 o2 (fun k' i' => ?_) H1 locs1 la hP1 hS1 hl
    unfold cpy
    split
    next e => have := o3 ss (sp + (i' - dp)); rw [hts] at this; rw [e.1, htd]; exact this
    next => exact o3 k' i'
  next => exact k.elim
end Q61
def qCp (own : String) (cc : ByteArray) (WW : Nat → qP) : Prop := ∀ (K : qP) (index pc : Nat), Cond.methodLink own index arraycopyName ∈ lw_g → decode cc pc = .ok (.invokestatic index, 3) → qle K WW (pc + 3) → qle (o_cpl K) WW pc
theorem qC_of2 {l : Launch} {ad : Nat → Nat} {D : va_G} {cA : Nat → ClassId} {own : String} {cc : ByteArray} {nL : Nat} {ret : Option FieldType} {y : MethodName} {rm : Room} {pre : List qA → qS → Prop} {post : List qA → qS → Option qA → qS → Prop}
    (hy : plainName y.cls = true) (hown : y.cls = own) (hrm : rm.cells = 0 ∧ rm.slots = 0) (hRn : 1 ≤ rm.frames ∧ 8 + (nativeFrameWords "java/lang/System" "arraycopy" 5 + 11) ≤ rm.locals) (hlen : ∀ av σ, pre av σ → (qen av).length ≤ nL)
    (body : ∀ (WW : Nat → qP) (QR : Option qA → qS → Prop), qSnd l rm ad D cA own cc nL WW → qRet ret cc WW QR → qCp own cc WW → ∀ (av : List qA) (σ : qS), (∀ v ∈ av, qok v) → qoS σ → pre av σ → (∀ r σ', post av σ r σ' → QR r σ') → WW 0 [] (qent av nL) σ) :
    qC l ad D cA y (Cond.code y cc nL ret :: lw_g) rm pre post := by
  intro hinj av σ sz hav hσ hpre
  refine Met.ofW (cc := cc) (maxL := nL) (ret := ret) hy rfl ?_
  intro p e s m args below meth c s₁ B hml hv
  obtain ⟨rfl, hsz, hP, hK⟩ := hv
  have hts := atoms_spec (ws := Cond.code y cc nL ret :: lw_g) B.pre
  have hown' : s.vm.findClass own = some m.cls := by rw [← hown]; exact findClass_of_methodNamed B.named
  subst hsz
  have X : qX p s m ((av.map (qv ad)).toArray) meth c cc nL own ad D cA (qAr ad s.heap.size) := ⟨B.exec, B.bytes, hml, hown', fun w hw => hts w (List.mem_cons_of_mem _ hw), hK, hinj, fun r hr => Or.inl ⟨r, hr, rfl⟩, fun q hq => Or.inr hq, B.notSynchronized⟩
  have hl := lv_entry (av.map (qv ad)) (n := nL) (by rw [qen_len]; exact hlen av σ hpre)
  rw [lg_entry_eq]
  generalize (lg_sl (av.map (qv ad)) ++ List.replicate (nL - (lg_sl (av.map (qv ad))).length) Slot.unset).toArray = la at hl ⊢
  have hlr : qlr ad la nL (qent av nL) := by
    refine ⟨hl.1, ?_, hl.2.1, fun i v hv => ?_⟩
    · have := hlen av σ hpre
      unfold qent; rw [List.length_append, List.length_replicate]; omega
    · have := hl.2.2 _ (qen_at ad av 0 i v (qent_at hv))
      simpa using this
  have hS := q_snd (l := l) (e := e) (R := rm) (below := below) (cells := 0) (slots := 0) (Q := MQ below (qQc ad D cA (post av σ) (qAr ad s.heap.size)) ((av.map (qv ad)).toArray) s 0 0 (qAr ad s.heap.size)) X ⟨Nat.zero_le _, Nat.zero_le _⟩
  have hCp : qCp own cc (qWW p l e rm s m ((av.map (qv ad)).toArray) below meth c nL ad D cA (qAr ad s.heap.size) 0 0 (MQ below (qQc ad D cA (post av σ) (qAr ad s.heap.size)) ((av.map (qv ad)).toArray) s 0 0 (qAr ad s.heap.size))) := fun K index pc h1 h2 h3 => q_cpl X hRn h1 (lw_at 974 (by decide +kernel) rfl) (lw_at 973 (by decide +kernel) rfl) (lw_at 69 (by decide +kernel) rfl) h2 h3
  have hR : qRet ret cc (qWW p l e rm s m ((av.map (qv ad)).toArray) below meth c nL ad D cA (qAr ad s.heap.size) 0 0 (MQ below (qQc ad D cA (post av σ) (qAr ad s.heap.size)) ((av.map (qv ad)).toArray) s 0 0 (qAr ad s.heap.size))) (post av σ) := by
    refine ⟨fun h pc d => ?_, fun h pc d => ?_, fun h pc d => ?_, fun h pc d => ?_⟩
    · exact q_ri X (by rw [B.returns, h]) (fun _ _ h => h) d
    · exact q_rz X (by rw [B.returns, h]) (fun _ _ h => h) d
    · exact q_rl X (by rw [B.returns, h]) (fun _ _ h => h) d
    · exact q_rv X (by rw [B.returns, h]) (fun _ _ h => h) d
  exact body _ _ hS hR hCp av σ hav hσ hpre (fun _ _ h => h) (fun v hv => by cases hv) (fun i v hv => hav v (qen_mem av i v (qent_at hv))) hσ s.heap [] la hP va_S.rf hlr
theorem Met_ofWF {l : Launch} {y : MethodName} {ws ws' : List Cond} {rm : Room} {Pc : Array Value → State → Prop} {Qc : Array Value → State → Outcome → State → Prop} {mc ms : Nat} {free : Addr → Prop} {cc : ByteArray} {maxL : Nat} {ret : Option FieldType}
    (hy : plainFor y = true) (hw : ws = Cond.code y cc maxL ret :: ws')
    (body : ∀ p e s m args below meth c s₁, BodyLoose p l y (headSpec ws rm) cc maxL ret e s m args below meth c s₁ → c.maxLocals = maxL → Pc args s →
      W p l e (headSpec ws rm).room s m args below meth c s.heap [] 0 0 (MQ below Qc args s mc ms free) (entryFrame m args maxL)) : Met l y ws rm Pc Qc mc ms free := by
  refine MetFree.of_bodySF (code := cc) (maxLocals := maxL) (ret := ret) hy (fun args s m h hn => ?_) (fun p e s m args below meth c s₁ B hml hP _ => ?_)
  · obtain ⟨meth, c, h1, h2, h3, h4, h5, h6, -, -⟩ := Cond.code_spec hn (atoms_spec (ws := ws) h _ (by rw [hw]; exact List.mem_cons_self))
    exact ⟨meth, c, h1, h2, h3, h4, h5, h6⟩
  · obtain ⟨t, a1, o, b1, b2, b3⟩ := body p e s m args below meth c s₁ B hml hP s₁ (by rw [B.state]; rfl) (Stand.of_body B)
    exact ⟨t, o, a1, b1, b2, b3.1, b3.2⟩
theorem qC_of3 {l : Launch} {ad : Nat → Nat} {D : va_G} {cA : Nat → ClassId} {own : String} {cc : ByteArray} {nL : Nat} {ret : Option FieldType} {y : MethodName} {rm : Room} {pre : List qA → qS → Prop} {post : List qA → qS → Option qA → qS → Prop}
    (hy : plainFor y = true) (hown : y.cls = own) (hrm : rm.cells = 0 ∧ rm.slots = 0) (hlen : ∀ av σ, pre av σ → (qen av).length ≤ nL)
    (body : ∀ (WW : Nat → qP) (QR : Option qA → qS → Prop), qSnd l rm ad D cA own cc nL WW → qRet ret cc WW QR → ∀ (av : List qA) (σ : qS), (∀ v ∈ av, qok v) → qoS σ → pre av σ → (∀ r σ', post av σ r σ' → QR r σ') → WW 0 [] (qent av nL) σ) :
    qC l ad D cA y (Cond.code y cc nL ret :: lw_g) rm pre post := by
  intro hinj av σ sz hav hσ hpre
  refine Met_ofWF (cc := cc) (maxL := nL) (ret := ret) hy rfl ?_
  intro p e s m args below meth c s₁ B hml hv
  obtain ⟨rfl, hsz, hP, hK⟩ := hv
  have hts := atoms_spec (ws := Cond.code y cc nL ret :: lw_g) B.pre
  have hown' : s.vm.findClass own = some m.cls := by rw [← hown]; exact findClass_of_methodNamed B.named
  subst hsz
  have X : qX p s m ((av.map (qv ad)).toArray) meth c cc nL own ad D cA (qAr ad s.heap.size) := ⟨B.exec, B.bytes, hml, hown', fun w hw => hts w (List.mem_cons_of_mem _ hw), hK, hinj, fun r hr => Or.inl ⟨r, hr, rfl⟩, fun q hq => Or.inr hq, B.notSynchronized⟩
  have hl := lv_entry (av.map (qv ad)) (n := nL) (by rw [qen_len]; exact hlen av σ hpre)
  rw [lg_entry_eq]
  generalize (lg_sl (av.map (qv ad)) ++ List.replicate (nL - (lg_sl (av.map (qv ad))).length) Slot.unset).toArray = la at hl ⊢
  have hlr : qlr ad la nL (qent av nL) := by
    refine ⟨hl.1, ?_, hl.2.1, fun i v hv => ?_⟩
    · have := hlen av σ hpre
      unfold qent; rw [List.length_append, List.length_replicate]; omega
    · have := hl.2.2 _ (qen_at ad av 0 i v (qent_at hv))
      simpa using this
  have hS := q_snd (l := l) (e := e) (R := rm) (below := below) (cells := 0) (slots := 0) (Q := MQ below (qQc ad D cA (post av σ) (qAr ad s.heap.size)) ((av.map (qv ad)).toArray) s 0 0 (qAr ad s.heap.size)) X ⟨Nat.zero_le _, Nat.zero_le _⟩
  have hR : qRet ret cc (qWW p l e rm s m ((av.map (qv ad)).toArray) below meth c nL ad D cA (qAr ad s.heap.size) 0 0 (MQ below (qQc ad D cA (post av σ) (qAr ad s.heap.size)) ((av.map (qv ad)).toArray) s 0 0 (qAr ad s.heap.size))) (post av σ) := by
    refine ⟨fun h pc d => ?_, fun h pc d => ?_, fun h pc d => ?_, fun h pc d => ?_⟩
    · exact q_ri X (by rw [B.returns, h]) (fun _ _ h => h) d
    · exact q_rz X (by rw [B.returns, h]) (fun _ _ h => h) d
    · exact q_rl X (by rw [B.returns, h]) (fun _ _ h => h) d
    · exact q_rv X (by rw [B.returns, h]) (fun _ _ h => h) d
  exact body _ _ hS hR av σ hav hσ hpre (fun _ _ h => h) (fun v hv => by cases hv) (fun i v hv => hav v (qen_mem av i v (qent_at hv))) hσ s.heap [] la hP va_S.rf hlr
theorem i64_neg (x : Int64) : x.toInt < 0 ↔ x.toBitVec.msb = true := by
  rw [BitVec.msb_eq_toInt, decide_eq_true_iff]; exact Iff.rfl
theorem xor_sg {a b : Int} (ha : r64 a) (hb : r64 b) (h : 0 ≤ b) : 0 ≤ y_xor a b ↔ 0 ≤ a := by
  have e1 : (Int64.ofInt a ^^^ Int64.ofInt b).toBitVec = (Int64.ofInt a).toBitVec ^^^ (Int64.ofInt b).toBitVec := rfl
  have n1 := i64_neg (Int64.ofInt a ^^^ Int64.ofInt b)
  have n2 := i64_neg (Int64.ofInt a)
  have n3 := i64_neg (Int64.ofInt b)
  rw [i64_t ha] at n2
  rw [i64_t hb] at n3
  rw [e1, BitVec.msb_xor] at n1
  have m3 : (Int64.ofInt b).toBitVec.msb = false := by
    cases hm : (Int64.ofInt b).toBitVec.msb with
    | false => rfl
    | true => have := n3.mpr hm; omega
  rw [m3, Bool.xor_false] at n1
  unfold y_xor
  constructor
  · intro hx
    by_cases hn : a < 0
    · have := n1.mpr (n2.mp hn); omega
    · omega
  · intro hx
    by_cases hn : (Int64.ofInt a ^^^ Int64.ofInt b).toInt < 0
    · have := n2.mpr (n1.mp hn); omega
    · omega
def R_J : String := "java/lang/Math"
abbrev b_J_min : ByteArray := prog_8_method_69_code
def y_J_min : MethodName := ⟨"java/lang/Math", "min", "(II)I"⟩
theorem d_J_min_0 : decode b_J_min 0 = .ok (.iload_n 0, 1) := by decide +kernel
theorem d_J_min_1 : decode b_J_min 1 = .ok (.iload_n 1, 1) := by decide +kernel
theorem d_J_min_2 : decode b_J_min 2 = .ok (.if_icmp .gt 7, 3) := by decide +kernel
theorem d_J_min_5 : decode b_J_min 5 = .ok (.iload_n 0, 1) := by decide +kernel
theorem d_J_min_6 : decode b_J_min 6 = .ok (.goto 4, 3) := by decide +kernel
theorem d_J_min_9 : decode b_J_min 9 = .ok (.iload_n 1, 1) := by decide +kernel
theorem d_J_min_10 : decode b_J_min 10 = .ok (.ireturn, 1) := by decide +kernel
abbrev b_J_floorMod : ByteArray := prog_8_method_52_code
def y_J_floorMod : MethodName := ⟨"java/lang/Math", "floorMod", "(JJ)J"⟩
theorem d_J_floorMod_0 : decode b_J_floorMod 0 = .ok (.lload_n 0, 1) := by decide +kernel
theorem d_J_floorMod_1 : decode b_J_floorMod 1 = .ok (.lload_n 2, 1) := by decide +kernel
theorem d_J_floorMod_2 : decode b_J_floorMod 2 = .ok (.lrem, 1) := by decide +kernel
theorem d_J_floorMod_3 : decode b_J_floorMod 3 = .ok (.lstore 4, 2) := by decide +kernel
theorem d_J_floorMod_5 : decode b_J_floorMod 5 = .ok (.lload_n 0, 1) := by decide +kernel
theorem d_J_floorMod_6 : decode b_J_floorMod 6 = .ok (.lload_n 2, 1) := by decide +kernel
theorem d_J_floorMod_7 : decode b_J_floorMod 7 = .ok (.lxor, 1) := by decide +kernel
theorem d_J_floorMod_8 : decode b_J_floorMod 8 = .ok (.lconst 0, 1) := by decide +kernel
theorem d_J_floorMod_9 : decode b_J_floorMod 9 = .ok (.lcmp, 1) := by decide +kernel
theorem d_J_floorMod_10 : decode b_J_floorMod 10 = .ok (.ifCond .ge 15, 3) := by decide +kernel
theorem d_J_floorMod_13 : decode b_J_floorMod 13 = .ok (.lload 4, 2) := by decide +kernel
theorem d_J_floorMod_15 : decode b_J_floorMod 15 = .ok (.lconst 0, 1) := by decide +kernel
theorem d_J_floorMod_16 : decode b_J_floorMod 16 = .ok (.lcmp, 1) := by decide +kernel
theorem d_J_floorMod_17 : decode b_J_floorMod 17 = .ok (.ifCond .eq 8, 3) := by decide +kernel
theorem d_J_floorMod_20 : decode b_J_floorMod 20 = .ok (.lload 4, 2) := by decide +kernel
theorem d_J_floorMod_22 : decode b_J_floorMod 22 = .ok (.lload_n 2, 1) := by decide +kernel
theorem d_J_floorMod_23 : decode b_J_floorMod 23 = .ok (.ladd, 1) := by decide +kernel
theorem d_J_floorMod_24 : decode b_J_floorMod 24 = .ok (.lreturn, 1) := by decide +kernel
theorem d_J_floorMod_25 : decode b_J_floorMod 25 = .ok (.lload 4, 2) := by decide +kernel
theorem d_J_floorMod_27 : decode b_J_floorMod 27 = .ok (.lreturn, 1) := by decide +kernel
def P_J_min (_a _b : Int) (_σ : qS) : Prop := True
def Q_J_min (a b : Int) (σ : qS) (r : Int) (σ' : qS) : Prop := σ' = σ ∧ r = if a ≤ b then a else b
def pre_J_min (av : List qA) (σ : qS) : Prop := match av with
  | [.inl a1, .inl a2] => P_J_min a1 a2 σ
  | _ => False
def post_J_min (av : List qA) (σ : qS) (r : Option qA) (σ' : qS) : Prop := match av, r with
  | [.inl a1, .inl a2], some (.inl r) => Q_J_min a1 a2 σ r σ'
  | _, _ => False
def oc_J_min (K : qP) : qP := fun st ls σ => match st with
  | .inl a2 :: .inl a1 :: st => (st.map qcat).sum ≤ 8 ∧ P_J_min a1 a2 σ ∧ ∀ (r : Int) (σ' : qS), Q_J_min a1 a2 σ r σ' → K (.inl r :: st) ls σ'
  | _ => False
def rm_J_min : Room := { frames := 0, cells := 0, slots := 0, locals := 0 }
def k_J_min_10 (QR : Option qA → qS → Prop) (H : Nat → qP) : qP :=
  o_ri QR
def k_J_min_9 (QR : Option qA → qS → Prop) (H : Nat → qP) : qP :=
  o_il 1 <| k_J_min_10 QR H
def k_J_min_5 (QR : Option qA → qS → Prop) (H : Nat → qP) : qP :=
  o_il 0 <| k_J_min_10 QR H
def k_J_min_0 (QR : Option qA → qS → Prop) (H : Nat → qP) : qP :=
  o_il 0 <| o_il 1 <| o_i2 (fun a b => b < a) (k_J_min_9 QR H) (k_J_min_5 QR H)
set_option maxRecDepth 8000 in
theorem s_J_min_10 {l : Launch} {ad : Nat → Nat} {D : va_G} {cA : Nat → ClassId} {WW : Nat → qP} {QR : Option qA → qS → Prop} (S : qSnd l rm_J_min ad D cA R_J b_J_min 2 WW) (Q : qRet (some .int) b_J_min WW QR) : qle (k_J_min_10 QR WW) WW 10 :=
  Q.1 rfl _ d_J_min_10
set_option maxRecDepth 8000 in
theorem s_J_min_9 {l : Launch} {ad : Nat → Nat} {D : va_G} {cA : Nat → ClassId} {WW : Nat → qP} {QR : Option qA → qS → Prop} (S : qSnd l rm_J_min ad D cA R_J b_J_min 2 WW) (Q : qRet (some .int) b_J_min WW QR) : qle (k_J_min_9 QR WW) WW 9 :=
  S.iload_n d_J_min_9 rfl <| (s_J_min_10 S Q)
set_option maxRecDepth 8000 in
theorem s_J_min_5 {l : Launch} {ad : Nat → Nat} {D : va_G} {cA : Nat → ClassId} {WW : Nat → qP} {QR : Option qA → qS → Prop} (S : qSnd l rm_J_min ad D cA R_J b_J_min 2 WW) (Q : qRet (some .int) b_J_min WW QR) : qle (k_J_min_5 QR WW) WW 5 :=
  S.iload_n d_J_min_5 rfl <| S.goto d_J_min_6 (by decide) (s_J_min_10 S Q)
set_option maxRecDepth 8000 in
theorem s_J_min_0 {l : Launch} {ad : Nat → Nat} {D : va_G} {cA : Nat → ClassId} {WW : Nat → qP} {QR : Option qA → qS → Prop} (S : qSnd l rm_J_min ad D cA R_J b_J_min 2 WW) (Q : qRet (some .int) b_J_min WW QR) : qle (k_J_min_0 QR WW) WW 0 :=
  S.iload_n d_J_min_0 rfl <| S.iload_n d_J_min_1 rfl <| S.icmp_gt d_J_min_2 (by decide) (s_J_min_9 S Q) (s_J_min_5 S Q)
theorem w_J_min {l : Launch} {ad : Nat → Nat} {D : va_G} {cA : Nat → ClassId} {WW : Nat → qP} {QR : Option qA → qS → Prop} (S : qSnd l rm_J_min ad D cA R_J b_J_min 2 WW) (Q : qRet (some .int) b_J_min WW QR) (a1 : Int) (a2 : Int) (σ : qS) (ha1 : r32 a1) (ha2 : r32 a2) (hσ : qoS σ) (h : P_J_min a1 a2 σ) (hq : ∀ (r : Int) σ', Q_J_min a1 a2 σ r σ' → QR (some (.inl r)) σ') : WW 0 [] [some (.inl a1), some (.inl a2)] σ := by
  refine s_J_min_0 S Q _ _ _ ?_
  simp only [k_J_min_0, k_J_min_5, k_J_min_9, k_J_min_10, o_c, o_il, o_ll, o_al, o_is, o_as, o_ls, o_inc, o_bi, o_bid, o_bl, o_bld, o_sl, o_i2l, o_l2i, o_dup, o_dup2, o_pop, o_pop2, o_if, o_i2, o_l2, swg, o_sw, o_gI, o_gZ, o_gJ, o_gA, o_gR, o_pI, o_pZ, o_pJ, o_pR, o_ia, o_iak, o_zak, o_ja, o_jak, o_is_, o_isk, o_zsk, o_js_, o_jsk, o_len, o_ri, o_rz, o_rl, o_rv, ls1, ls2, lks, lkj, List.getD_cons_zero, List.getD_cons_succ, List.set_cons_zero, List.set_cons_succ, qcat, true_and, and_true, List.map_nil, List.map_cons, List.sum_nil, List.sum_cons, Nat.reduceAdd, Nat.reduceLeDiff, Nat.zero_le, Int.reduceAdd, Int.reduceNeg, Int.reduceEq, or_true, true_or, Decidable.not_not, false_implies, not_false_eq_true, true_implies, not_true_eq_false, Int.reduceLT, Int.reduceLE]
  refine ⟨fun h => hq _ _ ⟨rfl, ?_⟩, fun h => hq _ _ ⟨rfl, ?_⟩⟩
  · rw [if_neg (by omega)]
  · rw [if_pos (by omega)]
theorem c_J_min (l : Launch) (ad : Nat → Nat) (D : va_G) (cA : Nat → ClassId) : qC l ad D cA y_J_min (Cond.code y_J_min b_J_min 2 (some .int) :: lw_g) rm_J_min pre_J_min post_J_min := by
  refine qC_of3 (own := R_J) (by decide +kernel) rfl ⟨rfl, rfl⟩ ?_ ?_
  · intro av σ h; unfold pre_J_min at h; split at h
    · simp [qen]
    · exact h.elim
  · intro WW QR S Q av σ hav hσ h hq; unfold pre_J_min at h; split at h
    next a1 a2 =>
      exact w_J_min S Q a1 a2 σ (hav _ (List.mem_of_getElem? (i := 0) rfl)) (hav _ (List.mem_of_getElem? (i := 1) rfl)) hσ h (fun r σ' h' => hq _ σ' h')
    next => exact h.elim
def P_J_floorMod (_a b : Int) (_σ : qS) : Prop := 1 ≤ b ∧ b ≤ 6
def Q_J_floorMod (a b : Int) (σ : qS) (r : Int) (σ' : qS) : Prop := σ' = σ ∧ r = a % b
def pre_J_floorMod (av : List qA) (σ : qS) : Prop := match av with
  | [.inr (.inl a1), .inr (.inl a2)] => P_J_floorMod a1 a2 σ
  | _ => False
def post_J_floorMod (av : List qA) (σ : qS) (r : Option qA) (σ' : qS) : Prop := match av, r with
  | [.inr (.inl a1), .inr (.inl a2)], some (.inr (.inl r)) => Q_J_floorMod a1 a2 σ r σ'
  | _, _ => False
def oc_J_floorMod (K : qP) : qP := fun st ls σ => match st with
  | .inr (.inl a2) :: .inr (.inl a1) :: st => (st.map qcat).sum ≤ 8 ∧ P_J_floorMod a1 a2 σ ∧ ∀ (r : Int) (σ' : qS), Q_J_floorMod a1 a2 σ r σ' → K (.inr (.inl r) :: st) ls σ'
  | _ => False
def rm_J_floorMod : Room := { frames := 0, cells := 0, slots := 0, locals := 0 }
def k_J_floorMod_25 (QR : Option qA → qS → Prop) (H : Nat → qP) : qP :=
  o_ll 4 <| o_rl QR
def k_J_floorMod_20 (QR : Option qA → qS → Prop) (H : Nat → qP) : qP :=
  o_ll 4 <| o_ll 2 <| o_bl y_add <| o_rl QR
def k_J_floorMod_13 (QR : Option qA → qS → Prop) (H : Nat → qP) : qP :=
  o_ll 4 <| o_c (.inr (.inl 0)) <| o_l2 (fun a b => a = b) (k_J_floorMod_25 QR H) (k_J_floorMod_20 QR H)
def k_J_floorMod_0 (QR : Option qA → qS → Prop) (H : Nat → qP) : qP :=
  o_ll 0 <| o_ll 2 <| o_bld y_rem <| o_ls 4 <| o_ll 0 <| o_ll 2 <| o_bl y_xor <| o_c (.inr (.inl 0)) <| o_l2 (fun a b => b ≤ a) (k_J_floorMod_25 QR H) (k_J_floorMod_13 QR H)
set_option maxRecDepth 8000 in
theorem s_J_floorMod_25 {l : Launch} {ad : Nat → Nat} {D : va_G} {cA : Nat → ClassId} {WW : Nat → qP} {QR : Option qA → qS → Prop} (S : qSnd l rm_J_floorMod ad D cA R_J b_J_floorMod 6 WW) (Q : qRet (some .long) b_J_floorMod WW QR) : qle (k_J_floorMod_25 QR WW) WW 25 :=
  S.lload d_J_floorMod_25 <| Q.2.2.1 rfl _ d_J_floorMod_27
set_option maxRecDepth 8000 in
theorem s_J_floorMod_20 {l : Launch} {ad : Nat → Nat} {D : va_G} {cA : Nat → ClassId} {WW : Nat → qP} {QR : Option qA → qS → Prop} (S : qSnd l rm_J_floorMod ad D cA R_J b_J_floorMod 6 WW) (Q : qRet (some .long) b_J_floorMod WW QR) : qle (k_J_floorMod_20 QR WW) WW 20 :=
  S.lload d_J_floorMod_20 <| S.lload_n d_J_floorMod_22 rfl <| S.ladd d_J_floorMod_23 <| Q.2.2.1 rfl _ d_J_floorMod_24
set_option maxRecDepth 8000 in
theorem s_J_floorMod_13 {l : Launch} {ad : Nat → Nat} {D : va_G} {cA : Nat → ClassId} {WW : Nat → qP} {QR : Option qA → qS → Prop} (S : qSnd l rm_J_floorMod ad D cA R_J b_J_floorMod 6 WW) (Q : qRet (some .long) b_J_floorMod WW QR) : qle (k_J_floorMod_13 QR WW) WW 13 :=
  S.lload d_J_floorMod_13 <| S.lconst d_J_floorMod_15 (by decide) <| S.lcmp_eq d_J_floorMod_16 d_J_floorMod_17 (by decide) (s_J_floorMod_25 S Q) (s_J_floorMod_20 S Q)
set_option maxRecDepth 8000 in
theorem s_J_floorMod_0 {l : Launch} {ad : Nat → Nat} {D : va_G} {cA : Nat → ClassId} {WW : Nat → qP} {QR : Option qA → qS → Prop} (S : qSnd l rm_J_floorMod ad D cA R_J b_J_floorMod 6 WW) (Q : qRet (some .long) b_J_floorMod WW QR) : qle (k_J_floorMod_0 QR WW) WW 0 :=
  S.lload_n d_J_floorMod_0 rfl <| S.lload_n d_J_floorMod_1 rfl <| S.lrem d_J_floorMod_2 <| S.lstore d_J_floorMod_3 (by decide) <| S.lload_n d_J_floorMod_5 rfl <| S.lload_n d_J_floorMod_6 rfl <| S.lxor d_J_floorMod_7 <| S.lconst d_J_floorMod_8 (by decide) <| S.lcmp_ge d_J_floorMod_9 d_J_floorMod_10 (by decide) (s_J_floorMod_25 S Q) (s_J_floorMod_13 S Q)
theorem w_J_floorMod {l : Launch} {ad : Nat → Nat} {D : va_G} {cA : Nat → ClassId} {WW : Nat → qP} {QR : Option qA → qS → Prop} (S : qSnd l rm_J_floorMod ad D cA R_J b_J_floorMod 6 WW) (Q : qRet (some .long) b_J_floorMod WW QR) (a1 : Int) (a2 : Int) (σ : qS) (ha1 : r64 a1) (ha2 : r64 a2) (hσ : qoS σ) (h : P_J_floorMod a1 a2 σ) (hq : ∀ (r : Int) σ', Q_J_floorMod a1 a2 σ r σ' → QR (some (.inr (.inl r))) σ') : WW 0 [] [some (.inr (.inl a1)), none, some (.inr (.inl a2)), none, none, none] σ := by
  refine s_J_floorMod_0 S Q _ _ _ ?_
  simp only [k_J_floorMod_0, k_J_floorMod_13, k_J_floorMod_20, k_J_floorMod_25, o_c, o_il, o_ll, o_al, o_is, o_as, o_ls, o_inc, o_bi, o_bid, o_bl, o_bld, o_sl, o_i2l, o_l2i, o_dup, o_dup2, o_pop, o_pop2, o_if, o_i2, o_l2, swg, o_sw, o_gI, o_gZ, o_gJ, o_gA, o_gR, o_pI, o_pZ, o_pJ, o_pR, o_ia, o_iak, o_zak, o_ja, o_jak, o_is_, o_isk, o_zsk, o_js_, o_jsk, o_len, o_ri, o_rz, o_rl, o_rv, ls1, ls2, lks, lkj, List.getD_cons_zero, List.getD_cons_succ, List.set_cons_zero, List.set_cons_succ, qcat, true_and, and_true, List.map_nil, List.map_cons, List.sum_nil, List.sum_cons, Nat.reduceAdd, Nat.reduceLeDiff, Nat.zero_le, Int.reduceAdd, Int.reduceNeg, Int.reduceEq, or_true, true_or, Decidable.not_not, false_implies, not_false_eq_true, true_implies, not_true_eq_false, Int.reduceLT, Int.reduceLE]
  unfold P_J_floorMod at h
  obtain ⟨h1, h2⟩ := h
  have r1 := ha1
  unfold r64 at r1
  have hrem : y_rem a1 a2 = a1.tmod a2 := rfl
  have t1 : a1.tmod a2 = if 0 ≤ a1 ∨ a1.tmod a2 = 0 then a1 % a2 else a1 % a2 - a2 := by
    by_cases hn : 0 ≤ a1
    · rw [if_pos (Or.inl hn), Int.tmod_eq_emod_of_nonneg hn]
    · have := Int.tmod_eq_emod (a := a1) (b := a2)
      by_cases hd : a2 ∣ a1
      · rw [Int.tmod_eq_zero_of_dvd hd, Int.emod_eq_zero_of_dvd hd]; simp
      · have h0 : a1.tmod a2 ≠ 0 := fun e => hd (Int.dvd_of_tmod_eq_zero e)
        rw [if_neg (by omega), this, if_neg (by rintro (h | h); exact hn h; exact hd h)]
        omega
  have hx : 0 ≤ y_xor a1 a2 ↔ 0 ≤ a1 := xor_sg ha1 (by unfold r64; omega) (by omega)
  refine ⟨by omega, fun hp => hq _ _ ⟨rfl, ?_⟩, fun hn => ⟨fun he => hq _ _ ⟨rfl, ?_⟩, fun hne => hq _ _ ⟨rfl, ?_⟩⟩⟩
  · rw [hrem, t1, if_pos (Or.inl (hx.mp hp))]
  · rw [hrem] at he ⊢
    rw [t1, if_pos (Or.inr he)]
  · rw [hrem] at hne ⊢
    rw [t1, if_neg (by rintro (h | h); exact hn (hx.mpr h); exact hne h)]
    unfold y_add
    have := Int.emod_nonneg a1 (show a2 ≠ 0 by omega)
    have := Int.emod_lt_of_pos a1 (show 0 < a2 by omega)
    rw [w64_i _ (by omega) (by omega)]
    omega
theorem c_J_floorMod (l : Launch) (ad : Nat → Nat) (D : va_G) (cA : Nat → ClassId) : qC l ad D cA y_J_floorMod (Cond.code y_J_floorMod b_J_floorMod 6 (some .long) :: lw_g) rm_J_floorMod pre_J_floorMod post_J_floorMod := by
  refine qC_of3 (own := R_J) (by decide +kernel) rfl ⟨rfl, rfl⟩ ?_ ?_
  · intro av σ h; unfold pre_J_floorMod at h; split at h
    · simp [qen]
    · exact h.elim
  · intro WW QR S Q av σ hav hσ h hq; unfold pre_J_floorMod at h; split at h
    next a1 a2 =>
      exact w_J_floorMod S Q a1 a2 σ (hav _ (List.mem_of_getElem? (i := 0) rfl)) (hav _ (List.mem_of_getElem? (i := 1) rfl)) hσ h (fun r σ' h' => hq _ σ' h')
    next => exact h.elim

