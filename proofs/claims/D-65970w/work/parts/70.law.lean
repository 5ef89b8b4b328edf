theorem law_obj {p : Program} {l : Launch} {e : Env} {R : Room} {s : State} {m : MethodId} {args : Array Value} {below : List Frame} {meth : Method} {c : Code} {Q : State → Prop} {cc bytes : ByteArray} {ls : Array Slot} {own C : String} {T : u_T} {N ci nL pc i1 i2 : Nat} {ty0 : Nat → FieldType} {D : va_G} {cA : Nat → ClassId} {A : Nat → Prop} {H : Heap} {locs : List Loc} {cells slots : Nat} {ws : va_W} {y : MethodName} {rm : Room} {items : List cit} {fs : List Value} {rest : List Value}
    (hx : p.tables.exec = Jvm.exec) (hb : c.code = cc) (hml : c.maxLocals = nL) (hsize : ls.size = nL) (hown : s.vm.findClass own = some m.cls) (hts : ∀ w ∈ lw_g, w.before args s = true) (hK : va_K D qcl [(cA 0, .int), (cA 1, .long), (cA 2, .boolean)] s) (hP : va_P D qcl ws H) (hD : va_D A ws) (hS : va_S A s.heap H locs) (hA : ∀ q, s.heap.size ≤ q → A q)
    (hcl : qcl[ci]? = some (C, T, N)) (hin : ∀ w ∈ u_ws C T N, w ∈ lw_g) (hty : ∀ k, k < N → parseFieldDescriptor (T k).2.2.1 = some (ty0 k)) (hfs : ∀ j, j < N → defaultValue (ty0 j) = vp_V fs j)
    (w1 : Cond.classLink own i1 C ∈ lw_g) (w2 : Cond.instantiable C N ∈ lw_g) (w3 : Cond.initialized C ∈ lw_g) (w4 : Cond.methodLink own i2 y ∈ lw_g) (w5 : Cond.instanceMethod y ∈ lw_g) (w6 : Cond.code y bytes 1 none ∈ lw_g) (hyc : y.cls = C) (hyn : y.name = "<init>") (hyd : y.cls ≠ "java/lang/invoke/MethodHandle" ∧ y.cls ≠ "java/lang/invoke/VarHandle" ∧ (parseMethodDescriptor y.desc).map (fun d => d.parameters.length) = some 0)
    (hM : ∀ a sz, Met l y (Cond.code y bytes 1 none :: lw_g) rm (inP D cA ci fs a sz) (inQ D cA ci fs items a sz) items.length (csl items) (inA a sz)) (hrm : rm.cells = items.length ∧ rm.slots = csl items) (hR : rm.frames + 1 ≤ R.frames ∧ 8 + (1 + 11) + rm.locals ≤ R.locals) (hc : cells + 1 + items.length ≤ R.cells) (hs : slots + N + csl items ≤ R.slots) (hrest : (rest.map fun v => v.category).sum ≤ 6)
    (d1 : decode cc pc = .ok (.new i1, 3)) (d2 : decode cc (pc + 3) = .ok (.dup, 1)) (d3 : decode cc (pc + 4) = .ok (.invokespecial i2, 3))
    (kk : ∀ (q : Nat) (qs : List Nat) (H' : Heap) (locs' : List Loc), qs.length = items.length → va_P D qcl (ws ++ (q, .inr (ci, cfs fs qs items)) :: cars cA qs items) H' → va_D A (ws ++ (q, .inr (ci, cfs fs qs items)) :: cars cA qs items) → va_S A s.heap H' locs' → W p l e R s m args below meth c H' locs' (cells + 1 + items.length) (slots + N + csl items) Q (F0 m (pc + 7) ls (.ref q :: rest))) :
    W p l e R s m args below meth c H locs cells slots Q (F0 m pc ls rest) := by
  refine va_new hx hb hts hin ty0 hty hown (hts _ w1) (hts _ w2) (hts _ w3) hK hP hD hS hA hcl hfs (by omega) (by omega) d1 (fun q H1 hP1 hD1 hS1 => ?_)
  refine lv_dup hx hb d2 rfl ?_
  have hPq : va_P D qcl [(q, (.inr (ci, fs) : va_E))] H1 := hP1.sub [ws.length] (by simp)
  have hsum : 2 * (F0 m (pc + 4) ls (Value.ref q :: Value.ref q :: rest)).monitorRoom + ((Value.ref q :: rest).map fun v => v.category).sum ≤ 8 := by
    have h1 : (Value.ref q).category = 1 := rfl
    show 2 * 0 + ((Value.ref q :: rest).map fun v => v.category).sum ≤ 8
    rw [List.map_cons, List.sum_cons, h1]; omega
  have run := va_runI (As := []) (rest := .ref q :: rest) (b := q) (H := H1) (locs := locs) (cells := cells + 1) (slots := slots + N) (R := R) (e := e) (below := below) (meth := meth) (g := F0 m (pc + 4) ls (.ref q :: .ref q :: rest)) (Ts := lw_g) (nL := nL) ⟨hx, hb, hml, hown, hts⟩ (hM q H1.size) (cwI 0 hts (lw_gcons w6) rfl hrm.1 hrm.2 (by rw [hyc]; exact hts _ w3) (hts _ w4) (hts _ w5) hyn hyd hR)
    ⟨fun a U g mk q' => by
      obtain ⟨q0, q1, q2, q3⟩ := q'
      exact ⟨q0, q1, q2, va_K.moved (u := U) (U := U.calling g mk a) (Vm.Alike.refl U.vm) q3⟩, fun U hU hW => ⟨rfl, by rw [hU], by rw [hU]; exact hPq, va_K.moved hW.alike hK⟩⟩ rfl rfl hsize rfl hsum d3 ⟨by omega, by omega⟩
  intro T0 hT X
  obtain ⟨v, st₀, t, T', L, h0, X', hL, e1, e2, hq, go⟩ := run T0 hT X
  obtain ⟨hv, ⟨qs, hqs, hPt, hDt⟩, hF⟩ := hq
  have hv' : v = none := Outcome.returned.inj hv
  subst hv'
  obtain ⟨hz, hk⟩ := hF
  rw [h0] at hz hk
  have hAq : A q := hD1.2 ws.length (q, .inr (ci, fs)) (by simp)
  have hin' : ∀ x, inA q H1.size x → A x := fun x hx => by
    rcases hx with rfl | h
    · exact hAq
    · exact hA x (Nat.le_trans hS1.1 h)
  have hold : ∀ (k : Nat) (x : Nat × va_E), ws[k]? = some x → x.1 < H1.size ∧ x.1 ≠ q := by
    intro k x hk'
    have hl := (List.getElem?_eq_some_iff.mp hk').1
    have h1 : (ws ++ [(q, (.inr (ci, fs) : va_E))])[k]? = some x := by rw [List.getElem?_append_left hl]; exact hk'
    refine ⟨(hP1 k x h1).lt, fun h => ?_⟩
    have := hD1.1 k ws.length x (q, .inr (ci, fs)) h1 (by simp) h
    omega
  have hnot : ∀ (k : Nat) (x : Nat × va_E), ws[k]? = some x → ¬ inA q H1.size x.1 := fun k x hk' h => by
    obtain ⟨h1, h2⟩ := hold k x hk'
    rcases h with h | h
    · exact h2 h
    · omega
  have hPw0 : va_P D qcl ws H1 := fun k x hk' => hP1 k x (by rw [List.getElem?_append_left (List.getElem?_eq_some_iff.mp hk').1]; exact hk')
  have hPw : va_P D qcl ws t.heap := hPw0.kept (fun k x hk' => hk x.1 (hold k x hk').1 (hnot k x hk'))
  have hDw : va_D A (ws ++ (q, .inr (ci, cfs fs qs items)) :: cars cA qs items) := by
    refine ⟨fun i j x y' hi hj hxy => ?_, fun k x hk' => ?_⟩
    · by_cases hi1 : i < ws.length
      · by_cases hj1 : j < ws.length
        · rw [List.getElem?_append_left hi1] at hi
          rw [List.getElem?_append_left hj1] at hj
          exact hD.1 i j x y' hi hj hxy
        · rw [List.getElem?_append_left hi1] at hi
          rw [List.getElem?_append_right (by omega)] at hj
          exact absurd (hxy ▸ hDt.2 _ _ hj) (hnot i x hi)
      · by_cases hj1 : j < ws.length
        · rw [List.getElem?_append_right (by omega)] at hi
          rw [List.getElem?_append_left hj1] at hj
          exact absurd (hxy.symm ▸ hDt.2 _ _ hi) (hnot j y' hj)
        · rw [List.getElem?_append_right (by omega)] at hi hj
          have := hDt.1 _ _ x y' hi hj hxy
          omega
    · by_cases hk1 : k < ws.length
      · rw [List.getElem?_append_left hk1] at hk'
        exact hD.2 k x hk'
      · rw [List.getElem?_append_right (by omega)] at hk'
        exact hin' _ (hDt.2 _ _ hk')
  have hSt : va_S A s.heap T'.heap (locs ++ L) := by
    rw [e1]
    refine ⟨Nat.le_trans hS1.1 hz, fun x h1 h2 => ?_, fun x hx' => ?_⟩
    · rw [hk x (Nat.lt_of_lt_of_le h1 hS1.1) (fun h => h2 (hin' x h))]
      exact hS1.2.1 x h1 h2
    · rcases List.mem_append.mp hx' with h | h
      · exact hS1.2.2 x h
      · exact hin' _ (hL x h)
  obtain ⟨t2, a1, b1⟩ := kk q qs T'.heap (locs ++ L) hqs (by rw [e1]; exact hPw.app hPt) hDw hSt T' rfl X'
  exact ⟨t2, go t2 a1, b1⟩
theorem law_K {args : Array Value} {s : State} (hts : ∀ w ∈ lw_g, w.before args s = true) (w1 : Cond.instantiable R_M 82 ∈ lw_g) (w2 : Cond.instantiable R_D 32 ∈ lw_g) (w3 : ∀ t, t < 3 → Cond.arrayClass (ctT t) ∈ lw_g) : ∃ (D : va_G) (cA : Nat → ClassId), va_K D qcl [(cA 0, .int), (cA 1, .long), (cA 2, .boolean)] s := by
  obtain ⟨c0, i0, k0⟩ := u_known (n := 82) hts hg_M (hts _ w1)
  obtain ⟨c1, i1, k1⟩ := u_known (n := 32) hts hg_D (hts _ w2)
  obtain ⟨a0, q0, p0, f0, g0, h0⟩ := Cond.arrayClass_spec (hts _ (w3 0 (by omega)))
  obtain ⟨a1, q1, p1, f1, g1, h1⟩ := Cond.arrayClass_spec (hts _ (w3 1 (by omega)))
  obtain ⟨a2, q2, p2, f2, g2, h2⟩ := Cond.arrayClass_spec (hts _ (w3 2 (by omega)))
  refine ⟨(fun k => if k = 0 then c0 else c1, fun k => if k = 0 then i0 else i1), fun t => if t = 0 then a0 else if t = 1 then a1 else a2, fun k q hk => ?_, fun k q hk => ?_⟩
  · have hl : k < 2 := (List.getElem?_eq_some_iff.mp hk).1
    have h3 : k = 0 ∨ k = 1 := by omega
    rcases h3 with rfl | rfl
    · cases hk; exact k0
    · cases hk; exact k1
  · have hl : k < 3 := (List.getElem?_eq_some_iff.mp hk).1
    have h3 : k = 0 ∨ k = 1 ∨ k = 2 := by omega
    rcases h3 with rfl | rfl | rfl
    · cases hk; exact ⟨fun n z => ⟨fun k h => (by cases h), q0, g0, p0, h0⟩, f0⟩
    · cases hk; exact ⟨fun n z => ⟨fun k h => (by cases h), q1, g1, p1, h1⟩, f1⟩
    · cases hk; exact ⟨fun n z => ⟨fun k h => (by cases h), q2, g2, p2, h2⟩, f2⟩
def cps (items : List cit) : List Nat := items.map (fun x => x.2.2.1)
theorem cfs_at : ∀ (items : List cit) (qs : List Nat) (fs : List Value), qs.length = items.length → (cps items).Nodup → (∀ k ∈ cps items, k < fs.length) → ∀ k, (cfs fs qs items)[k]? = if k ∈ cps items then some (.ref (qs.getD ((cps items).idxOf k) 0)) else fs[k]?
  | [], qs, fs, h, _, _, k => by
    cases qs <;> simp [cfs, cps]
  | x :: t, [], fs, h, _, _, k => by simp at h
  | x :: t, q :: qs, fs, h, hn, hl, k => by
    have hn' : x.2.2.1 ∉ cps t ∧ (cps t).Nodup := List.nodup_cons.mp hn
    have e0 : cps (x :: t) = x.2.2.1 :: cps t := rfl
    show (cfs (fs.set x.2.2.1 (.ref q)) qs t)[k]? = _
    rw [cfs_at t qs _ (by simpa using h) hn'.2 (fun k hk => by rw [List.length_set]; exact hl k (by rw [e0]; exact List.mem_cons_of_mem _ hk)) k, e0]
    have hx : x.2.2.1 < fs.length := hl _ (by rw [e0]; exact List.mem_cons_self)
    by_cases hk : k ∈ cps t
    · have hne : x.2.2.1 ≠ k := fun e => hn'.1 (e ▸ hk)
      rw [if_pos hk, if_pos (List.mem_cons_of_mem _ hk), List.idxOf_cons, beq_false_of_ne hne, cond_false, List.getD_cons_succ]
    · rw [if_neg hk]
      by_cases e : x.2.2.1 = k
      · subst e
        rw [if_pos List.mem_cons_self, List.getElem?_set_self hx, List.idxOf_cons_self, List.getD_cons_zero]
      · rw [if_neg (by rintro h; rcases List.mem_cons.mp h with h | h; exact e h.symm; exact hk h), List.getElem?_set_ne e]
theorem cfs_len : ∀ (items : List cit) (qs : List Nat) (fs : List Value), (cfs fs qs items).length = fs.length
  | [], qs, fs => by cases qs <;> rfl
  | x :: t, [], fs => rfl
  | x :: t, q :: qs, fs => by show (cfs (fs.set _ _) qs t).length = _; rw [cfs_len t qs, List.length_set]
theorem cars_at (cA : Nat → ClassId) : ∀ (items : List cit) (qs : List Nat), qs.length = items.length → ∀ (i : Nat) x, items[i]? = some x → (cars cA qs items)[i]? = some (qs.getD i 0, .inl (cA x.2.1, ct0 x.1 x.2.1))
  | [], qs, _, i, x, h => by simp at h
  | y :: t, [], h, _, _, _ => by simp at h
  | y :: t, q :: qs, h, 0, x, hx => by simp at hx; subst hx; rfl
  | y :: t, q :: qs, h, i + 1, x, hx => by
    show (cars cA qs t)[i]? = _
    rw [cars_at cA t qs (by simpa using h) i x (by simpa using hx), List.getD_cons_succ]
theorem cars_len (cA : Nat → ClassId) : ∀ (items : List cit) (qs : List Nat), qs.length = items.length → (cars cA qs items).length = items.length
  | [], qs, _ => by cases qs <;> rfl
  | y :: t, [], h => by simp at h
  | y :: t, q :: qs, h => by show (cars cA qs t).length + 1 = _; rw [cars_len cA t qs (by simpa using h)]; rfl
def σz : qS := fun k _ => if k = 23 then -1 else 0
def adL (a0 a1 ao b : Nat) (qm qd : List Nat) : Nat → Nat := fun r => if r = 900 then a0 else if r = 901 then a1 else if r = 140 then ao else if r = 150 then b else if r < 100 then qm.getD ((cps it_M).idxOf r) 0 else qd.getD ((cps it_D).idxOf (r - 100)) 0
def fsM : List Value := (List.range 82).map (fun j => defaultValue (t_M j))
def fsD : List Value := (List.range 32).map (fun j => defaultValue (t_D j))
theorem fsM_e (a0 a1 ao b : Nat) (qm qd : List Nat) (h : qm.length = it_M.length) : cfs fsM qm it_M = (List.range 82).map (fun j => qfv (adL a0 a1 ao b qm qd) σz (0 + j)) := by
  apply List.ext_getElem?
  intro k
  rw [cfs_at it_M qm fsM h (by decide +kernel) (by decide +kernel) k]
  by_cases hk : k < 82
  · rw [List.getElem?_map, List.getElem?_range hk, Option.map_some, Nat.zero_add]
    have key : ∀ k, k < 82 → ((k ∈ cps it_M ∧ qln k ≠ 0) ∨ (k ∉ cps it_M ∧ qln k = 0 ∧ fsM[k]? = some (if qty k = 1 then .long 0 else if qty k = 3 then .null else .int 0) ∧ (qty k = 3 ↔ k = 23))) := by decide +kernel
    rcases key k hk with ⟨h1, h2⟩ | ⟨h1, h2, h3, h4⟩
    · rw [if_pos h1, qfv_arr h2]
      unfold adL
      rw [if_neg (by omega), if_neg (by omega), if_neg (by omega), if_neg (by omega), if_pos (by omega)]
    · rw [if_neg h1, h3]
      simp only [qfv, h2, ne_eq, not_true_eq_false, if_false]
      by_cases e1 : qty k = 1
      · simp only [e1, if_true]
        rw [show σz k 0 = 0 by unfold σz; rw [if_neg (fun e => by rw [← h4] at e; omega)]]; rfl
      · simp only [e1, if_false]
        by_cases e3 : qty k = 3
        · simp only [e3, if_true]
          rw [show σz k 0 = -1 by unfold σz; rw [if_pos (h4.mp e3)]]; rfl
        · simp only [e3, if_false]
          rw [show σz k 0 = 0 by unfold σz; rw [if_neg (fun e => e3 (h4.mpr e))]]; rfl
  · rw [if_neg (fun h => by have : ∀ k ∈ cps it_M, k < 82 := by decide +kernel
                            exact hk (this k h)), List.getElem?_eq_none (by simp [fsM]; omega), List.getElem?_eq_none (by simp; omega)]
theorem fsD_e (a0 a1 ao b : Nat) (qm qd : List Nat) (h : qd.length = it_D.length) : cfs fsD qd it_D = (List.range 32).map (fun j => qfv (adL a0 a1 ao b qm qd) σz (100 + j)) := by
  apply List.ext_getElem?
  intro k
  rw [cfs_at it_D qd fsD h (by decide +kernel) (by decide +kernel) k]
  by_cases hk : k < 32
  · rw [List.getElem?_map, List.getElem?_range hk, Option.map_some]
    have key : ∀ k, k < 32 → ((k ∈ cps it_D ∧ qln (100 + k) ≠ 0) ∨ (k ∉ cps it_D ∧ qln (100 + k) = 0 ∧ fsD[k]? = some (if qty (100 + k) = 1 then .long 0 else if qty (100 + k) = 3 then .null else .int 0) ∧ qty (100 + k) ≠ 3)) := by decide +kernel
    rcases key k hk with ⟨h1, h2⟩ | ⟨h1, h2, h3, h4⟩
    · rw [if_pos h1, qfv_arr h2]
      unfold adL
      rw [if_neg (by omega), if_neg (by omega), if_neg (by omega), if_neg (by omega), if_neg (by omega), Nat.add_sub_cancel_left]
    · rw [if_neg h1, h3]
      simp only [qfv, h2, ne_eq, not_true_eq_false, if_false]
      have hz : σz (100 + k) 0 = 0 := by unfold σz; rw [if_neg (by omega)]
      by_cases e1 : qty (100 + k) = 1
      · simp only [e1, if_true]
        rw [hz]; rfl
      · simp only [e1, h4, if_false]
        rw [hz]; rfl
  · rw [if_neg (fun h => by have : ∀ k ∈ cps it_D, k < 32 := by decide +kernel
                            exact hk (this k h)), List.getElem?_eq_none (by simp [fsD]; omega), List.getElem?_eq_none (by simp; omega)]
def posL (r : Nat) : Nat := if r = 900 then 0 else if r = 901 then 63 else if r = 140 then 89 else if r < 100 then 1 + (cps it_M).idxOf r else 64 + (cps it_D).idxOf (r - 100)
def wsL (cA : Nat → ClassId) (a0 a1 ao : Nat) (qm qd : List Nat) : va_W := (((a0, .inr (0, cfs fsM qm it_M)) :: cars cA qm it_M) ++ (a1, .inr (1, cfs fsD qd it_D)) :: cars cA qd it_D) ++ [(ao, .inl (cA 1, ct0 1 1))]
theorem qct_z {r n t : Nat} (hr : r ≠ 23) (h : qty r = t) : ct0 n t = (n, qct σz r) := by
  subst h
  have hz : ∀ j, σz r j = 0 := fun j => by unfold σz; rw [if_neg hr]
  unfold ct0 qct
  simp only [hz]
  rfl
theorem wsL_at (cA : Nat → ClassId) (a0 a1 ao b : Nat) (qm qd : List Nat) (hm : qm.length = it_M.length) (hd : qd.length = it_D.length) : ∀ r ∈ qtb, (wsL cA a0 a1 ao qm qd)[posL r]? = some (adL a0 a1 ao b qm qd r, qe (adL a0 a1 ao b qm qd) cA σz r) := by
  have lm : (cars cA qm it_M).length = 62 := cars_len cA it_M qm hm
  have ld : (cars cA qd it_D).length = 25 := cars_len cA it_D qd hd
  have l1 : ((a0, (.inr (0, cfs fsM qm it_M) : va_E)) :: cars cA qm it_M).length = 63 := by rw [List.length_cons, lm]
  have l2 : ((a1, (.inr (1, cfs fsD qd it_D) : va_E)) :: cars cA qd it_D).length = 26 := by rw [List.length_cons, ld]
  have l3 : (((a0, (.inr (0, cfs fsM qm it_M) : va_E)) :: cars cA qm it_M) ++ (a1, (.inr (1, cfs fsD qd it_D) : va_E)) :: cars cA qd it_D).length = 89 := by rw [List.length_append, l1, l2]
  intro r hr
  rcases List.mem_cons.mp hr with rfl | hr
  · rw [qe_900, ← fsM_e a0 a1 ao b qm qd hm]; rfl
  rcases List.mem_cons.mp hr with rfl | hr
  · rw [qe_901, ← fsD_e a0 a1 ao b qm qd hd]
    show (wsL cA a0 a1 ao qm qd)[63]? = _
    unfold wsL
    rw [List.getElem?_append_left (by omega), List.getElem?_append_right (by omega), l1]
    rfl
  rw [qe_arr hr]
  have key : ∀ r ∈ qar, r = 140 ∨ (r < 100 ∧ r ≠ 23 ∧ (cps it_M).idxOf r < 62 ∧ (it_M[(cps it_M).idxOf r]?).map (fun x => (x.1, x.2.1)) = some (qln r, qty r)) ∨ (100 ≤ r ∧ r < 132 ∧ (cps it_D).idxOf (r - 100) < 25 ∧ (it_D[(cps it_D).idxOf (r - 100)]?).map (fun x => (x.1, x.2.1)) = some (qln r, qty r)) := by decide +kernel
  rcases key r hr with rfl | ⟨h1, h2, h3, h4⟩ | ⟨h1, h2, h3, h4⟩
  · show (wsL cA a0 a1 ao qm qd)[89]? = _
    unfold wsL
    rw [List.getElem?_append_right (by omega), l3]
    show some (ao, _) = some (ao, _)
    rw [qct_z (r := 140) (by decide) (by decide : qty 140 = 1), show qty 140 = 1 by decide, show qln 140 = 1 by decide]
  · obtain ⟨x, hx, hx2⟩ := Option.map_eq_some_iff.mp h4
    have e1 : x.1 = qln r := congrArg Prod.fst hx2
    have e2 : x.2.1 = qty r := congrArg Prod.snd hx2
    have ep : posL r = 1 + (cps it_M).idxOf r := by unfold posL; rw [if_neg (by omega), if_neg (by omega), if_neg (by omega), if_pos h1]
    have ea : adL a0 a1 ao b qm qd r = qm.getD ((cps it_M).idxOf r) 0 := by unfold adL; rw [if_neg (by omega), if_neg (by omega), if_neg (by omega), if_neg (by omega), if_pos h1]
    rw [ep, ea]
    unfold wsL
    rw [List.getElem?_append_left (by omega), List.getElem?_append_left (by omega), Nat.add_comm 1, List.getElem?_cons_succ, cars_at cA it_M qm hm _ x hx, e1, e2, qct_z h2 rfl]
  · obtain ⟨x, hx, hx2⟩ := Option.map_eq_some_iff.mp h4
    have e1 : x.1 = qln r := congrArg Prod.fst hx2
    have e2 : x.2.1 = qty r := congrArg Prod.snd hx2
    have ep : posL r = 64 + (cps it_D).idxOf (r - 100) := by unfold posL; rw [if_neg (by omega), if_neg (by omega), if_neg (by omega), if_neg (by omega)]
    have ea : adL a0 a1 ao b qm qd r = qd.getD ((cps it_D).idxOf (r - 100)) 0 := by unfold adL; rw [if_neg (by omega), if_neg (by omega), if_neg (by omega), if_neg (by omega), if_neg (by omega)]
    rw [ep, ea]
    unfold wsL
    rw [List.getElem?_append_left (by omega), List.getElem?_append_right (by omega), l1, show 64 + (cps it_D).idxOf (r - 100) - 63 = (cps it_D).idxOf (r - 100) + 1 by omega, List.getElem?_cons_succ, cars_at cA it_D qd hd _ x hx, e1, e2, qct_z (by omega) rfl]
theorem law_P {D : va_G} {cA : Nat → ClassId} {A : Nat → Prop} {a0 a1 ao b : Nat} {qm qd : List Nat} {H : Heap} (hm : qm.length = it_M.length) (hd : qd.length = it_D.length) (hP : va_P D qcl (wsL cA a0 a1 ao qm qd) H) (hD : va_D A (wsL cA a0 a1 ao qm qd)) : va_P D qcl (qw (adL a0 a1 ao b qm qd) cA σz) H ∧ (∀ r ∈ qtb, ∀ r' ∈ qtb, adL a0 a1 ao b qm qd r = adL a0 a1 ao b qm qd r' → r = r') ∧ ∀ r ∈ qtb, A (adL a0 a1 ao b qm qd r) := by
  have h := wsL_at cA a0 a1 ao b qm qd hm hd
  refine ⟨fun k q hk => ?_, fun r hr r' hr' e => ?_, fun r hr => hD.2 _ _ (h r hr)⟩
  · rw [qw, List.getElem?_map] at hk
    cases hr : qtb[k]? with
    | none => rw [hr] at hk; cases hk
    | some r => rw [hr] at hk; cases hk; exact hP _ _ (h r (List.mem_of_getElem? hr))
  · have := hD.1 _ _ _ _ (h r hr) (h r' hr') e
    have key : ∀ r ∈ qtb, ∀ r' ∈ qtb, posL r = posL r' → r = r' := by decide +kernel
    exact key r hr r' hr' this

