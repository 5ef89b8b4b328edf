abbrev cit : Type := Nat × Nat × Nat × Nat
def ctT (t : Nat) : FieldType := if t = 0 then .int else if t = 1 then .long else .boolean
def ctA (t : Nat) : ArrayType := if t = 0 then .int else if t = 1 then .long else .boolean
def ct0 (n t : Nat) : vp_A := (n, if t = 1 then .inr (.inl (fun _ => 0)) else .inl (fun _ => 0))
theorem ct0_cell (n t : Nat) (cA : ClassId) : vp_cell cA (ct0 n t) = arrV cA n (fun _ => defaultValue (ctT t)) := by
  unfold ct0 ctT
  by_cases h1 : t = 1
  · subst h1; rfl
  · rw [if_neg h1]
    by_cases h0 : t = 0
    · rw [if_pos h0]; rfl
    · rw [if_neg h0, if_neg h1]; rfl
theorem ctA_ty (t : Nat) : newarray.typeOf (ctA t) = ctT t := by
  unfold ctA ctT
  split
  · rfl
  · split <;> rfl
def cpu (cc : ByteArray) (pc n w : Nat) : Prop := (w = 1 ∧ decode cc pc = .ok (.iconst (n : Int), 1)) ∨ (w = 2 ∧ decode cc pc = .ok (.bipush (n : Int), 2) ∧ (Int8.ofInt n).toInt32 = Int32.ofInt n) ∨ (w = 3 ∧ decode cc pc = .ok (.sipush (n : Int), 3) ∧ (Int16.ofInt n).toInt32 = Int32.ofInt n)
def cprog (cc : ByteArray) : Nat → List cit → Nat → Prop
  | pc, [], e => pc = e
  | pc, x :: t, e => ∃ w, decode cc pc = .ok (.aload_n 0, 1) ∧ cpu cc (pc + 1) x.1 w ∧ decode cc (pc + 1 + w) = .ok (.newarray (ctA x.2.1), 2) ∧ decode cc (pc + 1 + w + 2) = .ok (.putfield x.2.2.2, 3) ∧ cprog cc (pc + 1 + w + 2 + 3) t e
def cfs (fs : List Value) : List Nat → List cit → List Value
  | q :: qs, x :: t => cfs (fs.set x.2.2.1 (.ref q)) qs t
  | _, _ => fs
def cars (cA : Nat → ClassId) : List Nat → List cit → va_W
  | q :: qs, x :: t => (q, .inl (cA x.2.1, ct0 x.1 x.2.1)) :: cars cA qs t
  | _, _ => []
def csl : List cit → Nat
  | [] => 0
  | x :: t => x.1 + csl t
theorem cpu_W {p : Program} {l : Launch} {e : Env} {R : Room} {s : State} {m : MethodId} {args : Array Value} {below : List Frame} {meth : Method} {c : Code} {H : Heap} {locs : List Loc} {cells slots : Nat} {Q : State → Prop} {cc : ByteArray} {pc n w : Nat} {ls : Array Slot} {rest : List Value} (hx : p.tables.exec = Jvm.exec) (hb : c.code = cc) (h : cpu cc pc n w) (k : W p l e R s m args below meth c H locs cells slots Q (F0 m (pc + w) ls (.int (Int32.ofInt n) :: rest))) : W p l e R s m args below meth c H locs cells slots Q (F0 m pc ls rest) := by
  rcases h with ⟨rfl, h⟩ | ⟨rfl, h, hn⟩ | ⟨rfl, h, hn⟩
  · exact lv_iconst hx hb h rfl k
  · exact lv_bipush hx hb h hn k
  · exact lv_sipush hx hb h hn k
def cok1 (own : String) (T : u_T) (N : Nat) (ty0 : Nat → FieldType) (x : cit) : Prop := x.2.1 < 3 ∧ x.2.2.1 < N ∧ x.1 < 10000 ∧ Cond.fieldLink own x.2.2.2 (T x.2.2.1).1 (T x.2.2.1).2.1 (T x.2.2.1).2.2.1 ∈ lw_g ∧ (T x.2.2.1).2.2.2 = true ∧ (T x.2.2.1).1 = own ∧ ∀ q, narrow (ty0 x.2.2.1) (.ref q) = .ref q ∧ fits (ty0 x.2.2.1) (.ref q) = true
theorem ci_all {p : Program} {l : Launch} {e : Env} {R : Room} {s : State} {m : MethodId} {args : Array Value} {below : List Frame} {meth : Method} {c : Code} {Q : State → Prop} {cc : ByteArray} {ls : Array Slot} {own C : String} {T : u_T} {N ci pcE : Nat} {ty0 : Nat → FieldType} {D : va_G} {cA : Nat → ClassId} {A : Nat → Prop} {H0 : Heap} {a : Nat} {tys : List (ClassId × FieldType)}
    (hx : p.tables.exec = Jvm.exec) (hb : c.code = cc) (hts : ∀ w ∈ lw_g, w.before args s = true) (hown : s.vm.findClass own = some m.cls) (hin2 : meth.name = "<init>") (hK : va_K D qcl tys s) (hcl : qcl[ci]? = some (C, T, N)) (hin : ∀ w ∈ u_ws C T N, w ∈ lw_g) (hty : ∀ k, k < N → parseFieldDescriptor (T k).2.2.1 = some (ty0 k)) (hnm : ∀ a, a < N → ∀ b, b < N → a ≠ b → (T a).2.1 ≠ (T b).2.1) (harr : ∀ t, t < 3 → Cond.arrayClass (ctT t) ∈ lw_g) (hcA : ∀ t, t < 3 → s.vm.findClass ("[" ++ (ctT t).toString) = some (cA t)) (hl : ls[0]? = some (.val (.ref a))) (hA : ∀ q, H0.size ≤ q → A q) :
    ∀ (items : List cit) (pc : Nat) (fs : List Value) (arrs : va_W) (H : Heap) (locs : List Loc) (cells slots : Nat), cprog cc pc items pcE → (∀ x ∈ items, cok1 own T N ty0 x) → fs.length = N → cells + items.length ≤ R.cells → slots + csl items ≤ R.slots → va_P D qcl ((a, .inr (ci, fs)) :: arrs) H → va_D A ((a, .inr (ci, fs)) :: arrs) → va_S A H0 H locs →
      (∀ (H' : Heap) (locs' : List Loc) (qs : List Nat), qs.length = items.length → va_P D qcl ((a, .inr (ci, cfs fs qs items)) :: (arrs ++ cars cA qs items)) H' → va_D A ((a, .inr (ci, cfs fs qs items)) :: (arrs ++ cars cA qs items)) → va_S A H0 H' locs' → W p l e R s m args below meth c H' locs' (cells + items.length) (slots + csl items) Q (F0 m pcE ls [])) →
      W p l e R s m args below meth c H locs cells slots Q (F0 m pc ls []) := by
  intro items
  induction items with
  | nil =>
    intro pc fs arrs H locs cells slots hp _ _ _ _ hP hD hS kk
    have hp : pc = pcE := hp
    subst hp
    have := kk H locs [] rfl (by simpa [cfs, cars] using hP) (by simpa [cfs, cars] using hD) hS
    simpa [csl] using this
  | cons x t ih =>
    intro pc fs arrs H locs cells slots hp hok hfl hc hs hP hD hS kk
    obtain ⟨w, d1, d2, d3, d4, hp⟩ := hp
    obtain ⟨k1, k2, k3, k4, k5, k6, k7⟩ := hok x List.mem_cons_self
    simp only [List.length_cons] at hc
    simp only [csl] at hs
    refine lv_aload_n hx hb d1 rfl hl ?_
    refine cpu_W hx hb d2 ?_
    have r1 : r32 (x.1 : Int) := by unfold r32; omega
    have cb : componentBytes (ctT x.2.1) ≤ 8 := by
      unfold ctT
      split
      · decide
      · split <;> decide
    refine va_newaK (n := Int32.ofInt x.1) (N := x.1) hx hb (by rw [ctA_ty]; exact hts _ (harr _ k1)) rfl d3 rfl (i32_nn r1 (by omega)) (by rw [i32_clamp r1]; omega) (by rw [ctA_ty]; exact Nat.le_trans (Nat.mul_le_mul_left _ cb) (by omega)) (by omega) (by omega) rfl (fun H1 cB e1 z1 o1 hAr hNm => ?_)
    rw [ctA_ty] at e1 hAr hNm
    have hcB : cB = cA x.2.1 := by
      have := hcA _ k1
      rw [hNm] at this
      exact Option.some.inj this
    subst hcB
    have hk : ∀ (k : Nat) (y : Nat × va_E), ((a, .inr (ci, fs)) :: arrs : va_W)[k]? = some y → H1[y.1]? = H[y.1]? := fun k y hy => o1 y.1 ((hP k y hy).lt)
    have hP1 : va_P D qcl (((a, .inr (ci, fs)) :: arrs) ++ [(H.size, .inl (cA x.2.1, ct0 x.1 x.2.1))]) H1 := (hP.kept hk).app (fun k y hy => by
      have hz : k < 1 := (List.getElem?_eq_some_iff.mp hy).1
      rw [show k = 0 by omega] at hy
      cases hy
      show H1[H.size]? = some (vp_cell _ _)
      rw [ct0_cell]
      exact e1)
    have hD1 : va_D A (((a, .inr (ci, fs)) :: arrs) ++ [(H.size, .inl (cA x.2.1, ct0 x.1 x.2.1))]) := hD.push hP rfl (hA _ hS.1)
    have hS1 : va_S A H0 H1 locs := ⟨Nat.le_trans hS.1 (by omega), fun y h1 h2 => (o1 y (Nat.lt_of_lt_of_le h1 hS.1)).trans (hS.2.1 y h1 h2), hS.2.2⟩
    refine va_putF hx hb hts hin ty0 hty hnm hown hK hP1 hD1 hS1 0 rfl hcl x.2.2.1 k2 (hts _ k4) (fun _ h => h) k5 hin2 k6 (hty _ k2) (k7 H.size).1 (k7 H.size).2 (by rw [hfl]; exact k2) d4 (fun H2 locs2 hP2 hD2 hS2 => ?_)
    have hP3 : va_P D qcl ((a, .inr (ci, fs.set x.2.2.1 (.ref H.size))) :: (arrs ++ [(H.size, (.inl (cA x.2.1, ct0 x.1 x.2.1) : va_E))])) H2 := hP2
    have hD3 : va_D A ((a, .inr (ci, fs.set x.2.2.1 (.ref H.size))) :: (arrs ++ [(H.size, (.inl (cA x.2.1, ct0 x.1 x.2.1) : va_E))])) := hD2
    refine ih _ (fs.set x.2.2.1 (.ref H.size)) (arrs ++ [(H.size, (.inl (cA x.2.1, ct0 x.1 x.2.1) : va_E))]) H2 locs2 (cells + 1) (slots + x.1) hp (fun y hy => hok y (List.mem_cons_of_mem _ hy)) (by rw [List.length_set]; exact hfl) (by omega) (by omega) hP3 hD3 hS2 (fun H' locs' qs hq hP' hD' hS' => ?_)
    rw [List.append_assoc] at hP' hD'
    have := kk H' locs' (H.size :: qs) (by simp [hq]) hP' hD' hS'
    simp only [List.length_cons, csl] at this
    rw [show cells + 1 + t.length = cells + (t.length + 1) by omega, Nat.add_assoc slots]
    exact this
theorem cprog_c {cc : ByteArray} {pc : Nat} {x : cit} {t : List cit} {e : Nat} (w p1 p2 p3 p4 : Nat) (e1 : pc + 1 = p1) (e2 : p1 + w = p2) (e3 : p2 + 2 = p3) (e4 : p3 + 3 = p4) (d1 : decode cc pc = .ok (.aload_n 0, 1)) (d2 : cpu cc p1 x.1 w) (d3 : decode cc p2 = .ok (.newarray (ctA x.2.1), 2)) (d4 : decode cc p3 = .ok (.putfield x.2.2.2, 3)) (r : cprog cc p4 t e) : cprog cc pc (x :: t) e := by
  subst e1; subst e2; subst e3; subst e4
  exact ⟨w, d1, d2, d3, d4, r⟩
def inA (a sz : Nat) : Nat → Prop := fun q => q = a ∨ sz ≤ q
def inP (D : va_G) (cA : Nat → ClassId) (ci : Nat) (fs : List Value) (a sz : Nat) : Array Value → State → Prop := va_Pc [.ref a] (fun U => U.heap.size = sz ∧ va_P D qcl [(a, .inr (ci, fs))] U.heap ∧ va_K D qcl [(cA 0, .int), (cA 1, .long), (cA 2, .boolean)] U)
def inQ (D : va_G) (cA : Nat → ClassId) (ci : Nat) (fs : List Value) (items : List cit) (a sz : Nat) : Array Value → State → Outcome → State → Prop := fun _ st o t => o = .returned none ∧ (∃ qs : List Nat, qs.length = items.length ∧ va_P D qcl ((a, .inr (ci, cfs fs qs items)) :: cars cA qs items) t.heap ∧ va_D (inA a sz) ((a, .inr (ci, cfs fs qs items)) :: cars cA qs items)) ∧ va_F (inA a sz) st t
theorem init_met (l : Launch) (D : va_G) (cA : Nat → ClassId) {y : MethodName} {own C : String} {T : u_T} {N ci pcE io : Nat} {ty0 : Nat → FieldType} {cc : ByteArray} {rm : Room} {items : List cit} (a sz : Nat) (fs : List Value)
    (hy : plainName y.cls = true) (hy2 : y.name = "<init>") (hown : y.cls = own) (hrm : rm.cells = items.length ∧ rm.slots = csl items ∧ 1 ≤ rm.frames ∧ 12 ≤ rm.locals) (hcl : qcl[ci]? = some (C, T, N)) (hin : ∀ w ∈ u_ws C T N, w ∈ lw_g) (hty : ∀ k, k < N → parseFieldDescriptor (T k).2.2.1 = some (ty0 k)) (hnm : ∀ a, a < N → ∀ b, b < N → a ≠ b → (T a).2.1 ≠ (T b).2.1) (harr : ∀ t, t < 3 → Cond.arrayClass (ctT t) ∈ lw_g)
    (ho1 : Cond.methodLink own io Lib.objectInit ∈ lw_g) (ho2 : Cond.instanceMethod Lib.objectInit ∈ lw_g) (ho3 : Cond.code Lib.objectInit ⟨#[0xb1]⟩ 1 none ∈ lw_g)
    (d0 : decode cc 0 = .ok (.aload_n 0, 1)) (d1 : decode cc 1 = .ok (.invokespecial io, 3)) (hp : cprog cc 4 items pcE) (dr : decode cc pcE = .ok (.return_, 1)) (hok : ∀ x ∈ items, cok1 own T N ty0 x) (hfs : fs.length = N) :
    Met l y (Cond.code y cc 1 none :: lw_g) rm (inP D cA ci fs a sz) (inQ D cA ci fs items a sz) items.length (csl items) (inA a sz) := by
  refine Met.ofW (cc := cc) (maxL := 1) (ret := none) hy rfl ?_
  intro p e s m args below meth c s₁ B hml hv
  obtain ⟨rfl, hsz, hP, hK⟩ := hv
  have hts := atoms_spec (ws := Cond.code y cc 1 none :: lw_g) B.pre
  have hts' : ∀ w ∈ lw_g, w.before (#[Value.ref a] : Array Value) s = true := fun w hw => hts w (List.mem_cons_of_mem _ hw)
  have hown' : s.vm.findClass own = some m.cls := by rw [← hown]; exact findClass_of_methodNamed B.named
  have hlocks := B.notSynchronized
  have hname : meth.name = "<init>" := by rw [(name_of_methodNamed B.named B.method).1, hy2]
  subst hsz
  have hD : va_D (inA a s.heap.size) [(a, (.inr (ci, fs) : va_E))] := by
    refine ⟨fun i j x y hx hy' _ => ?_, fun k q hq => ?_⟩
    · have h1 : i < 1 := (List.getElem?_eq_some_iff.mp hx).1
      have h2 : j < 1 := (List.getElem?_eq_some_iff.mp hy').1
      omega
    · have h1 : k < 1 := (List.getElem?_eq_some_iff.mp hq).1
      rw [show k = 0 by omega] at hq
      cases hq
      exact Or.inl rfl
  have hl := lv_entry ([.ref a]) (n := 1) (Nat.le_of_ble_eq_true rfl)
  rw [lg_entry_eq]
  generalize (lg_sl ([.ref a]) ++ List.replicate (1 - (lg_sl ([.ref a])).length) Slot.unset).toArray = ls at hl ⊢
  have hl : lv_has ls 1 [(0, .ref a)] := hl
  have hl0 : ls[0]? = some (.val (.ref a)) := lv_at hl 0 rfl
  refine lv_aload_n B.exec B.bytes d0 rfl hl0 ?_
  refine W.objInit B.exec B.bytes hown' (hts' _ ho1) (hts' _ ho2) (hts' _ ho3) rfl (by rw [hml]; exact hl.1) rfl d1 hrm.2.2.1 (by show 2 * 0 + 0 + 12 ≤ _; exact hrm.2.2.2) ?_
  refine W.eq (g2 := F0 m 4 ls []) rfl ?_
  have hcA : ∀ t, t < 3 → s.vm.findClass ("[" ++ (ctT t).toString) = some (cA t) := by
    intro t ht
    have h3 : t = 0 ∨ t = 1 ∨ t = 2 := by omega
    rcases h3 with rfl | rfl | rfl
    · exact (hK.2 0 _ rfl).2
    · exact (hK.2 1 _ rfl).2
    · exact (hK.2 2 _ rfl).2
  refine ci_all (pcE := pcE) (A := inA a s.heap.size) (H0 := s.heap) B.exec B.bytes hts' hown' hname hK hcl hin hty hnm harr hcA hl0 (fun q h => Or.inr h) items 4 fs [] s.heap [] 0 0 hp hok hfs (by show 0 + _ ≤ rm.cells; rw [hrm.1]; omega) (by show 0 + _ ≤ rm.slots; rw [hrm.2.1]; omega) hP hD va_S.rf (fun H' locs' qs hq hP' hD' hS' => ?_)
  rw [Nat.zero_add, Nat.zero_add]
  exact W.vret B.exec B.bytes B.returns (fun t ht hW => ⟨rfl, ⟨qs, hq, by rw [ht]; exact hP', hD'⟩, hS'.F ht⟩) hS'.2.2 dr

