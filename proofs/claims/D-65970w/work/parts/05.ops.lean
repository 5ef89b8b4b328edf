section Q5
variable {p : Program} {l : Launch} {e : Env} {R : Room} {s : State} {m : MethodId} {args : Array Value} {below : List Frame} {meth : Method} {c : Code} {cc : ByteArray} {nL : Nat} {own : String} {ad : Nat → Nat} {D : va_G} {cA : Nat → ClassId} {A : Nat → Prop} {cells slots : Nat} {Q : State → Prop} {pc : Nat} {K : qP}
theorem q_istore (X : qX p s m args meth c cc nL own ad D cA A) {i : Nat} (d : decode cc pc = .ok (.istore i, 2)) (hi : i < nL) (h : qle K (qWW p l e R s m args below meth c nL ad D cA A cells slots Q) (pc + 2)) : qle (o_is i K) (qWW p l e R s m args below meth c nL ad D cA A cells slots Q) pc := by
  intro st ls σ k o1 o2 o3 H locs la hP hS hl
  unfold o_is at k
  split at k
  next z st =>
    have q := List.forall_mem_cons.mp o1
    exact lv_istore X.1 X.2.1 d (qlr_has hl) hi rfl (fun la' h' => h _ _ σ k q.2 (ls1_ok o2 q.1) o3 H locs la' hP hS (qlr_o1 (v := .inl z) hl h'))
  next => exact k.elim
theorem q_istore_n (X : qX p s m args meth c cc nL own ad D cA A) {j : Fin 4} {i : Nat} (d : decode cc pc = .ok (.istore_n j, 1)) (hj : (j : Nat) = i) (hi : i < nL) (h : qle K (qWW p l e R s m args below meth c nL ad D cA A cells slots Q) (pc + 1)) : qle (o_is i K) (qWW p l e R s m args below meth c nL ad D cA A cells slots Q) pc := by
  intro st ls σ k o1 o2 o3 H locs la hP hS hl
  unfold o_is at k
  split at k
  next z st =>
    have q := List.forall_mem_cons.mp o1
    exact lv_istore_n X.1 X.2.1 d hj (qlr_has hl) hi rfl (fun la' h' => h _ _ σ k q.2 (ls1_ok o2 q.1) o3 H locs la' hP hS (qlr_o1 (v := .inl z) hl h'))
  next => exact k.elim
theorem q_astore (X : qX p s m args meth c cc nL own ad D cA A) {i : Nat} (d : decode cc pc = .ok (.astore i, 2)) (hi : i < nL) (h : qle K (qWW p l e R s m args below meth c nL ad D cA A cells slots Q) (pc + 2)) : qle (o_as i K) (qWW p l e R s m args below meth c nL ad D cA A cells slots Q) pc := by
  intro st ls σ k o1 o2 o3 H locs la hP hS hl
  unfold o_as at k
  split at k
  next z st =>
    have q := List.forall_mem_cons.mp o1
    exact lv_astore X.1 X.2.1 d (qlr_has hl) hi rfl (fun la' h' => h _ _ σ k q.2 (ls1_ok o2 q.1) o3 H locs la' hP hS (qlr_o1 (v := .inr (.inr z)) hl h'))
  next => exact k.elim
theorem q_astore_n (X : qX p s m args meth c cc nL own ad D cA A) {j : Fin 4} {i : Nat} (d : decode cc pc = .ok (.astore_n j, 1)) (hj : (j : Nat) = i) (hi : i < nL) (h : qle K (qWW p l e R s m args below meth c nL ad D cA A cells slots Q) (pc + 1)) : qle (o_as i K) (qWW p l e R s m args below meth c nL ad D cA A cells slots Q) pc := by
  intro st ls σ k o1 o2 o3 H locs la hP hS hl
  unfold o_as at k
  split at k
  next z st =>
    have q := List.forall_mem_cons.mp o1
    exact lv_astore_n X.1 X.2.1 d hj (qlr_has hl) hi rfl (fun la' h' => h _ _ σ k q.2 (ls1_ok o2 q.1) o3 H locs la' hP hS (qlr_o1 (v := .inr (.inr z)) hl h'))
  next => exact k.elim
theorem q_lstore (X : qX p s m args meth c cc nL own ad D cA A) {i : Nat} (d : decode cc pc = .ok (.lstore i, 2)) (hi : i + 1 < nL) (h : qle K (qWW p l e R s m args below meth c nL ad D cA A cells slots Q) (pc + 2)) : qle (o_ls i K) (qWW p l e R s m args below meth c nL ad D cA A cells slots Q) pc := by
  intro st ls σ k o1 o2 o3 H locs la hP hS hl
  unfold o_ls at k
  split at k
  next z st =>
    have q := List.forall_mem_cons.mp o1
    exact lv_lstore X.1 X.2.1 d (qlr_has hl) hi rfl (fun la' h' => h _ _ σ k q.2 (ls2_ok o2 q.1) o3 H locs la' hP hS (qlr_o2 (v := .inr (.inl z)) hl h'))
  next => exact k.elim
theorem q_lstore_n (X : qX p s m args meth c cc nL own ad D cA A) {j : Fin 4} {i : Nat} (d : decode cc pc = .ok (.lstore_n j, 1)) (hj : (j : Nat) = i) (hi : i + 1 < nL) (h : qle K (qWW p l e R s m args below meth c nL ad D cA A cells slots Q) (pc + 1)) : qle (o_ls i K) (qWW p l e R s m args below meth c nL ad D cA A cells slots Q) pc := by
  intro st ls σ k o1 o2 o3 H locs la hP hS hl
  unfold o_ls at k
  split at k
  next z st =>
    have q := List.forall_mem_cons.mp o1
    exact lv_lstore_n X.1 X.2.1 d hj (qlr_has hl) hi rfl (fun la' h' => h _ _ σ k q.2 (ls2_ok o2 q.1) o3 H locs la' hP hS (qlr_o2 (v := .inr (.inl z)) hl h'))
  next => exact k.elim
theorem q_iinc (X : qX p s m args meth c cc nL own ad D cA A) {i : Nat} {n : Int} (d : decode cc pc = .ok (.iinc i n, 3)) (hi : i < nL) (h : qle K (qWW p l e R s m args below meth c nL ad D cA A cells slots Q) (pc + 3)) : qle (o_inc i n K) (qWW p l e R s m args below meth c nL ad D cA A cells slots Q) pc := by
  intro st ls σ k o1 o2 o3 H locs la hP hS hl
  unfold o_inc at k
  split at k
  next z hz =>
    have hm : (i, qv ad (.inl z)) ∈ qas ad ls := qas_mem.mpr ⟨_, qgetD.mp hz, rfl⟩
    obtain ⟨j, hj⟩ := List.getElem?_of_mem hm
    have hv : Int32.ofInt z + Int32.ofInt n = Int32.ofInt (w32 (z + n)) := by rw [i32_w, Int32.ofInt_add]
    exact lv_iinc X.1 X.2.1 d (qlr_has hl) hj hv hi rfl (fun la' h' => h _ _ σ k o1 (ls1_ok o2 (w32_r _)) o3 H locs la' hP hS (qlr_o1 (v := .inl (w32 (z + n))) hl h'))
  next => exact k.elim
theorem q_iadd (X : qX p s m args meth c cc nL own ad D cA A) (d : decode cc pc = .ok (.iadd, 1)) (h : qle K (qWW p l e R s m args below meth c nL ad D cA A cells slots Q) (pc + 1)) : qle (o_bi z_add K) (qWW p l e R s m args below meth c nL ad D cA A cells slots Q) pc := by
  intro st ls σ k o1 o2 o3 H locs la hP hS hl
  unfold o_bi at k
  split at k
  next b a st =>
    have q := (List.forall_mem_cons.mp (List.forall_mem_cons.mp o1).2).2
    have he : Int32.ofInt a + Int32.ofInt b = Int32.ofInt (z_add a b) := by show Int32.ofInt a + Int32.ofInt b = Int32.ofInt (w32 (a + b)); rw [i32_w, Int32.ofInt_add]
    refine lv_iadd X.1 X.2.1 d ?_
    rw [he]
    exact h _ _ σ k (List.forall_mem_cons.mpr ⟨w32_r _, q⟩) o2 o3 H locs la hP hS hl
  next => exact k.elim
theorem q_isub (X : qX p s m args meth c cc nL own ad D cA A) (d : decode cc pc = .ok (.isub, 1)) (h : qle K (qWW p l e R s m args below meth c nL ad D cA A cells slots Q) (pc + 1)) : qle (o_bi z_sub K) (qWW p l e R s m args below meth c nL ad D cA A cells slots Q) pc := by
  intro st ls σ k o1 o2 o3 H locs la hP hS hl
  unfold o_bi at k
  split at k
  next b a st =>
    have q := (List.forall_mem_cons.mp (List.forall_mem_cons.mp o1).2).2
    have he : Int32.ofInt a - Int32.ofInt b = Int32.ofInt (z_sub a b) := by show Int32.ofInt a - Int32.ofInt b = Int32.ofInt (w32 (a - b)); rw [i32_w, Int32.ofInt_sub]
    refine lv_isub X.1 X.2.1 d ?_
    rw [he]
    exact h _ _ σ k (List.forall_mem_cons.mpr ⟨w32_r _, q⟩) o2 o3 H locs la hP hS hl
  next => exact k.elim
theorem q_imul (X : qX p s m args meth c cc nL own ad D cA A) (d : decode cc pc = .ok (.imul, 1)) (h : qle K (qWW p l e R s m args below meth c nL ad D cA A cells slots Q) (pc + 1)) : qle (o_bi z_mul K) (qWW p l e R s m args below meth c nL ad D cA A cells slots Q) pc := by
  intro st ls σ k o1 o2 o3 H locs la hP hS hl
  unfold o_bi at k
  split at k
  next b a st =>
    have q := (List.forall_mem_cons.mp (List.forall_mem_cons.mp o1).2).2
    have he : Int32.ofInt a * Int32.ofInt b = Int32.ofInt (z_mul a b) := by show Int32.ofInt a * Int32.ofInt b = Int32.ofInt (w32 (a * b)); rw [i32_w, Int32.ofInt_mul]
    refine lv_imul X.1 X.2.1 d ?_
    rw [he]
    exact h _ _ σ k (List.forall_mem_cons.mpr ⟨w32_r _, q⟩) o2 o3 H locs la hP hS hl
  next => exact k.elim
theorem q_iand (X : qX p s m args meth c cc nL own ad D cA A) (d : decode cc pc = .ok (.iand, 1)) (h : qle K (qWW p l e R s m args below meth c nL ad D cA A cells slots Q) (pc + 1)) : qle (o_bi z_and K) (qWW p l e R s m args below meth c nL ad D cA A cells slots Q) pc := by
  intro st ls σ k o1 o2 o3 H locs la hP hS hl
  unfold o_bi at k
  split at k
  next b a st =>
    have q := (List.forall_mem_cons.mp (List.forall_mem_cons.mp o1).2).2
    have he : Int32.ofInt a &&& Int32.ofInt b = Int32.ofInt (z_and a b) := by show _ = Int32.ofInt (Int32.toInt _); rw [Int32.ofInt_toInt]
    refine lv_iand X.1 X.2.1 d ?_
    rw [he]
    exact h _ _ σ k (List.forall_mem_cons.mpr ⟨i32_r _, q⟩) o2 o3 H locs la hP hS hl
  next => exact k.elim
theorem q_ishr (X : qX p s m args meth c cc nL own ad D cA A) (d : decode cc pc = .ok (.ishr, 1)) (h : qle K (qWW p l e R s m args below meth c nL ad D cA A cells slots Q) (pc + 1)) : qle (o_bi z_shr K) (qWW p l e R s m args below meth c nL ad D cA A cells slots Q) pc := by
  intro st ls σ k o1 o2 o3 H locs la hP hS hl
  unfold o_bi at k
  split at k
  next b a st =>
    have q := (List.forall_mem_cons.mp (List.forall_mem_cons.mp o1).2).2
    have he : Int32.ofInt a >>> (Int32.ofInt b &&& 31) = Int32.ofInt (z_shr a b) := by show _ = Int32.ofInt (Int32.toInt _); rw [Int32.ofInt_toInt]
    refine lv_ishr X.1 X.2.1 d ?_
    rw [he]
    exact h _ _ σ k (List.forall_mem_cons.mpr ⟨i32_r _, q⟩) o2 o3 H locs la hP hS hl
  next => exact k.elim
theorem q_iushr (X : qX p s m args meth c cc nL own ad D cA A) (d : decode cc pc = .ok (.iushr, 1)) (h : qle K (qWW p l e R s m args below meth c nL ad D cA A cells slots Q) (pc + 1)) : qle (o_bi z_ushr K) (qWW p l e R s m args below meth c nL ad D cA A cells slots Q) pc := by
  intro st ls σ k o1 o2 o3 H locs la hP hS hl
  unfold o_bi at k
  split at k
  next b a st =>
    have q := (List.forall_mem_cons.mp (List.forall_mem_cons.mp o1).2).2
    have he : ((Int32.ofInt a).toUInt32 >>> ((Int32.ofInt b).toUInt32 &&& Int32.toUInt32 31)).toInt32 = Int32.ofInt (z_ushr a b) := by show _ = Int32.ofInt (Int32.toInt _); rw [Int32.ofInt_toInt]
    exact lv_iushr X.1 X.2.1 d he (h _ _ σ k (List.forall_mem_cons.mpr ⟨i32_r _, q⟩) o2 o3 H locs la hP hS hl)
  next => exact k.elim
theorem i32_div {a b : Int} (ha : r32 a) (hb : r32 b) : Int32.ofInt a / Int32.ofInt b = Int32.ofInt (z_div a b) := by
  rw [z_div, i32_w]
  apply Int32.toInt_inj.mp
  rw [Int32.toInt_div, i32_t ha, i32_t hb, Int32.toInt_ofInt]
theorem i64_div {a b : Int} (ha : r64 a) (hb : r64 b) : Int64.ofInt a / Int64.ofInt b = Int64.ofInt (y_div a b) := by
  rw [y_div, i64_w]
  apply Int64.toInt_inj.mp
  rw [Int64.toInt_div, i64_t ha, i64_t hb, Int64.toInt_ofInt]
theorem tmod_r32 {a b : Int} (ha : r32 a) : r32 (a.tmod b) := by
  unfold r32 at *
  have h := Int.natAbs_tmod a b
  have h2 : a.natAbs % b.natAbs ≤ a.natAbs := Nat.mod_le _ _
  have h3 : 0 ≤ a → 0 ≤ a.tmod b := fun h => Int.tmod_nonneg b h
  have h4 : 0 ≤ -a → 0 ≤ (-a).tmod b := fun h => Int.tmod_nonneg b h
  rw [Int.neg_tmod] at h4
  omega
theorem tmod_r64 {a b : Int} (ha : r64 a) : r64 (a.tmod b) := by
  unfold r64 at *
  have h := Int.natAbs_tmod a b
  have h2 : a.natAbs % b.natAbs ≤ a.natAbs := Nat.mod_le _ _
  have h3 : 0 ≤ a → 0 ≤ a.tmod b := fun h => Int.tmod_nonneg b h
  have h4 : 0 ≤ -a → 0 ≤ (-a).tmod b := fun h => Int.tmod_nonneg b h
  rw [Int.neg_tmod] at h4
  omega
theorem i32_rem {a b : Int} (ha : r32 a) (hb : r32 b) : Int32.ofInt a - Int32.ofInt a / Int32.ofInt b * Int32.ofInt b = Int32.ofInt (z_rem a b) := by
  rw [irem_eq_mod]
  apply Int32.toInt_inj.mp
  rw [Int32.toInt_mod, i32_t ha, i32_t hb, z_rem, i32_t (tmod_r32 ha)]
theorem lrem_eq (x y : Int64) : x - (x / y) * y = x % y := by
  apply Int64.toInt_inj.mp
  have h1 := Int64.le_toInt (x % y)
  have h2 := Int64.toInt_lt (x % y)
  rw [Int64.toInt_sub, Int64.toInt_mul, Int64.toInt_div, Int.bmod_mul_bmod, Int.sub_bmod_bmod, Int.mul_comm (x.toInt.tdiv y.toInt), ← Int.tmod_def, ← Int64.toInt_mod]
  exact Int.bmod_eq_of_le_mul_two (by omega) (by omega)
theorem i64_rem {a b : Int} (ha : r64 a) (hb : r64 b) : Int64.ofInt a - Int64.ofInt a / Int64.ofInt b * Int64.ofInt b = Int64.ofInt (y_rem a b) := by
  rw [lrem_eq]
  apply Int64.toInt_inj.mp
  rw [Int64.toInt_mod, i64_t ha, i64_t hb, y_rem, i64_t (tmod_r64 ha)]
theorem q_idiv (X : qX p s m args meth c cc nL own ad D cA A) (d : decode cc pc = .ok (.idiv, 1)) (h : qle K (qWW p l e R s m args below meth c nL ad D cA A cells slots Q) (pc + 1)) : qle (o_bid z_div K) (qWW p l e R s m args below meth c nL ad D cA A cells slots Q) pc := by
  intro st ls σ k o1 o2 o3 H locs la hP hS hl
  unfold o_bid at k
  split at k
  next b a st =>
    obtain ⟨q0, q1, q⟩ : r32 b ∧ r32 a ∧ ∀ v ∈ st, qok v := ⟨(List.forall_mem_cons.mp o1).1, List.forall_mem_cons.mp (List.forall_mem_cons.mp o1).2⟩
    refine lv_idiv X.1 X.2.1 d (fun z => k.1 ((i32_eq q0 r32_0).mp z)) ?_
    rw [i32_div q1 q0]
    exact h _ _ σ k.2 (List.forall_mem_cons.mpr ⟨w32_r _, q⟩) o2 o3 H locs la hP hS hl
  next => exact k.elim
theorem q_irem (X : qX p s m args meth c cc nL own ad D cA A) (d : decode cc pc = .ok (.irem, 1)) (h : qle K (qWW p l e R s m args below meth c nL ad D cA A cells slots Q) (pc + 1)) : qle (o_bid z_rem K) (qWW p l e R s m args below meth c nL ad D cA A cells slots Q) pc := by
  intro st ls σ k o1 o2 o3 H locs la hP hS hl
  unfold o_bid at k
  split at k
  next b a st =>
    obtain ⟨q0, q1, q⟩ : r32 b ∧ r32 a ∧ ∀ v ∈ st, qok v := ⟨(List.forall_mem_cons.mp o1).1, List.forall_mem_cons.mp (List.forall_mem_cons.mp o1).2⟩
    refine lv_irem X.1 X.2.1 d (fun z => k.1 ((i32_eq q0 r32_0).mp z)) ?_
    rw [i32_rem q1 q0]
    exact h _ _ σ k.2 (List.forall_mem_cons.mpr ⟨tmod_r32 q1, q⟩) o2 o3 H locs la hP hS hl
  next => exact k.elim
theorem q_ldiv (X : qX p s m args meth c cc nL own ad D cA A) (d : decode cc pc = .ok (.ldiv, 1)) (h : qle K (qWW p l e R s m args below meth c nL ad D cA A cells slots Q) (pc + 1)) : qle (o_bld y_div K) (qWW p l e R s m args below meth c nL ad D cA A cells slots Q) pc := by
  intro st ls σ k o1 o2 o3 H locs la hP hS hl
  unfold o_bld at k
  split at k
  next b a st =>
    obtain ⟨q0, q1, q⟩ : r64 b ∧ r64 a ∧ ∀ v ∈ st, qok v := ⟨(List.forall_mem_cons.mp o1).1, List.forall_mem_cons.mp (List.forall_mem_cons.mp o1).2⟩
    refine lv_ldiv X.1 X.2.1 d (fun z => k.1 ((i64_eq q0 (by unfold r64; omega)).mp z)) ?_
    rw [i64_div q1 q0]
    exact h _ _ σ k.2 (List.forall_mem_cons.mpr ⟨w64_r _, q⟩) o2 o3 H locs la hP hS hl
  next => exact k.elim
theorem q_lrem (X : qX p s m args meth c cc nL own ad D cA A) (d : decode cc pc = .ok (.lrem, 1)) (h : qle K (qWW p l e R s m args below meth c nL ad D cA A cells slots Q) (pc + 1)) : qle (o_bld y_rem K) (qWW p l e R s m args below meth c nL ad D cA A cells slots Q) pc := by
  intro st ls σ k o1 o2 o3 H locs la hP hS hl
  unfold o_bld at k
  split at k
  next b a st =>
    obtain ⟨q0, q1, q⟩ : r64 b ∧ r64 a ∧ ∀ v ∈ st, qok v := ⟨(List.forall_mem_cons.mp o1).1, List.forall_mem_cons.mp (List.forall_mem_cons.mp o1).2⟩
    refine lv_lrem X.1 X.2.1 d (fun z => k.1 ((i64_eq q0 (by unfold r64; omega)).mp z)) ?_
    rw [i64_rem q1 q0]
    exact h _ _ σ k.2 (List.forall_mem_cons.mpr ⟨tmod_r64 q1, q⟩) o2 o3 H locs la hP hS hl
  next => exact k.elim
theorem q_ladd (X : qX p s m args meth c cc nL own ad D cA A) (d : decode cc pc = .ok (.ladd, 1)) (h : qle K (qWW p l e R s m args below meth c nL ad D cA A cells slots Q) (pc + 1)) : qle (o_bl y_add K) (qWW p l e R s m args below meth c nL ad D cA A cells slots Q) pc := by
  intro st ls σ k o1 o2 o3 H locs la hP hS hl
  unfold o_bl at k
  split at k
  next b a st =>
    have q := (List.forall_mem_cons.mp (List.forall_mem_cons.mp o1).2).2
    have he : Int64.ofInt a + Int64.ofInt b = Int64.ofInt (y_add a b) := by show _ = Int64.ofInt (w64 (a + b)); rw [i64_w, Int64.ofInt_add]
    refine lv_ladd X.1 X.2.1 d ?_
    rw [he]
    exact h _ _ σ k (List.forall_mem_cons.mpr ⟨w64_r _, q⟩) o2 o3 H locs la hP hS hl
  next => exact k.elim
theorem q_lsub (X : qX p s m args meth c cc nL own ad D cA A) (d : decode cc pc = .ok (.lsub, 1)) (h : qle K (qWW p l e R s m args below meth c nL ad D cA A cells slots Q) (pc + 1)) : qle (o_bl y_sub K) (qWW p l e R s m args below meth c nL ad D cA A cells slots Q) pc := by
  intro st ls σ k o1 o2 o3 H locs la hP hS hl
  unfold o_bl at k
  split at k
  next b a st =>
    have q := (List.forall_mem_cons.mp (List.forall_mem_cons.mp o1).2).2
    have he : Int64.ofInt a - Int64.ofInt b = Int64.ofInt (y_sub a b) := by show _ = Int64.ofInt (w64 (a - b)); rw [i64_w, Int64.ofInt_sub]
    refine lv_lsub X.1 X.2.1 d ?_
    rw [he]
    exact h _ _ σ k (List.forall_mem_cons.mpr ⟨w64_r _, q⟩) o2 o3 H locs la hP hS hl
  next => exact k.elim
theorem q_lmul (X : qX p s m args meth c cc nL own ad D cA A) (d : decode cc pc = .ok (.lmul, 1)) (h : qle K (qWW p l e R s m args below meth c nL ad D cA A cells slots Q) (pc + 1)) : qle (o_bl y_mul K) (qWW p l e R s m args below meth c nL ad D cA A cells slots Q) pc := by
  intro st ls σ k o1 o2 o3 H locs la hP hS hl
  unfold o_bl at k
  split at k
  next b a st =>
    have q := (List.forall_mem_cons.mp (List.forall_mem_cons.mp o1).2).2
    have he : Int64.ofInt a * Int64.ofInt b = Int64.ofInt (y_mul a b) := by show _ = Int64.ofInt (w64 (a * b)); rw [i64_w, Int64.ofInt_mul]
    refine lv_lmul X.1 X.2.1 d ?_
    rw [he]
    exact h _ _ σ k (List.forall_mem_cons.mpr ⟨w64_r _, q⟩) o2 o3 H locs la hP hS hl
  next => exact k.elim
theorem q_lxor (X : qX p s m args meth c cc nL own ad D cA A) (d : decode cc pc = .ok (.lxor, 1)) (h : qle K (qWW p l e R s m args below meth c nL ad D cA A cells slots Q) (pc + 1)) : qle (o_bl y_xor K) (qWW p l e R s m args below meth c nL ad D cA A cells slots Q) pc := by
  intro st ls σ k o1 o2 o3 H locs la hP hS hl
  unfold o_bl at k
  split at k
  next b a st =>
    have q := (List.forall_mem_cons.mp (List.forall_mem_cons.mp o1).2).2
    have he : Int64.ofInt a ^^^ Int64.ofInt b = Int64.ofInt (y_xor a b) := by show _ = Int64.ofInt (Int64.toInt _); rw [Int64.ofInt_toInt]
    refine lv_lxor X.1 X.2.1 d ?_
    rw [he]
    exact h _ _ σ k (List.forall_mem_cons.mpr ⟨i64_r _, q⟩) o2 o3 H locs la hP hS hl
  next => exact k.elim
theorem q_land (X : qX p s m args meth c cc nL own ad D cA A) (d : decode cc pc = .ok (.land, 1)) (h : qle K (qWW p l e R s m args below meth c nL ad D cA A cells slots Q) (pc + 1)) : qle (o_bl y_and K) (qWW p l e R s m args below meth c nL ad D cA A cells slots Q) pc := by
  intro st ls σ k o1 o2 o3 H locs la hP hS hl
  unfold o_bl at k
  split at k
  next b a st =>
    have q := (List.forall_mem_cons.mp (List.forall_mem_cons.mp o1).2).2
    have he : Int64.ofInt a &&& Int64.ofInt b = Int64.ofInt (y_and a b) := by show _ = Int64.ofInt (Int64.toInt _); rw [Int64.ofInt_toInt]
    refine lv_land X.1 X.2.1 d ?_
    rw [he]
    exact h _ _ σ k (List.forall_mem_cons.mpr ⟨i64_r _, q⟩) o2 o3 H locs la hP hS hl
  next => exact k.elim
theorem q_lor (X : qX p s m args meth c cc nL own ad D cA A) (d : decode cc pc = .ok (.lor, 1)) (h : qle K (qWW p l e R s m args below meth c nL ad D cA A cells slots Q) (pc + 1)) : qle (o_bl y_or K) (qWW p l e R s m args below meth c nL ad D cA A cells slots Q) pc := by
  intro st ls σ k o1 o2 o3 H locs la hP hS hl
  unfold o_bl at k
  split at k
  next b a st =>
    have q := (List.forall_mem_cons.mp (List.forall_mem_cons.mp o1).2).2
    have he : Int64.ofInt a ||| Int64.ofInt b = Int64.ofInt (y_or a b) := by show _ = Int64.ofInt (Int64.toInt _); rw [Int64.ofInt_toInt]
    refine lv_lor X.1 X.2.1 d ?_
    rw [he]
    exact h _ _ σ k (List.forall_mem_cons.mpr ⟨i64_r _, q⟩) o2 o3 H locs la hP hS hl
  next => exact k.elim
theorem q_lshl (X : qX p s m args meth c cc nL own ad D cA A) (d : decode cc pc = .ok (.lshl, 1)) (h : qle K (qWW p l e R s m args below meth c nL ad D cA A cells slots Q) (pc + 1)) : qle (o_sl y_shl K) (qWW p l e R s m args below meth c nL ad D cA A cells slots Q) pc := by
  intro st ls σ k o1 o2 o3 H locs la hP hS hl
  unfold o_sl at k
  split at k
  next b a st =>
    have q := (List.forall_mem_cons.mp (List.forall_mem_cons.mp o1).2).2
    exact lv_lshl X.1 X.2.1 d (v := Int64.ofInt (y_shl a b)) (by show _ = Int64.ofInt (Int64.toInt _); rw [Int64.ofInt_toInt]) (h _ _ σ k (List.forall_mem_cons.mpr ⟨i64_r _, q⟩) o2 o3 H locs la hP hS hl)
  next => exact k.elim
theorem q_lushr (X : qX p s m args meth c cc nL own ad D cA A) (d : decode cc pc = .ok (.lushr, 1)) (h : qle K (qWW p l e R s m args below meth c nL ad D cA A cells slots Q) (pc + 1)) : qle (o_sl y_ushr K) (qWW p l e R s m args below meth c nL ad D cA A cells slots Q) pc := by
  intro st ls σ k o1 o2 o3 H locs la hP hS hl
  unfold o_sl at k
  split at k
  next b a st =>
    have q := (List.forall_mem_cons.mp (List.forall_mem_cons.mp o1).2).2
    exact lv_lushr X.1 X.2.1 d (v := Int64.ofInt (y_ushr a b)) (by show _ = Int64.ofInt (Int64.toInt _); rw [Int64.ofInt_toInt]) (h _ _ σ k (List.forall_mem_cons.mpr ⟨i64_r _, q⟩) o2 o3 H locs la hP hS hl)
  next => exact k.elim
theorem i2l_eq {a : Int} (h : r32 a) : (Int32.ofInt a).toInt64 = Int64.ofInt a := by
  apply Int64.toInt_inj.mp
  rw [Int32.toInt_toInt64, i32_t h, i64_t]
  unfold r32 at h; unfold r64; omega
theorem l2i_eq {a : Int} (h : r64 a) : (Int64.ofInt a).toInt32 = Int32.ofInt (w32 a) := by
  rw [i32_w, ← Int32.ofInt_int64ToInt, i64_t h]
theorem q_i2l (X : qX p s m args meth c cc nL own ad D cA A) (d : decode cc pc = .ok (.i2l, 1)) (h : qle K (qWW p l e R s m args below meth c nL ad D cA A cells slots Q) (pc + 1)) : qle (o_i2l K) (qWW p l e R s m args below meth c nL ad D cA A cells slots Q) pc := by
  intro st ls σ k o1 o2 o3 H locs la hP hS hl
  unfold o_i2l at k
  split at k
  next a st =>
    obtain ⟨q0, q⟩ : r32 a ∧ ∀ v ∈ st, qok v := List.forall_mem_cons.mp o1
    exact lv_i2l X.1 X.2.1 d (i2l_eq q0) (h _ _ σ k (List.forall_mem_cons.mpr ⟨by unfold r32 at q0; show r64 a; unfold r64; omega, q⟩) o2 o3 H locs la hP hS hl)
  next => exact k.elim
theorem q_l2i (X : qX p s m args meth c cc nL own ad D cA A) (d : decode cc pc = .ok (.l2i, 1)) (h : qle K (qWW p l e R s m args below meth c nL ad D cA A cells slots Q) (pc + 1)) : qle (o_l2i K) (qWW p l e R s m args below meth c nL ad D cA A cells slots Q) pc := by
  intro st ls σ k o1 o2 o3 H locs la hP hS hl
  unfold o_l2i at k
  split at k
  next a st =>
    obtain ⟨q0, q⟩ : r64 a ∧ ∀ v ∈ st, qok v := List.forall_mem_cons.mp o1
    exact lv_l2i X.1 X.2.1 d (l2i_eq q0) (h _ _ σ k (List.forall_mem_cons.mpr ⟨w32_r _, q⟩) o2 o3 H locs la hP hS hl)
  next => exact k.elim
theorem q_dup (X : qX p s m args meth c cc nL own ad D cA A) (d : decode cc pc = .ok (.dup, 1)) (h : qle K (qWW p l e R s m args below meth c nL ad D cA A cells slots Q) (pc + 1)) : qle (o_dup K) (qWW p l e R s m args below meth c nL ad D cA A cells slots Q) pc := by
  intro st ls σ k o1 o2 o3 H locs la hP hS hl
  unfold o_dup at k
  split at k
  next a st =>
    exact lv_dup X.1 X.2.1 d (by rw [qv_cat]; exact k.1) (h _ _ σ k.2 (List.forall_mem_cons.mpr ⟨(List.forall_mem_cons.mp o1).1, o1⟩) o2 o3 H locs la hP hS hl)
  next => exact k.elim
theorem q_dup2 (X : qX p s m args meth c cc nL own ad D cA A) (d : decode cc pc = .ok (.dup2, 1)) (h : qle K (qWW p l e R s m args below meth c nL ad D cA A cells slots Q) (pc + 1)) : qle (o_dup2 K) (qWW p l e R s m args below meth c nL ad D cA A cells slots Q) pc := by
  intro st ls σ k o1 o2 o3 H locs la hP hS hl
  unfold o_dup2 at k
  split at k
  next a b st =>
    have q := List.forall_mem_cons.mp o1
    exact lv_dup2_11 X.1 X.2.1 d (by rw [qv_cat]; exact k.1) (by rw [qv_cat]; exact k.2.1) (h _ _ σ k.2.2 (List.forall_mem_cons.mpr ⟨q.1, List.forall_mem_cons.mpr ⟨(List.forall_mem_cons.mp q.2).1, o1⟩⟩) o2 o3 H locs la hP hS hl)
  next => exact k.elim
theorem q_pop (X : qX p s m args meth c cc nL own ad D cA A) (d : decode cc pc = .ok (.pop, 1)) (h : qle K (qWW p l e R s m args below meth c nL ad D cA A cells slots Q) (pc + 1)) : qle (o_pop K) (qWW p l e R s m args below meth c nL ad D cA A cells slots Q) pc := by
  intro st ls σ k o1 o2 o3 H locs la hP hS hl
  unfold o_pop at k
  split at k
  next a st =>
    exact lv_pop X.1 X.2.1 d (by rw [qv_cat]; exact k.1) (h _ _ σ k.2 (List.forall_mem_cons.mp o1).2 o2 o3 H locs la hP hS hl)
  next => exact k.elim
theorem q_pop2 (X : qX p s m args meth c cc nL own ad D cA A) (d : decode cc pc = .ok (.pop2, 1)) (h : qle K (qWW p l e R s m args below meth c nL ad D cA A cells slots Q) (pc + 1)) : qle (o_pop2 K) (qWW p l e R s m args below meth c nL ad D cA A cells slots Q) pc := by
  intro st ls σ k o1 o2 o3 H locs la hP hS hl
  unfold o_pop2 at k
  split at k
  next a st =>
    exact lv_pop2_2 X.1 X.2.1 d (by rw [qv_cat]; exact k.1) (h _ _ σ k.2 (List.forall_mem_cons.mp o1).2 o2 o3 H locs la hP hS hl)
  next => exact k.elim
theorem q_goto (X : qX p s m args meth c cc nL own ad D cA A) {off : Int} {t : Nat} (d : decode cc pc = .ok (.goto off, 3)) (ht : (pc : Int) + off = (t : Int)) (h : qle K (qWW p l e R s m args below meth c nL ad D cA A cells slots Q) t) : qle K (qWW p l e R s m args below meth c nL ad D cA A cells slots Q) pc := by
  intro st ls σ k o1 o2 o3 H locs la hP hS hl
  exact lv_goto X.1 X.2.1 d ht (h _ _ σ k o1 o2 o3 H locs la hP hS hl)
theorem i64_le {a b : Int} (ha : r64 a) (hb : r64 b) : Int64.ofInt a ≤ Int64.ofInt b ↔ a ≤ b := by rw [Int64.le_iff_toInt_le, i64_t ha, i64_t hb]
theorem q_if_eq (X : qX p s m args meth c cc nL own ad D cA A) {Kt Kf : qP} {off : Int} {t : Nat} (d : decode cc pc = .ok (.ifCond .eq off, 3)) (ht : (pc : Int) + off = (t : Int)) (h1 : qle Kt (qWW p l e R s m args below meth c nL ad D cA A cells slots Q) t) (h2 : qle Kf (qWW p l e R s m args below meth c nL ad D cA A cells slots Q) (pc + 3)) : qle (o_if (fun a => a = 0) Kt Kf) (qWW p l e R s m args below meth c nL ad D cA A cells slots Q) pc := by
  intro st ls σ k o1 o2 o3 H locs la hP hS hl
  unfold o_if at k
  split at k
  next a st =>
    obtain ⟨q0, q⟩ : r32 a ∧ ∀ v ∈ st, qok v := List.forall_mem_cons.mp o1
    exact lv_if_eq X.1 X.2.1 d ht (fun z => h1 _ _ σ (k.1 ((i32_eq q0 r32_0).mp z)) q o2 o3 H locs la hP hS hl) (fun z => h2 _ _ σ (k.2 (fun y => z ((i32_eq q0 r32_0).mpr y))) q o2 o3 H locs la hP hS hl)
  next => exact k.elim
theorem q_icmp_eq (X : qX p s m args meth c cc nL own ad D cA A) {Kt Kf : qP} {off : Int} {t : Nat} (d : decode cc pc = .ok (.if_icmp .eq off, 3)) (ht : (pc : Int) + off = (t : Int)) (h1 : qle Kt (qWW p l e R s m args below meth c nL ad D cA A cells slots Q) t) (h2 : qle Kf (qWW p l e R s m args below meth c nL ad D cA A cells slots Q) (pc + 3)) : qle (o_i2 (fun a b => a = b) Kt Kf) (qWW p l e R s m args below meth c nL ad D cA A cells slots Q) pc := by
  intro st ls σ k o1 o2 o3 H locs la hP hS hl
  unfold o_i2 at k
  split at k
  next b a st =>
    obtain ⟨q0, q1, q⟩ : r32 b ∧ r32 a ∧ ∀ v ∈ st, qok v := ⟨(List.forall_mem_cons.mp o1).1, List.forall_mem_cons.mp (List.forall_mem_cons.mp o1).2⟩
    exact lv_icmp_eq X.1 X.2.1 d ht (fun z => h1 _ _ σ (k.1 ((i32_eq q1 q0).mp z)) q o2 o3 H locs la hP hS hl) (fun z => h2 _ _ σ (k.2 (fun y => z ((i32_eq q1 q0).mpr y))) q o2 o3 H locs la hP hS hl)
  next => exact k.elim
theorem q_lcmp_eq (X : qX p s m args meth c cc nL own ad D cA A) {Kt Kf : qP} {off : Int} {t : Nat} (d0 : decode cc pc = .ok (.lcmp, 1)) (d : decode cc (pc + 1) = .ok (.ifCond .eq off, 3)) (ht : ((pc + 1 : Nat) : Int) + off = (t : Int)) (h1 : qle Kt (qWW p l e R s m args below meth c nL ad D cA A cells slots Q) t) (h2 : qle Kf (qWW p l e R s m args below meth c nL ad D cA A cells slots Q) (pc + 4)) : qle (o_l2 (fun a b => a = b) Kt Kf) (qWW p l e R s m args below meth c nL ad D cA A cells slots Q) pc := by
  intro st ls σ k o1 o2 o3 H locs la hP hS hl
  unfold o_l2 at k
  split at k
  next b a st =>
    obtain ⟨q0, q1, q⟩ : r64 b ∧ r64 a ∧ ∀ v ∈ st, qok v := ⟨(List.forall_mem_cons.mp o1).1, List.forall_mem_cons.mp (List.forall_mem_cons.mp o1).2⟩
    refine W.lcmp X.1 X.2.1 d0 ?_
    exact lv_if_eq X.1 X.2.1 d ht (fun z => h1 _ _ σ (k.1 (((lg_cmp_eq _ _).trans (i64_eq q1 q0)).mp z)) q o2 o3 H locs la hP hS hl) (fun z => h2 _ _ σ (k.2 (fun y => z (((lg_cmp_eq _ _).trans (i64_eq q1 q0)).mpr y))) q o2 o3 H locs la hP hS hl)
  next => exact k.elim
theorem q_if_ne (X : qX p s m args meth c cc nL own ad D cA A) {Kt Kf : qP} {off : Int} {t : Nat} (d : decode cc pc = .ok (.ifCond .ne off, 3)) (ht : (pc : Int) + off = (t : Int)) (h1 : qle Kt (qWW p l e R s m args below meth c nL ad D cA A cells slots Q) t) (h2 : qle Kf (qWW p l e R s m args below meth c nL ad D cA A cells slots Q) (pc + 3)) : qle (o_if (fun a => ¬ a = 0) Kt Kf) (qWW p l e R s m args below meth c nL ad D cA A cells slots Q) pc := by
  intro st ls σ k o1 o2 o3 H locs la hP hS hl
  unfold o_if at k
  split at k
  next a st =>
    obtain ⟨q0, q⟩ : r32 a ∧ ∀ v ∈ st, qok v := List.forall_mem_cons.mp o1
    exact lv_if_ne X.1 X.2.1 d ht (fun z => h1 _ _ σ (k.1 ((not_congr (i32_eq q0 r32_0)).mp z)) q o2 o3 H locs la hP hS hl) (fun z => h2 _ _ σ (k.2 (fun y => (not_congr (i32_eq q0 r32_0)).mpr y z)) q o2 o3 H locs la hP hS hl)
  next => exact k.elim
theorem q_icmp_ne (X : qX p s m args meth c cc nL own ad D cA A) {Kt Kf : qP} {off : Int} {t : Nat} (d : decode cc pc = .ok (.if_icmp .ne off, 3)) (ht : (pc : Int) + off = (t : Int)) (h1 : qle Kt (qWW p l e R s m args below meth c nL ad D cA A cells slots Q) t) (h2 : qle Kf (qWW p l e R s m args below meth c nL ad D cA A cells slots Q) (pc + 3)) : qle (o_i2 (fun a b => ¬ a = b) Kt Kf) (qWW p l e R s m args below meth c nL ad D cA A cells slots Q) pc := by
  intro st ls σ k o1 o2 o3 H locs la hP hS hl
  unfold o_i2 at k
  split at k
  next b a st =>
    obtain ⟨q0, q1, q⟩ : r32 b ∧ r32 a ∧ ∀ v ∈ st, qok v := ⟨(List.forall_mem_cons.mp o1).1, List.forall_mem_cons.mp (List.forall_mem_cons.mp o1).2⟩
    exact lv_icmp_ne X.1 X.2.1 d ht (fun z => h1 _ _ σ (k.1 ((not_congr (i32_eq q1 q0)).mp z)) q o2 o3 H locs la hP hS hl) (fun z => h2 _ _ σ (k.2 (fun y => (not_congr (i32_eq q1 q0)).mpr y z)) q o2 o3 H locs la hP hS hl)
  next => exact k.elim
theorem q_lcmp_ne (X : qX p s m args meth c cc nL own ad D cA A) {Kt Kf : qP} {off : Int} {t : Nat} (d0 : decode cc pc = .ok (.lcmp, 1)) (d : decode cc (pc + 1) = .ok (.ifCond .ne off, 3)) (ht : ((pc + 1 : Nat) : Int) + off = (t : Int)) (h1 : qle Kt (qWW p l e R s m args below meth c nL ad D cA A cells slots Q) t) (h2 : qle Kf (qWW p l e R s m args below meth c nL ad D cA A cells slots Q) (pc + 4)) : qle (o_l2 (fun a b => ¬ a = b) Kt Kf) (qWW p l e R s m args below meth c nL ad D cA A cells slots Q) pc := by
  intro st ls σ k o1 o2 o3 H locs la hP hS hl
  unfold o_l2 at k
  split at k
  next b a st =>
    obtain ⟨q0, q1, q⟩ : r64 b ∧ r64 a ∧ ∀ v ∈ st, qok v := ⟨(List.forall_mem_cons.mp o1).1, List.forall_mem_cons.mp (List.forall_mem_cons.mp o1).2⟩
    refine W.lcmp X.1 X.2.1 d0 ?_
    exact lv_if_ne X.1 X.2.1 d ht (fun z => h1 _ _ σ (k.1 ((not_congr ((lg_cmp_eq _ _).trans (i64_eq q1 q0))).mp z)) q o2 o3 H locs la hP hS hl) (fun z => h2 _ _ σ (k.2 (fun y => (not_congr ((lg_cmp_eq _ _).trans (i64_eq q1 q0))).mpr y z)) q o2 o3 H locs la hP hS hl)
  next => exact k.elim
theorem q_if_lt (X : qX p s m args meth c cc nL own ad D cA A) {Kt Kf : qP} {off : Int} {t : Nat} (d : decode cc pc = .ok (.ifCond .lt off, 3)) (ht : (pc : Int) + off = (t : Int)) (h1 : qle Kt (qWW p l e R s m args below meth c nL ad D cA A cells slots Q) t) (h2 : qle Kf (qWW p l e R s m args below meth c nL ad D cA A cells slots Q) (pc + 3)) : qle (o_if (fun a => a < 0) Kt Kf) (qWW p l e R s m args below meth c nL ad D cA A cells slots Q) pc := by
  intro st ls σ k o1 o2 o3 H locs la hP hS hl
  unfold o_if at k
  split at k
  next a st =>
    obtain ⟨q0, q⟩ : r32 a ∧ ∀ v ∈ st, qok v := List.forall_mem_cons.mp o1
    exact lv_if_lt X.1 X.2.1 d ht (fun z => h1 _ _ σ (k.1 ((i32_lt q0 r32_0).mp z)) q o2 o3 H locs la hP hS hl) (fun z => h2 _ _ σ (k.2 (fun y => z ((i32_lt q0 r32_0).mpr y))) q o2 o3 H locs la hP hS hl)
  next => exact k.elim
theorem q_icmp_lt (X : qX p s m args meth c cc nL own ad D cA A) {Kt Kf : qP} {off : Int} {t : Nat} (d : decode cc pc = .ok (.if_icmp .lt off, 3)) (ht : (pc : Int) + off = (t : Int)) (h1 : qle Kt (qWW p l e R s m args below meth c nL ad D cA A cells slots Q) t) (h2 : qle Kf (qWW p l e R s m args below meth c nL ad D cA A cells slots Q) (pc + 3)) : qle (o_i2 (fun a b => a < b) Kt Kf) (qWW p l e R s m args below meth c nL ad D cA A cells slots Q) pc := by
  intro st ls σ k o1 o2 o3 H locs la hP hS hl
  unfold o_i2 at k
  split at k
  next b a st =>
    obtain ⟨q0, q1, q⟩ : r32 b ∧ r32 a ∧ ∀ v ∈ st, qok v := ⟨(List.forall_mem_cons.mp o1).1, List.forall_mem_cons.mp (List.forall_mem_cons.mp o1).2⟩
    exact lv_icmp_lt X.1 X.2.1 d ht (fun z => h1 _ _ σ (k.1 ((i32_lt q1 q0).mp z)) q o2 o3 H locs la hP hS hl) (fun z => h2 _ _ σ (k.2 (fun y => z ((i32_lt q1 q0).mpr y))) q o2 o3 H locs la hP hS hl)
  next => exact k.elim
theorem q_lcmp_lt (X : qX p s m args meth c cc nL own ad D cA A) {Kt Kf : qP} {off : Int} {t : Nat} (d0 : decode cc pc = .ok (.lcmp, 1)) (d : decode cc (pc + 1) = .ok (.ifCond .lt off, 3)) (ht : ((pc + 1 : Nat) : Int) + off = (t : Int)) (h1 : qle Kt (qWW p l e R s m args below meth c nL ad D cA A cells slots Q) t) (h2 : qle Kf (qWW p l e R s m args below meth c nL ad D cA A cells slots Q) (pc + 4)) : qle (o_l2 (fun a b => a < b) Kt Kf) (qWW p l e R s m args below meth c nL ad D cA A cells slots Q) pc := by
  intro st ls σ k o1 o2 o3 H locs la hP hS hl
  unfold o_l2 at k
  split at k
  next b a st =>
    obtain ⟨q0, q1, q⟩ : r64 b ∧ r64 a ∧ ∀ v ∈ st, qok v := ⟨(List.forall_mem_cons.mp o1).1, List.forall_mem_cons.mp (List.forall_mem_cons.mp o1).2⟩
    refine W.lcmp X.1 X.2.1 d0 ?_
    exact lv_if_lt X.1 X.2.1 d ht (fun z => h1 _ _ σ (k.1 (((lg_cmp_lt _ _).trans (i64_lt q1 q0)).mp z)) q o2 o3 H locs la hP hS hl) (fun z => h2 _ _ σ (k.2 (fun y => z (((lg_cmp_lt _ _).trans (i64_lt q1 q0)).mpr y))) q o2 o3 H locs la hP hS hl)
  next => exact k.elim
theorem q_if_ge (X : qX p s m args meth c cc nL own ad D cA A) {Kt Kf : qP} {off : Int} {t : Nat} (d : decode cc pc = .ok (.ifCond .ge off, 3)) (ht : (pc : Int) + off = (t : Int)) (h1 : qle Kt (qWW p l e R s m args below meth c nL ad D cA A cells slots Q) t) (h2 : qle Kf (qWW p l e R s m args below meth c nL ad D cA A cells slots Q) (pc + 3)) : qle (o_if (fun a => 0 ≤ a) Kt Kf) (qWW p l e R s m args below meth c nL ad D cA A cells slots Q) pc := by
  intro st ls σ k o1 o2 o3 H locs la hP hS hl
  unfold o_if at k
  split at k
  next a st =>
    obtain ⟨q0, q⟩ : r32 a ∧ ∀ v ∈ st, qok v := List.forall_mem_cons.mp o1
    exact lv_if_ge X.1 X.2.1 d ht (fun z => h1 _ _ σ (k.1 ((i32_le r32_0 q0).mp z)) q o2 o3 H locs la hP hS hl) (fun z => h2 _ _ σ (k.2 (fun y => z ((i32_le r32_0 q0).mpr y))) q o2 o3 H locs la hP hS hl)
  next => exact k.elim
theorem q_icmp_ge (X : qX p s m args meth c cc nL own ad D cA A) {Kt Kf : qP} {off : Int} {t : Nat} (d : decode cc pc = .ok (.if_icmp .ge off, 3)) (ht : (pc : Int) + off = (t : Int)) (h1 : qle Kt (qWW p l e R s m args below meth c nL ad D cA A cells slots Q) t) (h2 : qle Kf (qWW p l e R s m args below meth c nL ad D cA A cells slots Q) (pc + 3)) : qle (o_i2 (fun a b => b ≤ a) Kt Kf) (qWW p l e R s m args below meth c nL ad D cA A cells slots Q) pc := by
  intro st ls σ k o1 o2 o3 H locs la hP hS hl
  unfold o_i2 at k
  split at k
  next b a st =>
    obtain ⟨q0, q1, q⟩ : r32 b ∧ r32 a ∧ ∀ v ∈ st, qok v := ⟨(List.forall_mem_cons.mp o1).1, List.forall_mem_cons.mp (List.forall_mem_cons.mp o1).2⟩
    exact lv_icmp_ge X.1 X.2.1 d ht (fun z => h1 _ _ σ (k.1 ((i32_le q0 q1).mp z)) q o2 o3 H locs la hP hS hl) (fun z => h2 _ _ σ (k.2 (fun y => z ((i32_le q0 q1).mpr y))) q o2 o3 H locs la hP hS hl)
  next => exact k.elim
theorem q_lcmp_ge (X : qX p s m args meth c cc nL own ad D cA A) {Kt Kf : qP} {off : Int} {t : Nat} (d0 : decode cc pc = .ok (.lcmp, 1)) (d : decode cc (pc + 1) = .ok (.ifCond .ge off, 3)) (ht : ((pc + 1 : Nat) : Int) + off = (t : Int)) (h1 : qle Kt (qWW p l e R s m args below meth c nL ad D cA A cells slots Q) t) (h2 : qle Kf (qWW p l e R s m args below meth c nL ad D cA A cells slots Q) (pc + 4)) : qle (o_l2 (fun a b => b ≤ a) Kt Kf) (qWW p l e R s m args below meth c nL ad D cA A cells slots Q) pc := by
  intro st ls σ k o1 o2 o3 H locs la hP hS hl
  unfold o_l2 at k
  split at k
  next b a st =>
    obtain ⟨q0, q1, q⟩ : r64 b ∧ r64 a ∧ ∀ v ∈ st, qok v := ⟨(List.forall_mem_cons.mp o1).1, List.forall_mem_cons.mp (List.forall_mem_cons.mp o1).2⟩
    refine W.lcmp X.1 X.2.1 d0 ?_
    exact lv_if_ge X.1 X.2.1 d ht (fun z => h1 _ _ σ (k.1 (((lg_cmp_ge _ _).trans (i64_le q0 q1)).mp z)) q o2 o3 H locs la hP hS hl) (fun z => h2 _ _ σ (k.2 (fun y => z (((lg_cmp_ge _ _).trans (i64_le q0 q1)).mpr y))) q o2 o3 H locs la hP hS hl)
  next => exact k.elim
theorem q_if_gt (X : qX p s m args meth c cc nL own ad D cA A) {Kt Kf : qP} {off : Int} {t : Nat} (d : decode cc pc = .ok (.ifCond .gt off, 3)) (ht : (pc : Int) + off = (t : Int)) (h1 : qle Kt (qWW p l e R s m args below meth c nL ad D cA A cells slots Q) t) (h2 : qle Kf (qWW p l e R s m args below meth c nL ad D cA A cells slots Q) (pc + 3)) : qle (o_if (fun a => 0 < a) Kt Kf) (qWW p l e R s m args below meth c nL ad D cA A cells slots Q) pc := by
  intro st ls σ k o1 o2 o3 H locs la hP hS hl
  unfold o_if at k
  split at k
  next a st =>
    obtain ⟨q0, q⟩ : r32 a ∧ ∀ v ∈ st, qok v := List.forall_mem_cons.mp o1
    exact lv_if_gt X.1 X.2.1 d ht (fun z => h1 _ _ σ (k.1 ((i32_lt r32_0 q0).mp z)) q o2 o3 H locs la hP hS hl) (fun z => h2 _ _ σ (k.2 (fun y => z ((i32_lt r32_0 q0).mpr y))) q o2 o3 H locs la hP hS hl)
  next => exact k.elim
theorem q_icmp_gt (X : qX p s m args meth c cc nL own ad D cA A) {Kt Kf : qP} {off : Int} {t : Nat} (d : decode cc pc = .ok (.if_icmp .gt off, 3)) (ht : (pc : Int) + off = (t : Int)) (h1 : qle Kt (qWW p l e R s m args below meth c nL ad D cA A cells slots Q) t) (h2 : qle Kf (qWW p l e R s m args below meth c nL ad D cA A cells slots Q) (pc + 3)) : qle (o_i2 (fun a b => b < a) Kt Kf) (qWW p l e R s m args below meth c nL ad D cA A cells slots Q) pc := by
  intro st ls σ k o1 o2 o3 H locs la hP hS hl
  unfold o_i2 at k
  split at k
  next b a st =>
    obtain ⟨q0, q1, q⟩ : r32 b ∧ r32 a ∧ ∀ v ∈ st, qok v := ⟨(List.forall_mem_cons.mp o1).1, List.forall_mem_cons.mp (List.forall_mem_cons.mp o1).2⟩
    exact lv_icmp_gt X.1 X.2.1 d ht (fun z => h1 _ _ σ (k.1 ((i32_lt q0 q1).mp z)) q o2 o3 H locs la hP hS hl) (fun z => h2 _ _ σ (k.2 (fun y => z ((i32_lt q0 q1).mpr y))) q o2 o3 H locs la hP hS hl)
  next => exact k.elim
theorem q_lcmp_gt (X : qX p s m args meth c cc nL own ad D cA A) {Kt Kf : qP} {off : Int} {t : Nat} (d0 : decode cc pc = .ok (.lcmp, 1)) (d : decode cc (pc + 1) = .ok (.ifCond .gt off, 3)) (ht : ((pc + 1 : Nat) : Int) + off = (t : Int)) (h1 : qle Kt (qWW p l e R s m args below meth c nL ad D cA A cells slots Q) t) (h2 : qle Kf (qWW p l e R s m args below meth c nL ad D cA A cells slots Q) (pc + 4)) : qle (o_l2 (fun a b => b < a) Kt Kf) (qWW p l e R s m args below meth c nL ad D cA A cells slots Q) pc := by
  intro st ls σ k o1 o2 o3 H locs la hP hS hl
  unfold o_l2 at k
  split at k
  next b a st =>
    obtain ⟨q0, q1, q⟩ : r64 b ∧ r64 a ∧ ∀ v ∈ st, qok v := ⟨(List.forall_mem_cons.mp o1).1, List.forall_mem_cons.mp (List.forall_mem_cons.mp o1).2⟩
    refine W.lcmp X.1 X.2.1 d0 ?_
    exact lv_if_gt X.1 X.2.1 d ht (fun z => h1 _ _ σ (k.1 (((lg_cmp_gt _ _).trans (i64_lt q0 q1)).mp z)) q o2 o3 H locs la hP hS hl) (fun z => h2 _ _ σ (k.2 (fun y => z (((lg_cmp_gt _ _).trans (i64_lt q0 q1)).mpr y))) q o2 o3 H locs la hP hS hl)
  next => exact k.elim
theorem q_if_le (X : qX p s m args meth c cc nL own ad D cA A) {Kt Kf : qP} {off : Int} {t : Nat} (d : decode cc pc = .ok (.ifCond .le off, 3)) (ht : (pc : Int) + off = (t : Int)) (h1 : qle Kt (qWW p l e R s m args below meth c nL ad D cA A cells slots Q) t) (h2 : qle Kf (qWW p l e R s m args below meth c nL ad D cA A cells slots Q) (pc + 3)) : qle (o_if (fun a => a ≤ 0) Kt Kf) (qWW p l e R s m args below meth c nL ad D cA A cells slots Q) pc := by
  intro st ls σ k o1 o2 o3 H locs la hP hS hl
  unfold o_if at k
  split at k
  next a st =>
    obtain ⟨q0, q⟩ : r32 a ∧ ∀ v ∈ st, qok v := List.forall_mem_cons.mp o1
    exact lv_if_le X.1 X.2.1 d ht (fun z => h1 _ _ σ (k.1 ((i32_le q0 r32_0).mp z)) q o2 o3 H locs la hP hS hl) (fun z => h2 _ _ σ (k.2 (fun y => z ((i32_le q0 r32_0).mpr y))) q o2 o3 H locs la hP hS hl)
  next => exact k.elim
theorem q_icmp_le (X : qX p s m args meth c cc nL own ad D cA A) {Kt Kf : qP} {off : Int} {t : Nat} (d : decode cc pc = .ok (.if_icmp .le off, 3)) (ht : (pc : Int) + off = (t : Int)) (h1 : qle Kt (qWW p l e R s m args below meth c nL ad D cA A cells slots Q) t) (h2 : qle Kf (qWW p l e R s m args below meth c nL ad D cA A cells slots Q) (pc + 3)) : qle (o_i2 (fun a b => a ≤ b) Kt Kf) (qWW p l e R s m args below meth c nL ad D cA A cells slots Q) pc := by
  intro st ls σ k o1 o2 o3 H locs la hP hS hl
  unfold o_i2 at k
  split at k
  next b a st =>
    obtain ⟨q0, q1, q⟩ : r32 b ∧ r32 a ∧ ∀ v ∈ st, qok v := ⟨(List.forall_mem_cons.mp o1).1, List.forall_mem_cons.mp (List.forall_mem_cons.mp o1).2⟩
    exact lv_icmp_le X.1 X.2.1 d ht (fun z => h1 _ _ σ (k.1 ((i32_le q1 q0).mp z)) q o2 o3 H locs la hP hS hl) (fun z => h2 _ _ σ (k.2 (fun y => z ((i32_le q1 q0).mpr y))) q o2 o3 H locs la hP hS hl)
  next => exact k.elim
theorem q_lcmp_le (X : qX p s m args meth c cc nL own ad D cA A) {Kt Kf : qP} {off : Int} {t : Nat} (d0 : decode cc pc = .ok (.lcmp, 1)) (d : decode cc (pc + 1) = .ok (.ifCond .le off, 3)) (ht : ((pc + 1 : Nat) : Int) + off = (t : Int)) (h1 : qle Kt (qWW p l e R s m args below meth c nL ad D cA A cells slots Q) t) (h2 : qle Kf (qWW p l e R s m args below meth c nL ad D cA A cells slots Q) (pc + 4)) : qle (o_l2 (fun a b => a ≤ b) Kt Kf) (qWW p l e R s m args below meth c nL ad D cA A cells slots Q) pc := by
  intro st ls σ k o1 o2 o3 H locs la hP hS hl
  unfold o_l2 at k
  split at k
  next b a st =>
    obtain ⟨q0, q1, q⟩ : r64 b ∧ r64 a ∧ ∀ v ∈ st, qok v := ⟨(List.forall_mem_cons.mp o1).1, List.forall_mem_cons.mp (List.forall_mem_cons.mp o1).2⟩
    refine W.lcmp X.1 X.2.1 d0 ?_
    exact lv_if_le X.1 X.2.1 d ht (fun z => h1 _ _ σ (k.1 (((lg_cmp_le _ _).trans (i64_le q1 q0)).mp z)) q o2 o3 H locs la hP hS hl) (fun z => h2 _ _ σ (k.2 (fun y => z (((lg_cmp_le _ _).trans (i64_le q1 q0)).mpr y))) q o2 o3 H locs la hP hS hl)
  next => exact k.elim
end Q5
