def o_c (v : qA) (K : qP) : qP := fun st ls σ => K (v :: st) ls σ
def o_il (i : Nat) (K : qP) : qP := fun st ls σ => match ls.getD i none with
  | some (.inl z) => K (.inl z :: st) ls σ
  | _ => False
def o_ll (i : Nat) (K : qP) : qP := fun st ls σ => match ls.getD i none with
  | some (.inr (.inl z)) => K (.inr (.inl z) :: st) ls σ
  | _ => False
def o_al (i : Nat) (K : qP) : qP := fun st ls σ => match ls.getD i none with
  | some (.inr (.inr r)) => K (.inr (.inr r) :: st) ls σ
  | _ => False
def o_is (i : Nat) (K : qP) : qP := fun st ls σ => match st with
  | .inl z :: st => K st (ls1 ls i (.inl z)) σ
  | _ => False
def o_as (i : Nat) (K : qP) : qP := fun st ls σ => match st with
  | .inr (.inr r) :: st => K st (ls1 ls i (.inr (.inr r))) σ
  | _ => False
def o_ls (i : Nat) (K : qP) : qP := fun st ls σ => match st with
  | .inr (.inl z) :: st => K st (ls2 ls i (.inr (.inl z))) σ
  | _ => False
def o_inc (i : Nat) (n : Int) (K : qP) : qP := fun st ls σ => match ls.getD i none with
  | some (.inl z) => K st (ls1 ls i (.inl (w32 (z + n)))) σ
  | _ => False
def o_bi (f : Int → Int → Int) (K : qP) : qP := fun st ls σ => match st with
  | .inl b :: .inl a :: st => K (.inl (f a b) :: st) ls σ
  | _ => False
def o_bid (f : Int → Int → Int) (K : qP) : qP := fun st ls σ => match st with
  | .inl b :: .inl a :: st => b ≠ 0 ∧ K (.inl (f a b) :: st) ls σ
  | _ => False
def o_bl (f : Int → Int → Int) (K : qP) : qP := fun st ls σ => match st with
  | .inr (.inl b) :: .inr (.inl a) :: st => K (.inr (.inl (f a b)) :: st) ls σ
  | _ => False
def o_bld (f : Int → Int → Int) (K : qP) : qP := fun st ls σ => match st with
  | .inr (.inl b) :: .inr (.inl a) :: st => b ≠ 0 ∧ K (.inr (.inl (f a b)) :: st) ls σ
  | _ => False
def o_sl (f : Int → Int → Int) (K : qP) : qP := fun st ls σ => match st with
  | .inl b :: .inr (.inl a) :: st => K (.inr (.inl (f a b)) :: st) ls σ
  | _ => False
def o_i2l (K : qP) : qP := fun st ls σ => match st with
  | .inl a :: st => K (.inr (.inl a) :: st) ls σ
  | _ => False
def o_l2i (K : qP) : qP := fun st ls σ => match st with
  | .inr (.inl a) :: st => K (.inl (w32 a) :: st) ls σ
  | _ => False
def o_dup (K : qP) : qP := fun st ls σ => match st with
  | v :: st => qcat v = 1 ∧ K (v :: v :: st) ls σ
  | _ => False
def o_dup2 (K : qP) : qP := fun st ls σ => match st with
  | u :: v :: st => qcat u = 1 ∧ qcat v = 1 ∧ K (u :: v :: u :: v :: st) ls σ
  | _ => False
def o_pop (K : qP) : qP := fun st ls σ => match st with
  | v :: st => qcat v = 1 ∧ K st ls σ
  | _ => False
def o_pop2 (K : qP) : qP := fun st ls σ => match st with
  | v :: st => qcat v = 2 ∧ K st ls σ
  | _ => False
def o_if (rel : Int → Prop) (Kt Kf : qP) : qP := fun st ls σ => match st with
  | .inl a :: st => (rel a → Kt st ls σ) ∧ (¬ rel a → Kf st ls σ)
  | _ => False
def o_i2 (rel : Int → Int → Prop) (Kt Kf : qP) : qP := fun st ls σ => match st with
  | .inl b :: .inl a :: st => (rel a b → Kt st ls σ) ∧ (¬ rel a b → Kf st ls σ)
  | _ => False
def o_l2 (rel : Int → Int → Prop) (Kt Kf : qP) : qP := fun st ls σ => match st with
  | .inr (.inl b) :: .inr (.inl a) :: st => (rel a b → Kt st ls σ) ∧ (¬ rel a b → Kf st ls σ)
  | _ => False
def swg (z : Int) : Int → List qP → qP → qP
  | _, [], Kd => Kd
  | lo, K :: Ks, Kd => fun st ls σ => (z = lo → K st ls σ) ∧ (z ≠ lo → swg z (lo + 1) Ks Kd st ls σ)
def o_sw (lo : Int) (Ks : List qP) (Kd : qP) : qP := fun st ls σ => match st with
  | .inl z :: st => swg z lo Ks Kd st ls σ
  | _ => False
def o_gI (o k : Nat) (K : qP) : qP := fun st ls σ => match st with
  | .inr (.inr r) :: st => r = o ∧ K (.inl (σ k 0) :: st) ls σ
  | _ => False
def o_gZ (o k : Nat) (K : qP) : qP := fun st ls σ => match st with
  | .inr (.inr r) :: st => r = o ∧ (σ k 0 = 0 ∨ σ k 0 = 1 → K (.inl (σ k 0) :: st) ls σ)
  | _ => False
def o_gJ (o k : Nat) (K : qP) : qP := fun st ls σ => match st with
  | .inr (.inr r) :: st => r = o ∧ K (.inr (.inl (σ k 0)) :: st) ls σ
  | _ => False
def o_gA (o k : Nat) (K : qP) : qP := fun st ls σ => match st with
  | .inr (.inr r) :: st => r = o ∧ K (.inr (.inr k) :: st) ls σ
  | _ => False
def o_gR (o k : Nat) (K : qP) : qP := fun st ls σ => match st with
  | .inr (.inr r) :: st => r = o ∧ 0 ≤ σ k 0 ∧ K (.inr (.inr (σ k 0).toNat) :: st) ls σ
  | _ => False
def o_pI (o k : Nat) (K : qP) : qP := fun st ls σ => match st with
  | .inl z :: .inr (.inr r) :: st => r = o ∧ K st ls (su σ k 0 z)
  | _ => False
def o_pZ (o k : Nat) (K : qP) : qP := fun st ls σ => match st with
  | .inl z :: .inr (.inr r) :: st => r = o ∧ (z = 0 ∨ z = 1) ∧ K st ls (su σ k 0 z)
  | _ => False
def o_pJ (o k : Nat) (K : qP) : qP := fun st ls σ => match st with
  | .inr (.inl z) :: .inr (.inr r) :: st => r = o ∧ K st ls (su σ k 0 z)
  | _ => False
def o_pR (o k : Nat) (K : qP) : qP := fun st ls σ => match st with
  | .inr (.inr z) :: .inr (.inr r) :: st => r = o ∧ K st ls (su σ k 0 z)
  | _ => False
def o_ia (t : Nat) (K : qP) : qP := fun st ls σ => match st with
  | .inl i :: .inr (.inr k) :: st => (k ∈ qar ∧ qty k = t) ∧ (0 ≤ i ∧ i < qln k) ∧ K (.inl (σ k i) :: st) ls σ
  | _ => False
def o_iak (k : Nat) (n : Int) (K : qP) : qP := fun st ls σ => match st with
  | .inl i :: .inr (.inr r) :: st => r = k ∧ (0 ≤ i ∧ i < n) ∧ K (.inl (σ k i) :: st) ls σ
  | _ => False
def o_zak (k : Nat) (n : Int) (K : qP) : qP := fun st ls σ => match st with
  | .inl i :: .inr (.inr r) :: st => r = k ∧ (0 ≤ i ∧ i < n) ∧ (σ k i = 0 ∨ σ k i = 1 → K (.inl (σ k i) :: st) ls σ)
  | _ => False
def o_ja (K : qP) : qP := fun st ls σ => match st with
  | .inl i :: .inr (.inr k) :: st => (k ∈ qar ∧ qty k = 1) ∧ (0 ≤ i ∧ i < qln k) ∧ K (.inr (.inl (σ k i)) :: st) ls σ
  | _ => False
def o_jak (k : Nat) (n : Int) (K : qP) : qP := fun st ls σ => match st with
  | .inl i :: .inr (.inr r) :: st => r = k ∧ (0 ≤ i ∧ i < n) ∧ K (.inr (.inl (σ k i)) :: st) ls σ
  | _ => False
def o_is_ (K : qP) : qP := fun st ls σ => match st with
  | .inl v :: .inl i :: .inr (.inr k) :: st => (k ∈ qar ∧ qty k = 0) ∧ (0 ≤ i ∧ i < qln k) ∧ K st ls (su σ k i v)
  | _ => False
def o_isk (k : Nat) (n : Int) (K : qP) : qP := fun st ls σ => match st with
  | .inl v :: .inl i :: .inr (.inr r) :: st => r = k ∧ (0 ≤ i ∧ i < n) ∧ K st ls (su σ k i v)
  | _ => False
def o_zsk (k : Nat) (n : Int) (K : qP) : qP := fun st ls σ => match st with
  | .inl v :: .inl i :: .inr (.inr r) :: st => r = k ∧ (0 ≤ i ∧ i < n) ∧ (v = 0 ∨ v = 1) ∧ K st ls (su σ k i v)
  | _ => False
def o_js_ (K : qP) : qP := fun st ls σ => match st with
  | .inr (.inl v) :: .inl i :: .inr (.inr k) :: st => (k ∈ qar ∧ qty k = 1) ∧ (0 ≤ i ∧ i < qln k) ∧ K st ls (su σ k i v)
  | _ => False
def o_jsk (k : Nat) (n : Int) (K : qP) : qP := fun st ls σ => match st with
  | .inr (.inl v) :: .inl i :: .inr (.inr r) :: st => r = k ∧ (0 ≤ i ∧ i < n) ∧ K st ls (su σ k i v)
  | _ => False
def o_len (k : Nat) (n : Int) (K : qP) : qP := fun st ls σ => match st with
  | .inr (.inr r) :: st => r = k ∧ K (.inl n :: st) ls σ
  | _ => False
def o_ri (QR : Option qA → qS → Prop) : qP := fun st _ σ => match st with
  | [.inl z] => QR (some (.inl z)) σ
  | _ => False
def o_rz (QR : Option qA → qS → Prop) : qP := fun st _ σ => match st with
  | [.inl z] => (z = 0 ∨ z = 1) ∧ QR (some (.inl z)) σ
  | _ => False
def o_rl (QR : Option qA → qS → Prop) : qP := fun st _ σ => match st with
  | [.inr (.inl z)] => QR (some (.inr (.inl z))) σ
  | _ => False
def o_rv (QR : Option qA → qS → Prop) : qP := fun st _ σ => match st with
  | [] => QR none σ
  | _ => False
def qle (K : qP) (WW : Nat → qP) (pc : Nat) : Prop := ∀ st ls σ, K st ls σ → WW pc st ls σ
def qX (p : Program) (s : State) (m : MethodId) (args : Array Value) (meth : Method) (c : Code) (cc : ByteArray) (nL : Nat) (own : String) (ad : Nat → Nat) (D : va_G) (cA : Nat → ClassId) (A : Nat → Prop) : Prop :=
  p.tables.exec = Jvm.exec ∧ c.code = cc ∧ c.maxLocals = nL ∧ s.vm.findClass own = some m.cls ∧ (∀ w ∈ lw_g, w.before args s = true) ∧ va_K D qcl [(cA 0, .int), (cA 1, .long), (cA 2, .boolean)] s ∧ (∀ r ∈ qtb, ∀ r' ∈ qtb, ad r = ad r' → r = r') ∧ (∀ r ∈ qtb, A (ad r)) ∧ (∀ q, s.heap.size ≤ q → A q) ∧ meth.locks = false
def qWW (p : Program) (l : Launch) (e : Env) (R : Room) (s : State) (m : MethodId) (args : Array Value) (below : List Frame) (meth : Method) (c : Code) (nL : Nat) (ad : Nat → Nat) (D : va_G) (cA : Nat → ClassId) (A : Nat → Prop) (cells slots : Nat) (Q : State → Prop) (pc : Nat) : qP := fun st ls σ =>
  (∀ v ∈ st, qok v) → (∀ (i : Nat) v, ls[i]? = some (some v) → qok v) → qoS σ → ∀ (H : Heap) (locs : List Loc) (la : Array Slot), va_P D qcl (qw ad cA σ) H → va_S A s.heap H locs → qlr ad la nL ls → W p l e R s m args below meth c H locs cells slots Q (F0 m pc la (st.map (qv ad)))
section Q4
variable {p : Program} {l : Launch} {e : Env} {R : Room} {s : State} {m : MethodId} {args : Array Value} {below : List Frame} {meth : Method} {c : Code} {cc : ByteArray} {nL : Nat} {own : String} {ad : Nat → Nat} {D : va_G} {cA : Nat → ClassId} {A : Nat → Prop} {cells slots : Nat} {Q : State → Prop} {pc : Nat} {K : qP}
theorem qD (X : qX p s m args meth c cc nL own ad D cA A) (σ : qS) : va_D A (qw ad cA σ) := by
  obtain ⟨-, -, -, -, -, -, hi, hA, -⟩ := X
  have key : ∀ (k : Nat) (q : Nat × va_E), (qw ad cA σ)[k]? = some q → ∃ r, qtb[k]? = some r ∧ q.1 = ad r := by
    intro k q h
    rw [qw, List.getElem?_map] at h
    cases hr : qtb[k]? with
    | none => rw [hr] at h; cases h
    | some r => rw [hr] at h; cases h; exact ⟨r, rfl, rfl⟩
  refine ⟨fun i j x y hx hy hxy => ?_, fun k q h => ?_⟩
  · obtain ⟨r, h1, h2⟩ := key i x hx
    obtain ⟨r', h3, h4⟩ := key j y hy
    have e := hi r (List.mem_of_getElem? h1) r' (List.mem_of_getElem? h3) (by rw [← h2, ← h4, hxy])
    subst e
    exact va_nd_inj qtb qtb_nd i j r h1 h3
  · obtain ⟨r, h1, h2⟩ := key k q h
    rw [h2]; exact hA r (List.mem_of_getElem? h1)
theorem q_iconst (X : qX p s m args meth c cc nL own ad D cA A) {n : Int} (d : decode cc pc = .ok (.iconst n, 1)) (hn : r32 n) (h : qle K (qWW p l e R s m args below meth c nL ad D cA A cells slots Q) (pc + 1)) : qle (o_c (.inl n) K) (qWW p l e R s m args below meth c nL ad D cA A cells slots Q) pc := by
  intro st ls σ k o1 o2 o3 H locs la hP hS hl
  exact lv_iconst X.1 X.2.1 d rfl (h _ ls σ k (List.forall_mem_cons.mpr ⟨hn, o1⟩) o2 o3 H locs la hP hS hl)
theorem q_bipush (X : qX p s m args meth c cc nL own ad D cA A) {n : Int} (d : decode cc pc = .ok (.bipush n, 2)) (hn : r32 n ∧ (Int8.ofInt n).toInt32 = Int32.ofInt n) (h : qle K (qWW p l e R s m args below meth c nL ad D cA A cells slots Q) (pc + 2)) : qle (o_c (.inl n) K) (qWW p l e R s m args below meth c nL ad D cA A cells slots Q) pc := by
  intro st ls σ k o1 o2 o3 H locs la hP hS hl
  exact lv_bipush X.1 X.2.1 d hn.2 (h _ ls σ k (List.forall_mem_cons.mpr ⟨hn.1, o1⟩) o2 o3 H locs la hP hS hl)
theorem q_sipush (X : qX p s m args meth c cc nL own ad D cA A) {n : Int} (d : decode cc pc = .ok (.sipush n, 3)) (hn : r32 n ∧ (Int16.ofInt n).toInt32 = Int32.ofInt n) (h : qle K (qWW p l e R s m args below meth c nL ad D cA A cells slots Q) (pc + 3)) : qle (o_c (.inl n) K) (qWW p l e R s m args below meth c nL ad D cA A cells slots Q) pc := by
  intro st ls σ k o1 o2 o3 H locs la hP hS hl
  exact lv_sipush X.1 X.2.1 d hn.2 (h _ ls σ k (List.forall_mem_cons.mpr ⟨hn.1, o1⟩) o2 o3 H locs la hP hS hl)
theorem q_lconst (X : qX p s m args meth c cc nL own ad D cA A) {n : Fin 2} {z : Int} (d : decode cc pc = .ok (.lconst n, 1)) (hn : r64 z ∧ Int64.ofNat (n : Nat) = Int64.ofInt z) (h : qle K (qWW p l e R s m args below meth c nL ad D cA A cells slots Q) (pc + 1)) : qle (o_c (.inr (.inl z)) K) (qWW p l e R s m args below meth c nL ad D cA A cells slots Q) pc := by
  intro st ls σ k o1 o2 o3 H locs la hP hS hl
  exact lv_lconst X.1 X.2.1 d hn.2 (h _ ls σ k (List.forall_mem_cons.mpr ⟨hn.1, o1⟩) o2 o3 H locs la hP hS hl)
theorem q_ldc2 (X : qX p s m args meth c cc nL own ad D cA A) {i : Nat} {z : Int} (d : decode cc pc = .ok (.ldc2_w i, 3)) (hw : Cond.constantLong own i (Int64.ofInt z) ∈ lw_g) (hn : r64 z) (h : qle K (qWW p l e R s m args below meth c nL ad D cA A cells slots Q) (pc + 3)) : qle (o_c (.inr (.inl z)) K) (qWW p l e R s m args below meth c nL ad D cA A cells slots Q) pc := by
  intro st ls σ k o1 o2 o3 H locs la hP hS hl
  exact lv_ldc2 X.1 X.2.1 X.2.2.2.1 (X.2.2.2.2.1 _ hw) d (h _ ls σ k (List.forall_mem_cons.mpr ⟨hn, o1⟩) o2 o3 H locs la hP hS hl)
theorem q_ldcw (X : qX p s m args meth c cc nL own ad D cA A) {i : Nat} {z : Int} (d : decode cc pc = .ok (.ldc_w i, 3)) (hw : Cond.constant own i (Int32.ofInt z) ∈ lw_g) (hn : r32 z) (h : qle K (qWW p l e R s m args below meth c nL ad D cA A cells slots Q) (pc + 3)) : qle (o_c (.inl z) K) (qWW p l e R s m args below meth c nL ad D cA A cells slots Q) pc := by
  intro st ls σ k o1 o2 o3 H locs la hP hS hl
  exact lv_ldcw X.1 X.2.1 X.2.2.2.1 (X.2.2.2.2.1 _ hw) d (h _ ls σ k (List.forall_mem_cons.mpr ⟨hn, o1⟩) o2 o3 H locs la hP hS hl)
theorem q_iload (X : qX p s m args meth c cc nL own ad D cA A) {i : Nat} (d : decode cc pc = .ok (.iload i, 2)) (h : qle K (qWW p l e R s m args below meth c nL ad D cA A cells slots Q) (pc + 2)) : qle (o_il i K) (qWW p l e R s m args below meth c nL ad D cA A cells slots Q) pc := by
  intro st ls σ k o1 o2 o3 H locs la hP hS hl
  unfold o_il at k
  split at k
  next z hz => exact lv_iload X.1 X.2.1 d (hl.2.2.2 i _ (qgetD.mp hz)) (h _ ls σ k (List.forall_mem_cons.mpr ⟨o2 i _ (qgetD.mp hz), o1⟩) o2 o3 H locs la hP hS hl)
  next => exact k.elim
theorem q_iload_n (X : qX p s m args meth c cc nL own ad D cA A) {j : Fin 4} {i : Nat} (d : decode cc pc = .ok (.iload_n j, 1)) (hj : (j : Nat) = i) (h : qle K (qWW p l e R s m args below meth c nL ad D cA A cells slots Q) (pc + 1)) : qle (o_il i K) (qWW p l e R s m args below meth c nL ad D cA A cells slots Q) pc := by
  intro st ls σ k o1 o2 o3 H locs la hP hS hl
  unfold o_il at k
  split at k
  next z hz => exact lv_iload_n X.1 X.2.1 d hj (hl.2.2.2 i _ (qgetD.mp hz)) (h _ ls σ k (List.forall_mem_cons.mpr ⟨o2 i _ (qgetD.mp hz), o1⟩) o2 o3 H locs la hP hS hl)
  next => exact k.elim
theorem q_lload (X : qX p s m args meth c cc nL own ad D cA A) {i : Nat} (d : decode cc pc = .ok (.lload i, 2)) (h : qle K (qWW p l e R s m args below meth c nL ad D cA A cells slots Q) (pc + 2)) : qle (o_ll i K) (qWW p l e R s m args below meth c nL ad D cA A cells slots Q) pc := by
  intro st ls σ k o1 o2 o3 H locs la hP hS hl
  unfold o_ll at k
  split at k
  next z hz => exact lv_lload X.1 X.2.1 d (hl.2.2.2 i _ (qgetD.mp hz)) (h _ ls σ k (List.forall_mem_cons.mpr ⟨o2 i _ (qgetD.mp hz), o1⟩) o2 o3 H locs la hP hS hl)
  next => exact k.elim
theorem q_lload_n (X : qX p s m args meth c cc nL own ad D cA A) {j : Fin 4} {i : Nat} (d : decode cc pc = .ok (.lload_n j, 1)) (hj : (j : Nat) = i) (h : qle K (qWW p l e R s m args below meth c nL ad D cA A cells slots Q) (pc + 1)) : qle (o_ll i K) (qWW p l e R s m args below meth c nL ad D cA A cells slots Q) pc := by
  intro st ls σ k o1 o2 o3 H locs la hP hS hl
  unfold o_ll at k
  split at k
  next z hz => exact lv_lload_n X.1 X.2.1 d hj (hl.2.2.2 i _ (qgetD.mp hz)) (h _ ls σ k (List.forall_mem_cons.mpr ⟨o2 i _ (qgetD.mp hz), o1⟩) o2 o3 H locs la hP hS hl)
  next => exact k.elim
theorem q_aload (X : qX p s m args meth c cc nL own ad D cA A) {i : Nat} (d : decode cc pc = .ok (.aload i, 2)) (h : qle K (qWW p l e R s m args below meth c nL ad D cA A cells slots Q) (pc + 2)) : qle (o_al i K) (qWW p l e R s m args below meth c nL ad D cA A cells slots Q) pc := by
  intro st ls σ k o1 o2 o3 H locs la hP hS hl
  unfold o_al at k
  split at k
  next z hz => exact lv_aload X.1 X.2.1 d (hl.2.2.2 i _ (qgetD.mp hz)) (h _ ls σ k (List.forall_mem_cons.mpr ⟨o2 i _ (qgetD.mp hz), o1⟩) o2 o3 H locs la hP hS hl)
  next => exact k.elim
theorem q_aload_n (X : qX p s m args meth c cc nL own ad D cA A) {j : Fin 4} {i : Nat} (d : decode cc pc = .ok (.aload_n j, 1)) (hj : (j : Nat) = i) (h : qle K (qWW p l e R s m args below meth c nL ad D cA A cells slots Q) (pc + 1)) : qle (o_al i K) (qWW p l e R s m args below meth c nL ad D cA A cells slots Q) pc := by
  intro st ls σ k o1 o2 o3 H locs la hP hS hl
  unfold o_al at k
  split at k
  next z hz => exact lv_aload_n X.1 X.2.1 d hj (hl.2.2.2 i _ (qgetD.mp hz)) (h _ ls σ k (List.forall_mem_cons.mpr ⟨o2 i _ (qgetD.mp hz), o1⟩) o2 o3 H locs la hP hS hl)
  next => exact k.elim
end Q4
