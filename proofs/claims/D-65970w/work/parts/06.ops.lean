section Q6
variable {p : Program} {l : Launch} {e : Env} {R : Room} {s : State} {m : MethodId} {args : Array Value} {below : List Frame} {meth : Method} {c : Code} {cc : ByteArray} {nL : Nat} {own : String} {ad : Nat → Nat} {D : va_G} {cA : Nat → ClassId} {A : Nat → Prop} {cells slots : Nat} {Q : State → Prop} {pc : Nat} {K : qP}
theorem qmap_get {α : Type} {N j : Nat} {f : Nat → α} (h : j < N) : ((List.range N).map f)[j]? = some (f j) := by
  rw [List.getElem?_map, List.getElem?_range h]; rfl
theorem qmap_set {α : Type} {N j : Nat} {f g : Nat → α} (h : j < N) (ho : ∀ i, i ≠ j → g i = f i) : ((List.range N).map f).set j (g j) = (List.range N).map g := by
  apply List.ext_getElem?
  intro i
  by_cases e : i = j
  · subst e
    rw [List.getElem?_set_self (by simp; exact h), qmap_get h]
  · rw [List.getElem?_set_ne (Ne.symm e), List.getElem?_map, List.getElem?_map]
    cases hq : (List.range N)[i]? with
    | none => rfl
    | some x =>
      have : x = i := by
        by_cases hi : i < N
        · rw [List.getElem?_range hi] at hq; exact (Option.some.inj hq).symm
        · rw [List.getElem?_eq_none (by simp; omega)] at hq; cases hq
      subst this
      show some (f x) = some (g x)
      rw [ho x e]
theorem qoS_su {σ : qS} {k : Nat} {i v : Int} (h : qoS σ) (hv : qor (qty k) v) : qoS (su σ k i v) := by
  intro k' i'
  unfold su
  split
  next e => rw [e.1]; exact hv
  next => exact h k' i'
theorem qar_tb {k : Nat} (h : k ∈ qar) : k ∈ qtb := List.mem_cons_of_mem _ (List.mem_cons_of_mem _ h)
theorem qe_arr {k : Nat} {σ : qS} (h : k ∈ qar) : qe ad cA σ k = .inl (cA (qty k), qln k, qct σ k) := by
  unfold qe; rw [if_neg (qar_ne k h).1, if_neg (qar_ne k h).2]
theorem qe_900 {σ : qS} : qe ad cA σ 900 = .inr (0, (List.range 82).map (fun j => qfv ad σ (0 + j))) := by unfold qe; rw [if_pos rfl]
theorem qe_901 {σ : qS} : qe ad cA σ 901 = .inr (1, (List.range 32).map (fun j => qfv ad σ (100 + j))) := by unfold qe; rw [if_neg (by decide), if_pos rfl]
def qob (o ci N base : Nat) (C : String) (T : u_T) : Prop := (o = 900 ∧ ci = 0 ∧ N = 82 ∧ base = 0 ∧ C = R_M ∧ T = F_M) ∨ (o = 901 ∧ ci = 1 ∧ N = 32 ∧ base = 100 ∧ C = R_D ∧ T = F_D)
theorem qob_e {o ci N base : Nat} {C : String} {T : u_T} (h : qob o ci N base C T) (ad : Nat → Nat) (cA : Nat → ClassId) (σ : qS) : o ∈ qtb ∧ qe ad cA σ o = .inr (ci, (List.range N).map (fun j => qfv ad σ (base + j))) ∧ qcl[ci]? = some (C, T, N) ∧ ∀ w ∈ u_ws C T N, w ∈ lw_g := by
  rcases h with ⟨rfl, rfl, rfl, rfl, rfl, rfl⟩ | ⟨rfl, rfl, rfl, rfl, rfl, rfl⟩
  · exact ⟨by decide, qe_900, rfl, hg_M⟩
  · exact ⟨by decide, qe_901, rfl, hg_D⟩
def qF (own : String) (o ci N base : Nat) (C : String) (T : u_T) (i j : Nat) : Prop := qob o ci N base C T ∧ j < N ∧ Cond.fieldLink own i (T j).1 (T j).2.1 (T j).2.2.1 ∈ lw_g
theorem q_get (X : qX p s m args meth c cc nL own ad D cA A) {o ci N base i j : Nat} {C : String} {T : u_T} (hF : qF own o ci N base C T i j) (d : decode cc pc = .ok (.getfield i, 3)) {σ : qS} {H : Heap} {locs : List Loc} {la : Array Slot} {rest : List Value} (hP : va_P D qcl (qw ad cA σ) H)
    (kk : W p l e R s m args below meth c H locs cells slots Q (F0 m (pc + 3) la (qfv ad σ (base + j) :: rest))) : W p l e R s m args below meth c H locs cells slots Q (F0 m pc la (.ref (ad o) :: rest)) := by
  obtain ⟨hO, hj, hw⟩ := hF
  obtain ⟨h1, h2, h3, h4⟩ := qob_e hO ad cA σ
  obtain ⟨q, -, hq⟩ := qw_get (ad := ad) (cA := cA) (σ := σ) h1
  rw [h2] at hq
  exact va_get X.1 X.2.1 X.2.2.2.2.1 h4 X.2.2.2.1 X.2.2.2.2.2.1 hP q hq h3 j hj (X.2.2.2.2.1 _ hw) (fun _ h => h) (qmap_get hj) d kk
theorem q_gI (X : qX p s m args meth c cc nL own ad D cA A) {o ci N base i j : Nat} {C : String} {T : u_T} (hF : qF own o ci N base C T i j) (hk : qln (base + j) = 0 ∧ qty (base + j) = 0) (d : decode cc pc = .ok (.getfield i, 3)) (h : qle K (qWW p l e R s m args below meth c nL ad D cA A cells slots Q) (pc + 3)) : qle (o_gI o (base + j) K) (qWW p l e R s m args below meth c nL ad D cA A cells slots Q) pc := by
  intro st ls σ k o1 o2 o3 H locs la hP hS hl
  unfold o_gI at k
  split at k
  next r st =>
    obtain ⟨rfl, k⟩ := k
    refine q_get X hF d hP ?_
    have e : qfv ad σ (base + j) = .int (Int32.ofInt (σ (base + j) 0)) := by simp [qfv, hk.1, hk.2]
    rw [e]
    have := o3 (base + j) 0
    rw [hk.2] at this
    exact h _ _ σ k (List.forall_mem_cons.mpr ⟨this, (List.forall_mem_cons.mp o1).2⟩) o2 o3 H locs la hP hS hl
  next => exact k.elim
theorem q_gZ (X : qX p s m args meth c cc nL own ad D cA A) {o ci N base i j : Nat} {C : String} {T : u_T} (hF : qF own o ci N base C T i j) (hk : qln (base + j) = 0 ∧ qty (base + j) = 2) (d : decode cc pc = .ok (.getfield i, 3)) (h : qle K (qWW p l e R s m args below meth c nL ad D cA A cells slots Q) (pc + 3)) : qle (o_gZ o (base + j) K) (qWW p l e R s m args below meth c nL ad D cA A cells slots Q) pc := by
  intro st ls σ k o1 o2 o3 H locs la hP hS hl
  unfold o_gZ at k
  split at k
  next r st =>
    obtain ⟨rfl, k⟩ := k
    refine q_get X hF d hP ?_
    have e : qfv ad σ (base + j) = .int (Int32.ofInt (σ (base + j) 0)) := by simp [qfv, hk.1, hk.2]
    rw [e]
    have this : σ (base + j) 0 = 0 ∨ σ (base + j) 0 = 1 := by
      have := o3 (base + j) 0
      rw [hk.2] at this
      exact this
    exact h _ _ σ (k this) (List.forall_mem_cons.mpr ⟨by rcases this with e | e <;> (rw [e]; show r32 _; unfold r32; omega), (List.forall_mem_cons.mp o1).2⟩) o2 o3 H locs la hP hS hl
  next => exact k.elim
theorem q_gJ (X : qX p s m args meth c cc nL own ad D cA A) {o ci N base i j : Nat} {C : String} {T : u_T} (hF : qF own o ci N base C T i j) (hk : qln (base + j) = 0 ∧ qty (base + j) = 1) (d : decode cc pc = .ok (.getfield i, 3)) (h : qle K (qWW p l e R s m args below meth c nL ad D cA A cells slots Q) (pc + 3)) : qle (o_gJ o (base + j) K) (qWW p l e R s m args below meth c nL ad D cA A cells slots Q) pc := by
  intro st ls σ k o1 o2 o3 H locs la hP hS hl
  unfold o_gJ at k
  split at k
  next r st =>
    obtain ⟨rfl, k⟩ := k
    refine q_get X hF d hP ?_
    have e : qfv ad σ (base + j) = .long (Int64.ofInt (σ (base + j) 0)) := by simp [qfv, hk.1, hk.2]
    rw [e]
    have := o3 (base + j) 0
    rw [hk.2] at this
    exact h _ _ σ k (List.forall_mem_cons.mpr ⟨this, (List.forall_mem_cons.mp o1).2⟩) o2 o3 H locs la hP hS hl
  next => exact k.elim
theorem q_gA (X : qX p s m args meth c cc nL own ad D cA A) {o ci N base i j : Nat} {C : String} {T : u_T} (hF : qF own o ci N base C T i j) (hk : qln (base + j) ≠ 0) (d : decode cc pc = .ok (.getfield i, 3)) (h : qle K (qWW p l e R s m args below meth c nL ad D cA A cells slots Q) (pc + 3)) : qle (o_gA o (base + j) K) (qWW p l e R s m args below meth c nL ad D cA A cells slots Q) pc := by
  intro st ls σ k o1 o2 o3 H locs la hP hS hl
  unfold o_gA at k
  split at k
  next r st =>
    obtain ⟨rfl, k⟩ := k
    refine q_get X hF d hP ?_
    rw [qfv_arr hk]
    exact h _ _ σ k (List.forall_mem_cons.mpr ⟨trivial, (List.forall_mem_cons.mp o1).2⟩) o2 o3 H locs la hP hS hl
  next => exact k.elim
theorem q_gR (X : qX p s m args meth c cc nL own ad D cA A) {o ci N base i j : Nat} {C : String} {T : u_T} (hF : qF own o ci N base C T i j) (hk : qln (base + j) = 0 ∧ qty (base + j) = 3) (d : decode cc pc = .ok (.getfield i, 3)) (h : qle K (qWW p l e R s m args below meth c nL ad D cA A cells slots Q) (pc + 3)) : qle (o_gR o (base + j) K) (qWW p l e R s m args below meth c nL ad D cA A cells slots Q) pc := by
  intro st ls σ k o1 o2 o3 H locs la hP hS hl
  unfold o_gR at k
  split at k
  next r st =>
    obtain ⟨rfl, k0, k⟩ := k
    refine q_get X hF d hP ?_
    have e : qfv ad σ (base + j) = .ref (ad (σ (base + j) 0).toNat) := by simp [qfv, hk.1, hk.2]; omega
    rw [e]
    exact h _ _ σ k (List.forall_mem_cons.mpr ⟨trivial, (List.forall_mem_cons.mp o1).2⟩) o2 o3 H locs la hP hS hl
  next => exact k.elim
theorem q_put (X : qX p s m args meth c cc nL own ad D cA A) {o ci N base i j : Nat} {C : String} {T : u_T} (hF : qF own o ci N base C T i j) (hk : qln (base + j) = 0) (hnf : (T j).2.2.2 = false) (d : decode cc pc = .ok (.putfield i, 3)) {σ : qS} {z : Int} {H : Heap} {locs : List Loc} {la : Array Slot} {rest : List Value} {ty : FieldType} (hty : parseFieldDescriptor (T j).2.2.1 = some ty) (hn : narrow ty (qfv ad (su σ (base + j) 0 z) (base + j)) = qfv ad (su σ (base + j) 0 z) (base + j)) (hf : fits ty (qfv ad (su σ (base + j) 0 z) (base + j)) = true) (hP : va_P D qcl (qw ad cA σ) H) (hS : va_S A s.heap H locs)
    (kk : ∀ H1 locs1, va_P D qcl (qw ad cA (su σ (base + j) 0 z)) H1 → va_S A s.heap H1 locs1 → W p l e R s m args below meth c H1 locs1 cells slots Q (F0 m (pc + 3) la rest)) : W p l e R s m args below meth c H locs cells slots Q (F0 m pc la (qfv ad (su σ (base + j) 0 z) (base + j) :: .ref (ad o) :: rest)) := by
  obtain ⟨hO, hj, hw⟩ := hF
  obtain ⟨h1, h2, h3, h4⟩ := qob_e hO ad cA σ
  obtain ⟨-, h2', -⟩ := qob_e hO ad cA (su σ (base + j) 0 z)
  obtain ⟨q, hq0, hq⟩ := qw_get (ad := ad) (cA := cA) (σ := σ) h1
  rw [h2] at hq
  have hset : (qw ad cA σ).set q (ad o, .inr (ci, ((List.range N).map (fun j => qfv ad σ (base + j))).set j (qfv ad (su σ (base + j) 0 z) (base + j)))) = qw ad cA (su σ (base + j) 0 z) := by
    rw [qmap_set (g := fun j' => qfv ad (su σ (base + j) 0 z) (base + j')) hj (fun i hi => qfv_su_ne (by omega)), ← h2']
    refine qw_set hq0 (fun r' hr' hne => ?_)
    rcases List.mem_cons.mp hr' with rfl | hr'
    · rcases hO with ⟨rfl, -⟩ | ⟨rfl, rfl, rfl, rfl, rfl, rfl⟩
      · exact absurd rfl hne
      · rw [qe_900, qe_900, List.map_congr_left]
        intro a ha
        have := List.mem_range.mp ha
        exact qfv_su_ne (by omega)
    rcases List.mem_cons.mp hr' with rfl | hr'
    · rcases hO with ⟨rfl, rfl, rfl, rfl, rfl, rfl⟩ | ⟨rfl, -⟩
      · rw [qe_901, qe_901, List.map_congr_left]
        intro a ha
        exact qfv_su_ne (by omega)
      · exact absurd rfl hne
    · rw [qe_arr hr', qe_arr hr', qct_su_ne]
      intro e
      exact qar_len r' hr' (by rw [e]; exact hk)
  have htyM : ∀ (ci N base : Nat) (C : String) (T : u_T), qob o ci N base C T → ∃ ty0 : Nat → FieldType, (∀ k, k < N → parseFieldDescriptor (T k).2.2.1 = some (ty0 k)) ∧ ∀ a, a < N → ∀ b, b < N → a ≠ b → (T a).2.1 ≠ (T b).2.1 := by
    rintro ci N base C T (⟨-, rfl, rfl, rfl, rfl, rfl⟩ | ⟨-, rfl, rfl, rfl, rfl, rfl⟩)
    · exact ⟨t_M, t_M_ok, n_M⟩
    · exact ⟨t_D, t_D_ok, n_D⟩
  obtain ⟨ty0, g1, g2⟩ := htyM ci N base C T hO
  refine va_put X.1 X.2.1 X.2.2.2.2.1 h4 ty0 g1 g2 X.2.2.2.1 X.2.2.2.2.2.1 hP (qD X σ) hS q hq h3 j hj (X.2.2.2.2.1 _ hw) (fun _ h => h) hnf hty hn hf (by simp; exact hj) d (fun H1 locs1 hP1 _ hS1 => ?_)
  rw [hset] at hP1
  exact kk H1 locs1 hP1 hS1
theorem su_self (σ : qS) (k : Nat) (i v : Int) : su σ k i v k i = v := by simp [su]
theorem q_pI (X : qX p s m args meth c cc nL own ad D cA A) {o ci N base i j : Nat} {C : String} {T : u_T} (hF : qF own o ci N base C T i j) (hk : qln (base + j) = 0 ∧ qty (base + j) = 0) (hnf : (T j).2.2.2 = false ∧ (T j).2.2.1 = "I") (d : decode cc pc = .ok (.putfield i, 3)) (h : qle K (qWW p l e R s m args below meth c nL ad D cA A cells slots Q) (pc + 3)) : qle (o_pI o (base + j) K) (qWW p l e R s m args below meth c nL ad D cA A cells slots Q) pc := by
  intro st ls σ k o1 o2 o3 H locs la hP hS hl
  unfold o_pI at k
  split at k
  next z r st =>
    obtain ⟨rfl, k⟩ := k
    have e : qfv ad (su σ (base + j) 0 z) (base + j) = .int (Int32.ofInt z) := by simp [qfv, hk.1, hk.2, su_self]
    have q := List.forall_mem_cons.mp o1
    have := q_put X hF hk.1 hnf.1 d (z := z) (σ := σ) (H := H) (locs := locs) (la := la) (rest := st.map (qv ad)) (ty := .int) (by rw [hnf.2]; decide +kernel) (by rw [e]; rfl) (by rw [e]; rfl) hP hS (fun H1 locs1 hP1 hS1 => h _ _ _ k (List.forall_mem_cons.mp q.2).2 o2 (qoS_su o3 (by rw [hk.2]; exact q.1)) H1 locs1 la hP1 hS1 hl)
    rw [e] at this
    exact this
  next => exact k.elim
theorem q_pZ (X : qX p s m args meth c cc nL own ad D cA A) {o ci N base i j : Nat} {C : String} {T : u_T} (hF : qF own o ci N base C T i j) (hk : qln (base + j) = 0 ∧ qty (base + j) = 2) (hnf : (T j).2.2.2 = false ∧ (T j).2.2.1 = "Z") (d : decode cc pc = .ok (.putfield i, 3)) (h : qle K (qWW p l e R s m args below meth c nL ad D cA A cells slots Q) (pc + 3)) : qle (o_pZ o (base + j) K) (qWW p l e R s m args below meth c nL ad D cA A cells slots Q) pc := by
  intro st ls σ k o1 o2 o3 H locs la hP hS hl
  unfold o_pZ at k
  split at k
  next z r st =>
    obtain ⟨rfl, kz, k⟩ := k
    have e : qfv ad (su σ (base + j) 0 z) (base + j) = .int (Int32.ofInt z) := by simp [qfv, hk.1, hk.2, su_self]
    have q := List.forall_mem_cons.mp o1
    have := q_put X hF hk.1 hnf.1 d (z := z) (σ := σ) (H := H) (locs := locs) (la := la) (rest := st.map (qv ad)) (ty := .boolean) (by rw [hnf.2]; decide +kernel) (by rw [e]; rcases kz with rfl | rfl <;> rfl) (by rw [e]; rcases kz with rfl | rfl <;> rfl) hP hS (fun H1 locs1 hP1 hS1 => h _ _ _ k (List.forall_mem_cons.mp q.2).2 o2 (qoS_su o3 (by rw [hk.2]; exact kz)) H1 locs1 la hP1 hS1 hl)
    rw [e] at this
    exact this
  next => exact k.elim
theorem q_pJ (X : qX p s m args meth c cc nL own ad D cA A) {o ci N base i j : Nat} {C : String} {T : u_T} (hF : qF own o ci N base C T i j) (hk : qln (base + j) = 0 ∧ qty (base + j) = 1) (hnf : (T j).2.2.2 = false ∧ (T j).2.2.1 = "J") (d : decode cc pc = .ok (.putfield i, 3)) (h : qle K (qWW p l e R s m args below meth c nL ad D cA A cells slots Q) (pc + 3)) : qle (o_pJ o (base + j) K) (qWW p l e R s m args below meth c nL ad D cA A cells slots Q) pc := by
  intro st ls σ k o1 o2 o3 H locs la hP hS hl
  unfold o_pJ at k
  split at k
  next z r st =>
    obtain ⟨rfl, k⟩ := k
    have e : qfv ad (su σ (base + j) 0 z) (base + j) = .long (Int64.ofInt z) := by simp [qfv, hk.1, hk.2, su_self]
    have q := List.forall_mem_cons.mp o1
    have := q_put X hF hk.1 hnf.1 d (z := z) (σ := σ) (H := H) (locs := locs) (la := la) (rest := st.map (qv ad)) (ty := .long) (by rw [hnf.2]; decide +kernel) (by rw [e]; rfl) (by rw [e]; rfl) hP hS (fun H1 locs1 hP1 hS1 => h _ _ _ k (List.forall_mem_cons.mp q.2).2 o2 (qoS_su o3 (by rw [hk.2]; exact q.1)) H1 locs1 la hP1 hS1 hl)
    rw [e] at this
    exact this
  next => exact k.elim
theorem q_pR (X : qX p s m args meth c cc nL own ad D cA A) {o ci N base i j : Nat} {C : String} {T : u_T} (hF : qF own o ci N base C T i j) (hk : qln (base + j) = 0 ∧ qty (base + j) = 3) (hnf : (T j).2.2.2 = false ∧ (T j).2.2.1 = "[J") (d : decode cc pc = .ok (.putfield i, 3)) (h : qle K (qWW p l e R s m args below meth c nL ad D cA A cells slots Q) (pc + 3)) : qle (o_pR o (base + j) K) (qWW p l e R s m args below meth c nL ad D cA A cells slots Q) pc := by
  intro st ls σ k o1 o2 o3 H locs la hP hS hl
  unfold o_pR at k
  split at k
  next z r st =>
    obtain ⟨rfl, k⟩ := k
    have e : qfv ad (su σ (base + j) 0 z) (base + j) = .ref (ad z) := by simp [qfv, hk.1, hk.2, su_self]
    have q := List.forall_mem_cons.mp o1
    have := q_put X hF hk.1 hnf.1 d (z := z) (σ := σ) (H := H) (locs := locs) (la := la) (rest := st.map (qv ad)) (ty := .array .long) (by rw [hnf.2]; decide +kernel) (by rw [e]; rfl) (by rw [e]; rfl) hP hS (fun H1 locs1 hP1 hS1 => h _ _ _ k (List.forall_mem_cons.mp q.2).2 o2 (qoS_su o3 (by rw [hk.2]; trivial)) H1 locs1 la hP1 hS1 hl)
    rw [e] at this
    exact this
  next => exact k.elim
theorem nat_i {i : Int} (h : 0 ≤ i) : ((i.toNat : Nat) : Int) = i := Int.toNat_of_nonneg h
theorem q_iald (X : qX p s m args meth c cc nL own ad D cA A) (d : decode cc pc = .ok (.iaload, 1)) (h : qle K (qWW p l e R s m args below meth c nL ad D cA A cells slots Q) (pc + 1)) : qle (o_ia 0 K) (qWW p l e R s m args below meth c nL ad D cA A cells slots Q) pc := by
  intro st ls σ k o1 o2 o3 H locs la hP hS hl
  unfold o_ia at k
  split at k
  next i r st =>
    obtain ⟨⟨hr, ht⟩, ⟨h0, h1⟩, k⟩ := k
    obtain ⟨q0, -, q⟩ : r32 i ∧ True ∧ ∀ v ∈ st, qok v := ⟨(List.forall_mem_cons.mp o1).1, trivial, (List.forall_mem_cons.mp (List.forall_mem_cons.mp o1).2).2⟩
    obtain ⟨x, -, hx⟩ := qw_get (ad := ad) (cA := cA) (σ := σ) (qar_tb hr)
    rw [qe_arr hr, ht, show qct σ r = .inl (fun j => Int32.ofInt (σ r j)) by simp [qct, ht]] at hx
    refine va_iald X.1 X.2.1 X.2.2.2.2.2.1 hP x 0 hx rfl (i32_in q0 h0 h1) d ?_
    show W _ _ _ _ _ _ _ _ _ _ _ _ _ _ _ (F0 _ _ _ (.int (Int32.ofInt (σ r (((Int32.ofInt i).toNatClampNeg : Nat) : Int))) :: _))
    rw [i32_clamp q0, nat_i h0]
    have := o3 r i
    rw [ht] at this
    exact h _ _ σ k (List.forall_mem_cons.mpr ⟨this, q⟩) o2 o3 H locs la hP hS hl
  next => exact k.elim
theorem q_zald (X : qX p s m args meth c cc nL own ad D cA A) (d : decode cc pc = .ok (.baload, 1)) (h : qle K (qWW p l e R s m args below meth c nL ad D cA A cells slots Q) (pc + 1)) : qle (o_ia 2 K) (qWW p l e R s m args below meth c nL ad D cA A cells slots Q) pc := by
  intro st ls σ k o1 o2 o3 H locs la hP hS hl
  unfold o_ia at k
  split at k
  next i r st =>
    obtain ⟨⟨hr, ht⟩, ⟨h0, h1⟩, k⟩ := k
    obtain ⟨q0, -, q⟩ : r32 i ∧ True ∧ ∀ v ∈ st, qok v := ⟨(List.forall_mem_cons.mp o1).1, trivial, (List.forall_mem_cons.mp (List.forall_mem_cons.mp o1).2).2⟩
    obtain ⟨x, -, hx⟩ := qw_get (ad := ad) (cA := cA) (σ := σ) (qar_tb hr)
    rw [qe_arr hr, ht, show qct σ r = .inl (fun j => Int32.ofInt (σ r j)) by simp [qct, ht]] at hx
    refine va_zald X.1 X.2.1 X.2.2.2.2.2.1 hP x 2 hx rfl (i32_in q0 h0 h1) d ?_
    show W _ _ _ _ _ _ _ _ _ _ _ _ _ _ _ (F0 _ _ _ (.int (Int32.ofInt (σ r (((Int32.ofInt i).toNatClampNeg : Nat) : Int))) :: _))
    rw [i32_clamp q0, nat_i h0]
    have := o3 r i
    rw [ht] at this
    exact h _ _ σ k (List.forall_mem_cons.mpr ⟨by rcases (show σ r i = 0 ∨ σ r i = 1 from this) with e | e <;> (rw [e]; show r32 _; unfold r32; omega), q⟩) o2 o3 H locs la hP hS hl
  next => exact k.elim
theorem q_jald (X : qX p s m args meth c cc nL own ad D cA A) (d : decode cc pc = .ok (.laload, 1)) (h : qle K (qWW p l e R s m args below meth c nL ad D cA A cells slots Q) (pc + 1)) : qle (o_ja K) (qWW p l e R s m args below meth c nL ad D cA A cells slots Q) pc := by
  intro st ls σ k o1 o2 o3 H locs la hP hS hl
  unfold o_ja at k
  split at k
  next i r st =>
    obtain ⟨⟨hr, ht⟩, ⟨h0, h1⟩, k⟩ := k
    obtain ⟨q0, -, q⟩ : r32 i ∧ True ∧ ∀ v ∈ st, qok v := ⟨(List.forall_mem_cons.mp o1).1, trivial, (List.forall_mem_cons.mp (List.forall_mem_cons.mp o1).2).2⟩
    obtain ⟨x, -, hx⟩ := qw_get (ad := ad) (cA := cA) (σ := σ) (qar_tb hr)
    rw [qe_arr hr, ht, show qct σ r = .inr (.inl (fun j => Int64.ofInt (σ r j))) by simp [qct, ht]] at hx
    refine va_lald X.1 X.2.1 X.2.2.2.2.2.1 hP x 1 hx rfl (i32_in q0 h0 h1) d ?_
    show W _ _ _ _ _ _ _ _ _ _ _ _ _ _ _ (F0 _ _ _ (.long (Int64.ofInt (σ r (((Int32.ofInt i).toNatClampNeg : Nat) : Int))) :: _))
    rw [i32_clamp q0, nat_i h0]
    have := o3 r i
    rw [ht] at this
    exact h _ _ σ k (List.forall_mem_cons.mpr ⟨this, q⟩) o2 o3 H locs la hP hS hl
  next => exact k.elim
theorem qw_arr {σ : qS} {r x : Nat} {i v : Int} (hr : r ∈ qar) (hx0 : qtb[x]? = some r) : (qw ad cA σ).set x (ad r, .inl (cA (qty r), qln r, qct (su σ r i v) r)) = qw ad cA (su σ r i v) := by
  rw [← qe_arr (ad := ad) (cA := cA) hr]
  exact qw_set hx0 (fun r' _ hne => qe_su_arr (qar_len r hr) hne)
theorem qct_i {σ : qS} {r : Nat} {i v : Int} (h0 : 0 ≤ i) (ht : qty r ≠ 1) : qct (su σ r i v) r = .inl (upd (fun j => Int32.ofInt (σ r j)) i.toNat (Int32.ofInt v)) := by
  unfold qct; rw [if_neg ht]; congr 1; funext j
  unfold upd su
  by_cases e : j = i.toNat
  · rw [if_pos e, if_pos ⟨rfl, by omega⟩]
  · rw [if_neg e, if_neg (fun q => e (by omega))]
theorem qct_j {σ : qS} {r : Nat} {i v : Int} (h0 : 0 ≤ i) (ht : qty r = 1) : qct (su σ r i v) r = .inr (.inl (vp_updL (fun j => Int64.ofInt (σ r j)) i.toNat (Int64.ofInt v))) := by
  unfold qct; rw [if_pos ht]; congr 2; funext j
  unfold vp_updL su
  by_cases e : j = i.toNat
  · rw [if_pos e, if_pos ⟨rfl, by omega⟩]
  · rw [if_neg e, if_neg (fun q => e (by omega))]
theorem q_iast (X : qX p s m args meth c cc nL own ad D cA A) (d : decode cc pc = .ok (.iastore, 1)) (h : qle K (qWW p l e R s m args below meth c nL ad D cA A cells slots Q) (pc + 1)) : qle (o_is_ K) (qWW p l e R s m args below meth c nL ad D cA A cells slots Q) pc := by
  intro st ls σ k o1 o2 o3 H locs la hP hS hl
  unfold o_is_ at k
  split at k
  next v i r st =>
    obtain ⟨⟨hr, ht⟩, ⟨h0, h1⟩, k⟩ := k
    have q' := List.forall_mem_cons.mp o1
    obtain ⟨q1, q0, q⟩ : r32 v ∧ r32 i ∧ ∀ v ∈ st, qok v := ⟨q'.1, (List.forall_mem_cons.mp q'.2).1, (List.forall_mem_cons.mp (List.forall_mem_cons.mp q'.2).2).2⟩
    obtain ⟨x, hx0, hx⟩ := qw_get (ad := ad) (cA := cA) (σ := σ) (qar_tb hr)
    have hset := qw_arr (ad := ad) (cA := cA) (σ := σ) (i := i) (v := v) hr hx0
    rw [qct_i h0 (by rw [ht]; decide), ht] at hset
    rw [qe_arr hr, ht, show qct σ r = .inl (fun j => Int32.ofInt (σ r j)) by simp [qct, ht]] at hx
    refine va_iast X.1 X.2.1 X.2.2.2.2.2.1 hP (qD X σ) hS x 0 hx rfl (i32_in q0 h0 h1) d (fun H1 locs1 hP1 _ hS1 => ?_)
    rw [i32_clamp q0, hset] at hP1
    exact h _ _ _ k q o2 (qoS_su o3 (by rw [ht]; exact q1)) H1 locs1 la hP1 hS1 hl
  next => exact k.elim
theorem nar_z {v : Int} (h : v = 0 ∨ v = 1) : vp_nar .boolean (Int32.ofInt v) = Int32.ofInt v := by rcases h with rfl | rfl <;> rfl
theorem q_zast (X : qX p s m args meth c cc nL own ad D cA A) {k0 : Nat} {n : Int} (hk : k0 ∈ qar ∧ qty k0 = 2 ∧ (qln k0 : Int) = n) (d : decode cc pc = .ok (.bastore, 1)) (h : qle K (qWW p l e R s m args below meth c nL ad D cA A cells slots Q) (pc + 1)) : qle (o_zsk k0 n K) (qWW p l e R s m args below meth c nL ad D cA A cells slots Q) pc := by
  intro st ls σ k o1 o2 o3 H locs la hP hS hl
  unfold o_zsk at k
  split at k
  next v i r st =>
    obtain ⟨rfl, ⟨h0, h1⟩, hv, k⟩ := k
    obtain ⟨hr, ht, rfl⟩ := hk
    have q' := List.forall_mem_cons.mp o1
    obtain ⟨q1, q0, q⟩ : r32 v ∧ r32 i ∧ ∀ v ∈ st, qok v := ⟨q'.1, (List.forall_mem_cons.mp q'.2).1, (List.forall_mem_cons.mp (List.forall_mem_cons.mp q'.2).2).2⟩
    obtain ⟨x, hx0, hx⟩ := qw_get (ad := ad) (cA := cA) (σ := σ) (qar_tb hr)
    have hset := qw_arr (ad := ad) (cA := cA) (σ := σ) (i := i) (v := v) hr hx0
    rw [qct_i h0 (by rw [ht]; decide), ht] at hset
    rw [qe_arr hr, ht, show qct σ r = .inl (fun j => Int32.ofInt (σ r j)) by simp [qct, ht]] at hx
    refine va_zast X.1 X.2.1 X.2.2.2.2.2.1 hP (qD X σ) hS x 2 hx rfl (i32_in q0 h0 h1) d (fun H1 locs1 hP1 _ hS1 => ?_)
    rw [i32_clamp q0, nar_z hv, hset] at hP1
    exact h _ _ _ k q o2 (qoS_su o3 (by rw [ht]; exact hv)) H1 locs1 la hP1 hS1 hl
  next => exact k.elim
theorem q_jast (X : qX p s m args meth c cc nL own ad D cA A) (d : decode cc pc = .ok (.lastore, 1)) (h : qle K (qWW p l e R s m args below meth c nL ad D cA A cells slots Q) (pc + 1)) : qle (o_js_ K) (qWW p l e R s m args below meth c nL ad D cA A cells slots Q) pc := by
  intro st ls σ k o1 o2 o3 H locs la hP hS hl
  unfold o_js_ at k
  split at k
  next v i r st =>
    obtain ⟨⟨hr, ht⟩, ⟨h0, h1⟩, k⟩ := k
    have q' := List.forall_mem_cons.mp o1
    obtain ⟨q1, q0, q⟩ : r64 v ∧ r32 i ∧ ∀ v ∈ st, qok v := ⟨q'.1, (List.forall_mem_cons.mp q'.2).1, (List.forall_mem_cons.mp (List.forall_mem_cons.mp q'.2).2).2⟩
    obtain ⟨x, hx0, hx⟩ := qw_get (ad := ad) (cA := cA) (σ := σ) (qar_tb hr)
    have hset := qw_arr (ad := ad) (cA := cA) (σ := σ) (i := i) (v := v) hr hx0
    rw [qct_j h0 ht, ht] at hset
    rw [qe_arr hr, ht, show qct σ r = .inr (.inl (fun j => Int64.ofInt (σ r j))) by simp [qct, ht]] at hx
    refine va_last X.1 X.2.1 X.2.2.2.2.2.1 hP (qD X σ) hS x 1 hx rfl (i32_in q0 h0 h1) d (fun H1 locs1 hP1 _ hS1 => ?_)
    rw [i32_clamp q0, hset] at hP1
    exact h _ _ _ k q o2 (qoS_su o3 (by rw [ht]; exact q1)) H1 locs1 la hP1 hS1 hl
  next => exact k.elim
theorem q_iak (X : qX p s m args meth c cc nL own ad D cA A) {k0 : Nat} {n : Int} (hk : k0 ∈ qar ∧ qty k0 = 0 ∧ (qln k0 : Int) = n) (d : decode cc pc = .ok (.iaload, 1)) (h : qle K (qWW p l e R s m args below meth c nL ad D cA A cells slots Q) (pc + 1)) : qle (o_iak k0 n K) (qWW p l e R s m args below meth c nL ad D cA A cells slots Q) pc := by
  intro st ls σ k
  refine q_iald X d h st ls σ ?_
  unfold o_iak at k
  split at k
  next i r st => obtain ⟨rfl, h01, k⟩ := k; exact ⟨⟨hk.1, hk.2.1⟩, by rw [hk.2.2]; exact h01, k⟩
  next => exact k.elim
theorem q_zak (X : qX p s m args meth c cc nL own ad D cA A) {k0 : Nat} {n : Int} (hk : k0 ∈ qar ∧ qty k0 = 2 ∧ (qln k0 : Int) = n) (d : decode cc pc = .ok (.baload, 1)) (h : qle K (qWW p l e R s m args below meth c nL ad D cA A cells slots Q) (pc + 1)) : qle (o_zak k0 n K) (qWW p l e R s m args below meth c nL ad D cA A cells slots Q) pc := by
  intro st ls σ k o1 o2 o3 H locs la hP hS hl
  refine q_zald X d h st ls σ ?_ o1 o2 o3 H locs la hP hS hl
  unfold o_zak at k
  split at k
  next i r st =>
    obtain ⟨rfl, h01, k⟩ := k
    have := o3 r i
    rw [hk.2.1] at this
    exact ⟨⟨hk.1, hk.2.1⟩, by rw [hk.2.2]; exact h01, k this⟩
  next => exact k.elim
theorem q_jak (X : qX p s m args meth c cc nL own ad D cA A) {k0 : Nat} {n : Int} (hk : k0 ∈ qar ∧ qty k0 = 1 ∧ (qln k0 : Int) = n) (d : decode cc pc = .ok (.laload, 1)) (h : qle K (qWW p l e R s m args below meth c nL ad D cA A cells slots Q) (pc + 1)) : qle (o_jak k0 n K) (qWW p l e R s m args below meth c nL ad D cA A cells slots Q) pc := by
  intro st ls σ k
  refine q_jald X d h st ls σ ?_
  unfold o_jak at k
  split at k
  next i r st => obtain ⟨rfl, h01, k⟩ := k; exact ⟨⟨hk.1, hk.2.1⟩, by rw [hk.2.2]; exact h01, k⟩
  next => exact k.elim
theorem q_isk (X : qX p s m args meth c cc nL own ad D cA A) {k0 : Nat} {n : Int} (hk : k0 ∈ qar ∧ qty k0 = 0 ∧ (qln k0 : Int) = n) (d : decode cc pc = .ok (.iastore, 1)) (h : qle K (qWW p l e R s m args below meth c nL ad D cA A cells slots Q) (pc + 1)) : qle (o_isk k0 n K) (qWW p l e R s m args below meth c nL ad D cA A cells slots Q) pc := by
  intro st ls σ k
  refine q_iast X d h st ls σ ?_
  unfold o_isk at k
  split at k
  next v i r st => obtain ⟨rfl, h01, k⟩ := k; exact ⟨⟨hk.1, hk.2.1⟩, by rw [hk.2.2]; exact h01, k⟩
  next => exact k.elim
theorem q_jsk (X : qX p s m args meth c cc nL own ad D cA A) {k0 : Nat} {n : Int} (hk : k0 ∈ qar ∧ qty k0 = 1 ∧ (qln k0 : Int) = n) (d : decode cc pc = .ok (.lastore, 1)) (h : qle K (qWW p l e R s m args below meth c nL ad D cA A cells slots Q) (pc + 1)) : qle (o_jsk k0 n K) (qWW p l e R s m args below meth c nL ad D cA A cells slots Q) pc := by
  intro st ls σ k
  refine q_jast X d h st ls σ ?_
  unfold o_jsk at k
  split at k
  next v i r st => obtain ⟨rfl, h01, k⟩ := k; exact ⟨⟨hk.1, hk.2.1⟩, by rw [hk.2.2]; exact h01, k⟩
  next => exact k.elim
theorem q_len (X : qX p s m args meth c cc nL own ad D cA A) {k0 : Nat} {n : Int} (hk : k0 ∈ qar ∧ (qln k0 : Int) = n) (d : decode cc pc = .ok (.arraylength, 1)) (h : qle K (qWW p l e R s m args below meth c nL ad D cA A cells slots Q) (pc + 1)) : qle (o_len k0 n K) (qWW p l e R s m args below meth c nL ad D cA A cells slots Q) pc := by
  intro st ls σ k o1 o2 o3 H locs la hP hS hl
  unfold o_len at k
  split at k
  next r st =>
    obtain ⟨rfl, k⟩ := k
    obtain ⟨hr, rfl⟩ := hk
    obtain ⟨x, -, hx⟩ := qw_get (ad := ad) (cA := cA) (σ := σ) (qar_tb hr)
    rw [qe_arr hr] at hx
    have hb := qar_bd r hr
    rcases qar_ty r hr with t | t | t
    · rw [t] at hx
      exact va_alen X.1 X.2.1 X.2.2.2.2.2.1 hP x 0 hx rfl rfl d (h _ _ σ k (List.forall_mem_cons.mpr ⟨by show r32 _; unfold r32; omega, (List.forall_mem_cons.mp o1).2⟩) o2 o3 H locs la hP hS hl)
    · rw [t] at hx
      exact va_alen X.1 X.2.1 X.2.2.2.2.2.1 hP x 1 hx rfl rfl d (h _ _ σ k (List.forall_mem_cons.mpr ⟨by show r32 _; unfold r32; omega, (List.forall_mem_cons.mp o1).2⟩) o2 o3 H locs la hP hS hl)
    · rw [t] at hx
      exact va_alen X.1 X.2.1 X.2.2.2.2.2.1 hP x 2 hx rfl rfl d (h _ _ σ k (List.forall_mem_cons.mpr ⟨by show r32 _; unfold r32; omega, (List.forall_mem_cons.mp o1).2⟩) o2 o3 H locs la hP hS hl)
  next => exact k.elim
end Q6
