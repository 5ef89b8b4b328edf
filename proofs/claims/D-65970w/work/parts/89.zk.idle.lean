theorem RD_3 {w : Int} {σ σ1 σ2 σ3 : qS} (hJ : JI False (-1) σ) (j1 : JI False (-1) σ1) (j2 : JI False (-1) σ2) (hw : 0 ≤ w ∧ w < 6) (hl : (ln σ).length ≤ 95) (r1 : RD w σ σ1) (r2 : RD w σ1 σ2) (r3 : RD w σ2 σ3) (hE : ER σ) (hn : ∀ x ∈ ln σ, x.1 = w → xw x 0 = 2) (hi : σ 62 w = -1) (hc : 1 ≤ cn w (ln σ)) : 0 ≤ σ3 62 w := by
  obtain ⟨i, x, e1, e2, e3⟩ := cn_1 (w := w) (L := ln σ) hc
  have hx := List.mem_of_getElem? e2
  have q1 := RD_q hJ hw hl r1
  have t1 : 0 ≤ σ1 62 w := by
    obtain ⟨-, -, -, c⟩ := r1
    rcases c with ⟨c1, -⟩ | ⟨i', x', c1, c2, c⟩
    · rw [e1] at c1; cases c1
    · rw [e1] at c1
      have ei := Option.some.inj c1
      subst ei
      rw [e2] at c2
      have ex := Option.some.inj c2
      subst ex
      have h2 := hn x hx e3
      rcases c with ⟨c, -⟩ | ⟨c0, c1', -, c⟩ | ⟨-, c, -⟩ | ⟨-, c, -⟩
      · exact absurd (hE x hx) c
      · rcases c with ⟨-, c, -⟩ | ⟨c, -⟩
        · have := GV_nn hJ hw e1 e2 c0 c1'
          omega
        · exact absurd hi c
      · omega
      · omega
  have q2 := RD_q j1 hw (by have := q1.2.1; omega) r2
  have q3 := RD_q j2 hw (by have := q1.2.1; have := q2.2.1; omega) r3
  have t2 : 0 ≤ σ2 62 w := by
    rcases q2.2.2.1 with ⟨e, -⟩ | ⟨e, -⟩ <;> omega
  rcases q3.2.2.1 with ⟨e, -⟩ | ⟨e, -⟩ <;> omega
theorem WTK_z {w : Int} {σ σ' : qS} (hJ : JI False (-1) σ) (hw : 0 ≤ w ∧ w < 6) (hl : (ln σ).length ≤ 95) (h : WTK w σ σ') (hE : ER σ) (hn : ∀ x ∈ ln σ, x.1 = w → xw x 0 = 2) (hi : σ 62 w = -1) (hc : 1 ≤ cn w (ln σ)) : ∃ M, mq M = mq (ln σ) ∧ ((∃ x : Ms, x.1 = 6 ∧ isK x = false ∧ ln σ' = tl95 M ++ [x]) ∨ (UD σ' ∧ ∃ x ∈ ln σ, xw x 0 = 2 ∧ 38 ≤ xw x 2) ∨ 0 ≤ σ' 62 w) := by
  obtain ⟨σ1, σ2, σ3, r1, r2, r3, a, ⟨j1, j2, j3, j4⟩, -, -, a3, -⟩ := h
  have t3 := RD_3 hJ j1 j2 hw hl r1 r2 r3 hE hn hi hc
  have q1 := RD_q hJ hw hl r1
  have q2 := RD_q j1 hw (by have := q1.2.1; omega) r2
  have q3 := RD_q j2 hw (by have := q1.2.1; have := q2.2.1; omega) r3
  obtain ⟨m1, m2, m3, -⟩ := (q1.tr q2).tr q3
  refine ⟨ln σ3, m1, ?_⟩
  have hsp := spl_b j3.1
  obtain ⟨-, ho, hk, c⟩ := a
  have mkE : ∀ ty a b c d, (ty = 3 ∨ ty = 4) → TL 6 ty a b c d σ3 σ' → (∃ x : Ms, x.1 = 6 ∧ isK x = false ∧ ln σ' = tl95 (ln σ3) ++ [x]) := fun ty a b c d ht t => by
    obtain ⟨kv, t⟩ := t
    have e : xw ((6, [ty, σ3 31 0, a, b, c, d], kv) : Ms) 0 = ty := rfl
    exact ⟨(6, [ty, σ3 31 0, a, b, c, d], kv), rfl, isK_f (by omega), t⟩
  rcases c with ⟨c1, -⟩ | ⟨c0, c⟩ | ⟨c0, c⟩
  · omega
  · rcases c with ⟨-, -, -, a, c⟩ | ⟨-, -, -, ⟨a, c⟩, -⟩ | ⟨-, -, -, c⟩ | ⟨-, -, c1, -⟩
    · exact Or.inl (mkE _ _ _ _ _ (Or.inl rfl) c)
    · exact Or.inl (mkE _ _ _ _ _ (Or.inl rfl) c)
    · exact Or.inl (mkE _ _ _ _ _ (Or.inr rfl) c)
    · exact Or.inr (Or.inr (by rw [c1]; exact c0.1))
  · have hr := (rd_P2 j3 hw a3 c0).1
    have hst := (WR_b j3.1 hr).1
    rcases c with ⟨-, -, -, c⟩ | ⟨-, u1, u2, -, f, c⟩ | ⟨-, -, -, -, -, -, c1, -⟩ | ⟨-, -, -, -, -, c1, -⟩ | ⟨-, -, -, -, c⟩
    · exact Or.inl (mkE _ _ _ _ _ (Or.inl rfl) c)
    · refine Or.inr (Or.inl ⟨⟨σ3 64 w, hst.1, by rw [(spl_ac hk).1]; exact u1, by rw [hk 33 (by decide)]; exact u2⟩, ?_⟩)
      rcases m3 with ⟨m3, -⟩ | ⟨-, -, -, x, x1, x2, x3⟩
      · omega
      · exact ⟨x, x1, x2, by omega⟩
    · exact Or.inr (Or.inr (by rw [c1]; exact t3))
    · exact Or.inr (Or.inr (by rw [c1]; exact t3))
    · rcases c with ⟨-, -, c⟩ | ⟨-, c⟩
      · exact Or.inl (mkE _ _ _ _ _ (Or.inl rfl) c)
      · exact Or.inl (mkE _ _ _ _ _ (Or.inr rfl) c)
def CA (τ : Nat → qS) (a b : Nat) : Prop := RG τ a b ∧ MC τ a b ∧ 1 ≤ a ∧ mq (ln (τ (7 * a))) = []
def CB (τ : Nat → qS) (c e : Nat) : Prop := 32 ≤ c ∧ (∀ r v : Nat, v < 6 → c ≤ r → r < e → (τ (7 * r + v) 62 v = -1 ∧ τ (7 * r + v + 1) 62 v = -1) ∧ (mq (ln (τ (7 * r + v)))).length ≤ 6) ∧ RG τ c (e + 3)
theorem CB_of {L : Nat} {τ : Nat → qS} (h : RNN L τ) {a b c e : Nat} (hc : CA τ a b) (hb : b ≤ L) (h1 : c = a + K2) (h2 : e + K2 + 4 = b) : CB τ c e := by
  have hK : K2 = 15400300 := rfl
  obtain ⟨c1, c2, c3, c4⟩ := hc
  refine ⟨by omega, fun r v hv r1 r2 => ⟨?_, (rg_tN h c1 hb c3 c4 hv (by omega) (by omega)).2⟩, fun r r1 r2 => c1.1 r (by omega) (by omega), fun t t1 t2 => c1.2 t (by omega) (by omega)⟩
  have hi := IDA h c1 c2 hb c3 c4 hv (r := r) (by omega) (by omega)
  have k1 := keep_w (r := r) h hv v (by omega) (by omega) 62 (by decide)
  exact ⟨by rw [k1]; exact hi, (ID1 h c1 c2 hb c3 c4 hv (by omega) (by omega) hi).2⟩
theorem ca_nt {L : Nat} {τ : Nat → qS} (h : RNN L τ) {c e : Nat} (hc : CB τ c e) (hb : e + 3 ≤ L) {t : Nat} (h2 : 7 * c + 448 ≤ t) (h3 : t ≤ 7 * e) : ∀ x ∈ ln (τ t), xw x 0 ≠ 5 ∧ xw x 0 ≠ 6 := by
  refine NT_run h (a := 7 * c) (b := 7 * e) (by omega) (fun t t1 t2 t3 => ?_) h2 h3
  have := (hc.2.1 (t / 7) (t % 7) t3 (by omega) (by omega)).1.2
  rw [show 7 * (t / 7) + t % 7 = t by omega] at this
  omega
theorem ca_2 {L : Nat} {τ : Nat → qS} (h : RNN L τ) {c e : Nat} (hc : CB τ c e) (hb : e + 3 ≤ L) {t : Nat} (h2 : 7 * c + 448 ≤ t) (h3 : t ≤ 7 * e) : ∀ x ∈ ln (τ t), x.1 ≠ 6 → xw x 0 = 2 := by
  intro x hx e
  obtain ⟨n5, n6⟩ := ca_nt h hc hb h2 h3 x hx
  have gs := h.1 t (by omega)
  have hL := (gs.1.2.2.2.2.2.2.2.1 x hx).2 (run_ER h (t := t) (by have := hc.1; omega) (by omega) x hx)
  rcases hL with ⟨e6, -⟩ | ⟨-, g⟩
  · exact absurd e6 e
  · rcases g with ⟨g, -⟩ | ⟨g, -⟩ | ⟨g, -⟩
    · exact g
    · exact absurd g n5
    · exact absurd g n6
theorem NB {L : Nat} {τ : Nat → qS} (h : RNN L τ) {c e : Nat} (hc : CB τ c e) (hb : e + 3 ≤ L) {r v : Nat} (hv : v < 6) (h2 : c + 64 ≤ r) (h3 : r < e) : cn v (ln (τ (7 * r + v))) = 0 := by
  apply Classical.byContradiction
  intro hz
  have gs := h.1 (7 * r + v) (by omega)
  obtain ⟨hi, h6⟩ := hc.2.1 r v hv (by omega) h3
  have h32 := hc.1
  obtain ⟨M, m1, c⟩ := WTK_z gs.1 (by omega) (run_95 h (by omega) (by omega) (by omega)) (stp_wtk h hv (by omega)) (run_ER h (by omega) (by omega)) (fun x hx e => ca_2 h hc hb (t := 7 * r + v) (by omega) (by omega) x hx (by omega)) hi.1 (by omega)
  rcases c with ⟨x, x1, x2, x3⟩ | c | c
  · obtain ⟨r', e1, e2, e3⟩ := SHc h hv (by omega) (by omega) x1 m1 h6 x3
    have := hc.2.2.1 r' (by omega) (by omega) x e3
    rw [x2] at this
    cases this
  · exact (hc.2.2.2 (7 * r + v) (by omega) (by omega) (by omega)).2 c
  · omega
theorem NB6 {L : Nat} {τ : Nat → qS} (h : RNN L τ) {c e : Nat} (hc : CB τ c e) (hb : e + 3 ≤ L) {r v : Nat} (hv : v < 6) (h2 : c + 64 ≤ r) (h3 : r < e) : ∀ j, v + j ≤ 6 → cn v (ln (τ (7 * r + v + j))) = 0
  | 0, _ => NB h hc hb hv h2 h3
  | j + 1, hj => by
    have ih := NB6 h hc hb hv h2 h3 j (by omega)
    have hw := stp_wtk h (r := r) (v := v + j) (by omega) (by omega)
    have hf : F5 (ln (τ (7 * r + (v + j)))) := fun x hx => (ca_nt h hc hb (t := 7 * r + (v + j)) (by omega) (by omega) x hx).1
    have hi := (hc.2.1 r (v + j) (by omega) (by omega) (by omega)).1.2
    have := WTK_v hw hf (by omega) (v := (v : Int)) (by omega)
    rw [show 7 * r + v + (j + 1) = 7 * r + (v + j) + 1 by omega]
    rw [show 7 * r + v + j = 7 * r + (v + j) by omega] at ih
    omega
theorem len_sum : ∀ L : List Ms, (∀ x ∈ L, 0 ≤ x.1 ∧ x.1 ≤ 6) → L.length ≤ cn 0 L + cn 1 L + cn 2 L + cn 3 L + cn 4 L + cn 5 L + cn 6 L
  | [], _ => by simp
  | x :: L, h => by
    have ih := len_sum L (fun y hy => h y (List.mem_cons_of_mem x hy))
    have hx := h x List.mem_cons_self
    unfold cn at ih ⊢
    simp only [List.countP_cons, List.length_cons]
    have e : ∀ v : Int, (if toW v x = true then 1 else 0) = if x.1 = v then 1 else 0 := fun v => by
      unfold toW
      by_cases c : x.1 = v
      · rw [if_pos c, if_pos (by rw [c]; exact beq_self_eq_true v)]
      · rw [if_neg c, if_neg (fun z => c (by simpa using z))]
    rw [e, e, e, e, e, e, e]
    split <;> split <;> split <;> split <;> split <;> split <;> split <;> omega
theorem WTK_c {w : Int} {σ σ' : qS} (h : WTK w σ σ') (hf : F5 (ln σ)) (hl : (ln σ).length < 95) (hi : σ' 62 w < 38) {u : Int} (hu : u ≠ w) : cn u (ln σ) ≤ cn u (ln σ') ∧ (ln σ').length ≤ (ln σ).length + 1 := by
  obtain ⟨σ1, σ2, σ3, r1, r2, r3, a, -⟩ := h
  obtain ⟨s1, p1, -, u1⟩ := RD_y r1
  obtain ⟨s2, p2, -, u2⟩ := RD_y r2
  obtain ⟨s3, p3, -, u3⟩ := RD_y r3
  obtain ⟨e1, f1⟩ := u1 hf
  obtain ⟨e2, f2⟩ := u2 f1
  obtain ⟨e3, f3⟩ := u3 f2
  subst e1; subst e2; subst e3
  have ke : ∀ {L L' : List Ms}, rdop w L L' [] → cn u L' = cn u L ∧ L'.length ≤ L.length := fun {L L'} p => by
    rcases p with ⟨-, rfl, -⟩ | ⟨i, hi, p⟩
    · exact ⟨rfl, Nat.le_refl _⟩
    · obtain ⟨i0, i1, -⟩ := List.findIdx?_eq_some_iff_getElem.mp hi
      rcases p with ⟨rfl, -⟩ | ⟨y, -, e⟩
      · refine ⟨?_, (List.eraseIdx_sublist _ _).length_le⟩
        have := cp_er (toW u) L i L[i] (List.getElem?_eq_getElem i0)
        have hz : toW u L[i] = false := by
          unfold toW
          have : L[i].1 = w := by simpa using i1
          rw [this]
          exact beq_eq_false_iff_ne.mpr (fun e => hu e.symm)
        rw [hz] at this
        simp only [Bool.false_eq_true, if_false, Nat.add_zero] at this
        exact this
      · cases e
  obtain ⟨k1, l1⟩ := ke p1
  obtain ⟨k2, l2⟩ := ke p2
  obtain ⟨k3, l3⟩ := ke p3
  have nl : ln σ' = ln σ3 → cn u (ln σ) ≤ cn u (ln σ') ∧ (ln σ').length ≤ (ln σ).length + 1 := fun e => by rw [e]; omega
  have tl : ∀ {to ty a b c d}, TL to ty a b c d σ3 σ' → cn u (ln σ) ≤ cn u (ln σ') ∧ (ln σ').length ≤ (ln σ).length + 1 := fun {to ty a b c d} t => by
    obtain ⟨kv, t⟩ := t
    rw [t, tl_z (by omega), List.length_append, List.length_singleton]
    refine ⟨?_, by omega⟩
    have : cn u (ln σ3) ≤ cn u (ln σ3 ++ [(to, [ty, σ3 31 0, a, b, c, d], kv)]) := cn_sub (List.sublist_append_left _ _)
    omega
  obtain ⟨-, -, -, c⟩ := a
  rcases c with ⟨-, -, -, -, c⟩ | ⟨-, c⟩ | ⟨c0, c⟩
  · rcases c with ⟨-, c⟩ | ⟨-, c⟩
    · exact tl c
    · exact nl c
  · rcases c with ⟨-, -, -, a, c⟩ | ⟨-, -, -, ⟨a, c⟩, -⟩ | ⟨-, -, -, c⟩ | ⟨-, -, -, -, -, c⟩
    · exact tl c
    · exact tl c
    · exact tl c
    · exact nl c
  · rcases c with ⟨-, -, -, c⟩ | ⟨-, -, -, -, -, c⟩ | ⟨-, -, -, -, -, c, -⟩ | ⟨-, -, -, -, -, c1, -, -, -, c⟩ | ⟨-, -, -, -, c⟩
    · exact tl c
    · exact nl c
    · exact nl c
    · omega
    · rcases c with ⟨-, -, c⟩ | ⟨-, c⟩
      · exact tl c
      · exact tl c
theorem HR_cn {σ σ' : qS} (hl : (ln σ).length ≤ 95) (h : HR σ σ') {u : Int} (hu : u ≠ 6) : cn u (ln σ) ≤ cn u (ln σ') ∧ (ln σ').length ≤ (ln σ).length := by
  obtain ⟨-, -, c⟩ := h
  rcases c with ⟨c1, c2, -⟩ | ⟨i, x, c1, c2, c⟩
  · rw [c2]; exact ⟨Nat.le_refl _, Nat.le_refl _⟩
  · obtain ⟨i0, i1, -⟩ := List.findIdx?_eq_some_iff_getElem.mp c1
    have el : ((ln σ).eraseIdx i).length = (ln σ).length - 1 := List.length_eraseIdx_of_lt i0
    have hx : x.1 = 6 := by
      have := List.getElem?_eq_getElem i0
      rw [c2] at this
      rw [← Option.some.inj this] at i1
      simpa using i1
    have ce := cp_er (toW u) (ln σ) i x c2
    have hz : toW u x = false := by
      unfold toW
      rw [hx]
      exact beq_eq_false_iff_ne.mpr (fun e => hu e.symm)
    rw [hz] at ce
    simp only [Bool.false_eq_true, if_false, Nat.add_zero] at ce
    have ce' : cn u ((ln σ).eraseIdx i) = cn u (ln σ) := ce
    have er : ln σ' = (ln σ).eraseIdx i → cn u (ln σ) ≤ cn u (ln σ') ∧ (ln σ').length ≤ (ln σ).length := fun e => by rw [e]; omega
    rcases c with ⟨-, c, -⟩ | ⟨he, h1, -, -, fi, en, -, c⟩ | ⟨-, -, c, -⟩ | ⟨-, -, c, -⟩
    · exact er c
    · rcases c with ⟨c, -⟩ | ⟨t, -, -, -, -, -, kv, c⟩
      · exact er c
      · rw [tl_z (by omega)] at c
        rw [c, List.length_append, List.length_singleton]
        have : cn u ((ln σ).eraseIdx i) ≤ cn u ((ln σ).eraseIdx i ++ [(xw x 2, [2, σ 31 0, t, 0, 0, 0], kv)]) := cn_sub (List.sublist_append_left _ _)
        omega
    · exact er c
    · exact er c

