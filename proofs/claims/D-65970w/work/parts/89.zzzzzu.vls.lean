-- GIVEs of splits on the line, and the value of a line: doomed ASKs + GIVEs of splits - (ASKs and GIVEs)
def gSp (e : Int) (x : Ms) : Bool := decide (xw x 0 = 2 ∧ xw x 1 = e ∧ xw x 2 < 38)
noncomputable def vl (e : Int) (S : Int → Prop) (L : List Ms) : Int := (dz e S L : Int) + (L.countP (gSp e) : Nat) - (L.countP t12 : Nat)
theorem vl_e (e : Int) (S : Int → Prop) {L : List Ms} {i : Nat} {x : Ms} (hx : L[i]? = some x) : vl e S L + (if t12 x = true then 1 else 0) ≤ vl e S (L.eraseIdx i) + (@ite Int (mAk e x) (Classical.propDecidable _) 1 0) + (if gSp e x = true then 1 else 0) := by
  have a := dz_e e L S i x hx
  have b := cp_er t12 L i x hx
  have c := cp_er (gSp e) L i x hx
  unfold vl
  by_cases d : mAk e x
  · rw [if_pos d] at a ⊢
    split <;> split <;> simp_all <;> omega
  · rw [if_neg d] at a ⊢
    split <;> split <;> simp_all <;> omega
theorem gSp_12 {e : Int} {x : Ms} (h : gSp e x = true) : t12 x = true := by
  have := (of_decide_eq_true h).1
  unfold t12
  rw [this]
  rfl
theorem mAk_12 {e : Int} {x : Ms} (h : mAk e x) : t12 x = true ∧ gSp e x = false := by
  refine ⟨?_, decide_eq_false (fun q => by have := q.1; have := h.2.2; omega)⟩
  unfold t12
  rw [h.2.2]
  rfl
theorem vl_t (e : Int) (S : Int → Prop) (L : List Ms) : vl e S L ≤ vl e S (tl95 L) := by
  unfold tl95
  by_cases c : 95 ≤ L.length
  · rw [if_pos c]
    cases L with
    | nil => simp at c
    | cons x L =>
      have a := vl_e e S (L := x :: L) (i := 0) (x := x) rfl
      by_cases d : mAk e x
      · obtain ⟨d1, d2⟩ := mAk_12 d
        rw [if_pos d, d1, d2] at a
        simp only [if_true, Bool.false_eq_true, if_false] at a
        omega
      · rw [if_neg d] at a
        by_cases g : gSp e x = true
        · rw [g, gSp_12 g] at a
          simp only [if_true] at a
          omega
        · rw [if_neg g] at a
          split at a <;> omega
  · rw [if_neg c]
    exact Int.le_refl _
theorem vl_a (e : Int) (S : Int → Prop) (L : List Ms) {z : Ms} (hz : t12 z = false) : vl e S L ≤ vl e S (L ++ [z]) := by
  have a := dz_a e z L S
  unfold vl
  rw [List.countP_append, List.countP_append]
  have c : [z].countP t12 = 0 := by rw [List.countP_cons, List.countP_nil, hz]; rfl
  omega
theorem TL_vl {to ty a b c d : Int} {σ σ' : qS} (h : TL to ty a b c d σ σ') (h1 : ty ≠ 1) (h2 : ty ≠ 2) (e : Int) (S : Int → Prop) : vl e S (ln σ) ≤ vl e S (ln σ') := by
  obtain ⟨kv, q⟩ := h
  rw [q]
  exact Int.le_trans (vl_t e S _) (vl_a e S _ (t12_f (x := ((to, [ty, σ 31 0, a, b, c, d], kv) : Ms)) h1 h2))
noncomputable def vs (σ : qS) : Int := vl (σ 31 0) (uns σ) (ln σ)
theorem vs_k {σ σ' : qS} (h1 : σ' 31 = σ 31) (h2 : σ' 33 = σ 33) (h3 : spl σ' = spl σ) : vs σ' = vl (σ 31 0) (uns σ) (ln σ') := by
  have : uns σ' = uns σ := by funext k; unfold uns; rw [h2, h3]
  unfold vs
  rw [h1, this]
noncomputable def nkS (w : Int) (σ : qS) : Nat := @ite Nat (∃ (i : Nat) (x : Ms), (ln σ).findIdx? (fun m => m.1 == w) = some i ∧ (ln σ)[i]? = some x ∧ xw x 1 = σ 31 0 ∧ xw x 0 = 2 ∧ xw x 2 < 38) (Classical.propDecidable _) 1 0
theorem RD_vs {w : Int} (hw : 0 ≤ w ∧ w < 6) {σ σ' : qS} (h : RD w σ σ') : vs σ + (nk 2 w σ : Nat) ≤ vs σ' + (nkS w σ : Nat) := by
  have h0 := h
  obtain ⟨-, -, hk, c⟩ := h
  have k := vs_k (hk 31 (by decide)) (hk 33 (by decide)) (st_c (fun k m => hk k ((by decide : ∀ k ∈ stC, k ∈ rdK) k m))).1
  rw [k]
  unfold vs
  rcases c with ⟨c1, c2, -⟩ | ⟨i, x, c1, c2, c⟩
  · have z : nk 2 w σ = 0 := nk_0 (fun i x e _ _ _ => by rw [c1] at e; cases e)
    rw [z, c2]
    omega
  · have x6 : x.1 ≠ 6 := fun e => by
      have := List.findIdx?_eq_some_iff_getElem.mp c1
      obtain ⟨p, q, -⟩ := this
      have e2 : (ln σ)[i] = x := by
        rw [List.getElem?_eq_getElem p] at c2
        exact Option.some.inj c2
      rw [e2, e] at q
      have : (6 : Int) = w := by simpa using q
      omega
    have v := vl_e (σ 31 0) (uns σ) c2
    have nm : ¬ mAk (σ 31 0) x := fun q => x6 q.1
    rw [if_neg nm] at v
    by_cases d : xw x 1 = σ 31 0 ∧ xw x 0 = 2
    · have n1 := nk_1 c1 c2 d.1 d.2
      have t1 : t12 x = true := by unfold t12; rw [d.2]; rfl
      rw [t1] at v
      simp only [if_true] at v
      have er : ln σ' = (ln σ).eraseIdx i := by
        rcases c with ⟨d0, -⟩ | ⟨-, -, d2, -⟩ | ⟨-, d1, -⟩ | ⟨-, d1, -⟩
        · exact absurd d.1 d0
        · exact d2
        · omega
        · omega
      rw [n1, er]
      by_cases g : xw x 2 < 38
      · have : nkS w σ = 1 := by unfold nkS; exact if_pos ⟨i, x, c1, c2, d.1, d.2, g⟩
        rw [this]
        split at v <;> omega
      · have : gSp (σ 31 0) x = false := decide_eq_false (fun q => g q.2.2)
        rw [this] at v
        simp only [Bool.false_eq_true, if_false] at v
        omega
    · have n0 : nk 2 w σ = 0 := nk_0 (fun i' x' e1 e2 e3 e4 => by
        rw [c1] at e1
        have ei := Option.some.inj e1
        subst ei
        rw [c2] at e2
        have ex := Option.some.inj e2
        subst ex
        exact d ⟨e3, e4⟩)
      have g : gSp (σ 31 0) x = false := decide_eq_false (fun q => d ⟨q.2.1, q.1⟩)
      rw [g] at v
      simp only [Bool.false_eq_true, if_false] at v
      rw [n0]
      have ve : vl (σ 31 0) (uns σ) (ln σ) ≤ vl (σ 31 0) (uns σ) ((ln σ).eraseIdx i) := by
        split at v <;> omega
      rcases c with ⟨-, d2, -⟩ | ⟨-, -, d2, -⟩ | ⟨-, -, -, a, kv, d2⟩ | ⟨-, -, d2, -⟩
      · rw [d2]; omega
      · rw [d2]; omega
      · rw [d2]
        have t := vl_t (σ 31 0) (uns σ) ((ln σ).eraseIdx i)
        have b := vl_a (σ 31 0) (uns σ) (tl95 ((ln σ).eraseIdx i)) (z := ((xw x 5, [6, σ 31 0, xw x 2, xw x 4, a, xw x 3], kv) : Ms)) rfl
        omega
      · rw [d2]; omega
def GAc (σ : qS) : Prop := ∃ k, uns σ k ∧ ∀ x ∈ ln σ, ¬ mDn (σ 31 0) x k
theorem ACT_vs {w : Int} {σ σ' : qS} (h : ACT w σ σ') : vs σ + (@ite Int (AK w σ' ∧ GAc σ') (Classical.propDecidable _) 1 0) ≤ vs σ' + (@ite Int (AK w σ') (Classical.propDecidable _) 1 0) := by
  obtain ⟨-, -, hk, c⟩ := h
  have he := hk 31 (by decide)
  have sp := (st_c (fun k m => hk k ((by decide : ∀ k ∈ stC, k ∈ acK) k m))).1
  have k := vs_k he (hk 33 (by decide)) sp
  have un : uns σ' = uns σ := by funext k; unfold uns; rw [hk 33 (by decide), sp]
  have easy : vl (σ 31 0) (uns σ) (ln σ) ≤ vl (σ 31 0) (uns σ) (ln σ') → vs σ + (@ite Int (AK w σ' ∧ GAc σ') (Classical.propDecidable _) 1 0) ≤ vs σ' + (@ite Int (AK w σ') (Classical.propDecidable _) 1 0) := fun q => by
    rw [k]
    unfold vs
    by_cases a : AK w σ'
    · rw [if_pos a]
      split <;> omega
    · rw [if_neg a, if_neg (fun q => a q.1)]
      omega
  have nl : ln σ' = ln σ → vl (σ 31 0) (uns σ) (ln σ) ≤ vl (σ 31 0) (uns σ) (ln σ') := fun e => by rw [e]; exact Int.le_refl _
  rcases c with ⟨-, -, c0, c1, c⟩ | ⟨-, c⟩ | ⟨-, c⟩
  · rcases c with ⟨a0, c⟩ | ⟨-, c⟩
    · have ak : AK w σ' := ⟨c0, by rw [c1, a0]; rfl⟩
      obtain ⟨kv, e⟩ := c
      rw [if_pos ak, k]
      unfold vs
      have t := vl_t (σ 31 0) (uns σ) (ln σ)
      have za : mAk (σ 31 0) ((6, [1, σ 31 0, w, 0, 0, 0], kv) : Ms) := ⟨rfl, rfl, rfl⟩
      have d0 := dz_a (σ 31 0) ((6, [1, σ 31 0, w, 0, 0, 0], kv) : Ms) (tl95 (ln σ)) (uns σ)
      have q : [((6, [1, σ 31 0, w, 0, 0, 0], kv) : Ms)].countP t12 = 1 := rfl
      by_cases g : GAc σ'
      · rw [if_pos ⟨ak, g⟩]
        obtain ⟨j, g1, g2⟩ := g
        rw [un] at g1
        have d1 := dz_a1 (σ 31 0) ((6, [1, σ 31 0, w, 0, 0, 0], kv) : Ms) za j (tl95 (ln σ)) (uns σ) g1 (fun x hx => by
          have := g2 x (by rw [e]; exact List.mem_append_left _ hx)
          rw [he] at this
          exact this)
        rw [e]
        unfold vl at t ⊢
        rw [List.countP_append, List.countP_append, q]
        omega
      · rw [if_neg (fun z => g z.2), e]
        unfold vl at t ⊢
        rw [List.countP_append, List.countP_append, q]
        omega
    · exact easy (nl c)
  · rcases c with ⟨-, -, -, a', c⟩ | ⟨-, -, -, ⟨a', c⟩, -⟩ | ⟨-, -, -, c⟩ | ⟨-, -, -, -, -, c⟩
    · exact easy (TL_vl c (by decide) (by decide) _ _)
    · exact easy (TL_vl c (by decide) (by decide) _ _)
    · exact easy (TL_vl c (by decide) (by decide) _ _)
    · exact easy (nl c)
  · rcases c with ⟨-, -, -, c⟩ | ⟨-, -, -, -, -, c⟩ | ⟨-, -, -, -, -, c, -⟩ | ⟨-, -, -, -, -, -, -, -, -, c⟩ | ⟨-, -, -, -, c⟩
    · exact easy (TL_vl c (by decide) (by decide) _ _)
    · exact easy (nl c)
    · exact easy (nl c)
    · rcases c with ⟨-, -, c⟩ | ⟨-, -, kv, kv', c⟩
      · exact easy (TL_vl c (by decide) (by decide) _ _)
      · refine easy ?_
        rw [c]
        have e1 := vl_t (σ 31 0) (uns σ) (ln σ)
        have e2 := vl_a (σ 31 0) (uns σ) (tl95 (ln σ)) (z := ((σ 33 (σ 64 w), [5, σ 31 0, σ 64 w, σ 62 w - 38, ps σ w, w], kv) : Ms)) rfl
        have e3 := vl_t (σ 31 0) (uns σ) (tl95 (ln σ) ++ [((σ 33 (σ 64 w), [5, σ 31 0, σ 64 w, σ 62 w - 38, ps σ w, w], kv) : Ms)])
        have e4 := vl_a (σ 31 0) (uns σ) (tl95 (tl95 (ln σ) ++ [((σ 33 (σ 64 w), [5, σ 31 0, σ 64 w, σ 62 w - 38, ps σ w, w], kv) : Ms)])) (z := ((6, [7, σ 31 0, σ 64 w, σ 33 (σ 64 w), 0, 0], kv') : Ms)) rfl
        omega
    · rcases c with ⟨-, -, c⟩ | ⟨-, c⟩
      · exact easy (TL_vl c (by decide) (by decide) _ _)
      · exact easy (TL_vl c (by decide) (by decide) _ _)

