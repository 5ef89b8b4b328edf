theorem vl_x (e : Int) {S S' : Int → Prop} {L : List Ms} {i : Nat} {x : Ms} (hx : L[i]? = some x) (h12 : t12 x = false) (hd : dz e S L ≤ dz e S' (L.eraseIdx i)) : vl e S L ≤ vl e S' (L.eraseIdx i) := by
  have b := cp_er t12 L i x hx
  have c := cp_er (gSp e) L i x hx
  have g : gSp e x = false := by
    cases q : gSp e x with
    | false => rfl
    | true => rw [gSp_12 q] at h12; cases h12
  rw [h12] at b
  rw [g] at c
  simp only [Bool.false_eq_true, if_false] at b c
  unfold vl
  omega
theorem HR_vs {σ σ' : qS} (h : HR σ σ') (hx : DXo σ) (hb : spl σ ≤ 38) : vs σ ≤ vs σ' := by
  obtain ⟨-, hk, c⟩ := h
  have he := hk 31 (by decide)
  have sp : spl σ' = spl σ := (st_c (fun k m => hk k ((by decide : ∀ k ∈ stC, k ∈ hrK) k m))).1
  have same' : σ' 33 = σ 33 → vl (σ 31 0) (uns σ) (ln σ) ≤ vl (σ 31 0) (uns σ) (ln σ') → vs σ ≤ vs σ' := fun e q => by
    rw [vs_k he e sp]
    exact q
  rcases c with ⟨-, c, cj⟩ | ⟨i, x, c1, c2, c⟩
  · exact same' (cj _ (by decide)) (by rw [c]; exact Int.le_refl _)
  · have de := dz_e (σ 31 0) (ln σ) (uns σ) i x c2
    have x6 : x.1 = 6 := by
      obtain ⟨p, q, -⟩ := List.findIdx?_eq_some_iff_getElem.mp c1
      have e2 : (ln σ)[i] = x := by
        rw [List.getElem?_eq_getElem p] at c2
        exact Option.some.inj c2
      rw [e2] at q
      simpa using q
    rcases c with ⟨d0, d1, cj⟩ | ⟨d0, k1, sb, -, fi, en, fe, c⟩ | ⟨d0, k3, d1, -, -, c⟩ | ⟨d0, k7, d1, -, -, c⟩
    · refine same' (cj _ (by decide)) ?_
      have v := vl_e (σ 31 0) (uns σ) c2
      have nm : ¬ mAk (σ 31 0) x := fun q => d0 q.2.1
      have ng : gSp (σ 31 0) x = false := decide_eq_false (fun q => d0 q.2.1)
      rw [if_neg nm, ng] at v
      simp only [Bool.false_eq_true, if_false] at v
      rw [d1]
      split at v <;> omega
    · have t1 : t12 x = true := by unfold t12; rw [k1]; rfl
      have ng : gSp (σ 31 0) x = false := decide_eq_false (fun q => by have := q.1; omega)
      have b := cp_er t12 (ln σ) i x c2
      have d := cp_er (gSp (σ 31 0)) (ln σ) i x c2
      rw [t1] at b
      rw [ng] at d
      simp only [Bool.false_eq_true, if_false, if_true] at b d
      rw [if_pos (show mAk (σ 31 0) x from ⟨x6, d0, k1⟩)] at de
      rcases c with ⟨c, -⟩ | ⟨u, u1, u2, -, -, -, kv, c⟩
      · refine same' sb ?_
        rw [c]
        unfold vl
        omega
      · refine same' sb ?_
        have t := vl_t (σ 31 0) (uns σ) ((ln σ).eraseIdx i)
        have a := dz_a (σ 31 0) ((xw x 2, [2, σ 31 0, u, 0, 0, 0], kv) : Ms) (tl95 ((ln σ).eraseIdx i)) (uns σ)
        have q : [((xw x 2, [2, σ 31 0, u, 0, 0, 0], kv) : Ms)].countP t12 = 1 := rfl
        rw [c]
        unfold vl at t ⊢
        rw [List.countP_append, List.countP_append, q]
        rcases fe with ⟨f1, f2, f3⟩ | ⟨f1, f2, f3⟩
        · have z : dz (σ 31 0) (uns σ) (ln σ) = 0 := uns_m f1
          have z2 : dz (σ 31 0) (uns σ) ((ln σ).eraseIdx i) = 0 := dz_0 _ _ _ (fun k q => f1 k q.1.1 q.1.2 q.2)
          omega
        · have g : [((xw x 2, [2, σ 31 0, u, 0, 0, 0], kv) : Ms)].countP (gSp (σ 31 0)) = 1 := by
            rw [List.countP_cons, List.countP_nil]
            have : gSp (σ 31 0) ((xw x 2, [2, σ 31 0, u, 0, 0, 0], kv) : Ms) = true := decide_eq_true ⟨rfl, rfl, by show u < 38; omega⟩
            rw [this]
            rfl
          omega
    · have t0 : t12 x = false := t12_f (by omega) (by omega)
      rcases c with ⟨c0, -, c⟩ | ⟨-, c, -⟩
      · have d := dz_d (σ 31 0) (xw x 3) (ln σ) (uns σ) i x c1 c2 ⟨x6, d0, k3, rfl⟩
        have m := dz_m (σ 31 0) ((ln σ).eraseIdx i) (fun k => uns σ k ∧ k ≠ xw x 3) (uns σ') (fun k q => by
          refine ⟨⟨q.1.1.1, by rw [sp]; exact q.1.1.2⟩, ?_⟩
          rw [c k, if_neg q.2]
          exact q.1.2)
        unfold vs
        rw [he, d1]
        exact vl_x (σ 31 0) c2 t0 (by omega)
      · refine same' c ?_
        rw [d1]
        rw [if_neg (fun q => by have := q.2.2; omega)] at de
        exact vl_x (σ 31 0) c2 t0 (by omega)
    · have t0 : t12 x = false := t12_f (by omega) (by omega)
      rw [if_neg (fun q => by have := q.2.2; omega)] at de
      rcases c with ⟨-, -, c, -⟩ | ⟨-, c, -⟩
      · have m := dz_m (σ 31 0) ((ln σ).eraseIdx i) (uns σ) (uns σ') (fun k q => by
          refine ⟨⟨q.1.1, by rw [sp]; exact q.1.2⟩, ?_⟩
          rw [c k]
          split
          · rfl
          · exact q.2)
        unfold vs
        rw [he, d1]
        exact vl_x (σ 31 0) c2 t0 (by omega)
      · refine same' c ?_
        rw [d1]
        exact vl_x (σ 31 0) c2 t0 (by omega)
-- GIVEs of splits that are read in a tick
noncomputable def rsq (τ : Nat → qS) (ρ : Nat → qS × qS × qS) (t : Nat) : Nat := if t % 7 < 6 then nkS ((t % 7 : Nat) : Int) (τ t) + nkS ((t % 7 : Nat) : Int) (ρ t).1 + nkS ((t % 7 : Nat) : Int) (ρ t).2.1 else 0
def GAt (τ : Nat → qS) (t : Nat) : Prop := ASKt τ t ∧ GAc (τ (t + 1))
theorem vs_t {L s0 : Nat} {τ : Nat → qS} (hR : RNN L τ) {A : Nat → List (Ms × Nat × Nat)} {ρ : Nat → qS × qS × qS} {B : Nat → List (Ms × Nat × Nat) × List (Ms × Nat × Nat) × List (Ms × Nat × Nat)} (h : ANC L s0 τ A ρ B) {t : Nat} (h1 : s0 ≤ t) (h2 : t < 7 * L) : vs (τ t) + (gvq τ ρ t : Nat) + ((@ite Nat (GAt τ t) (Classical.propDecidable _) 1 0 : Nat) : Int) ≤ vs (τ (t + 1)) + (rsq τ ρ t : Nat) + ((@ite Nat (ASKt τ t) (Classical.propDecidable _) 1 0 : Nat) : Int) := by
  by_cases h6 : t % 7 < 6
  · obtain ⟨⟨r1, r2, r3, a, -⟩, -⟩ := h.2 t h1 h2 h6
    have a1 := RD_vs (w := ((t % 7 : Nat) : Int)) (by omega) r1
    have a2 := RD_vs (w := ((t % 7 : Nat) : Int)) (by omega) r2
    have a3 := RD_vs (w := ((t % 7 : Nat) : Int)) (by omega) r3
    have a4 := ACT_vs a
    have e1 : gvq τ ρ t = nk 2 ((t % 7 : Nat) : Int) (τ t) + nk 2 ((t % 7 : Nat) : Int) (ρ t).1 + nk 2 ((t % 7 : Nat) : Int) (ρ t).2.1 := by unfold gvq; exact if_pos h6
    have e2 : rsq τ ρ t = nkS ((t % 7 : Nat) : Int) (τ t) + nkS ((t % 7 : Nat) : Int) (ρ t).1 + nkS ((t % 7 : Nat) : Int) (ρ t).2.1 := by unfold rsq; exact if_pos h6
    rw [e1, e2]
    by_cases k : AK ((t % 7 : Nat) : Int) (τ (t + 1))
    · rw [if_pos k] at a4
      rw [if_pos (show ASKt τ t from ⟨h6, k⟩)]
      by_cases g : GAc (τ (t + 1))
      · rw [if_pos ⟨k, g⟩] at a4
        rw [if_pos (show GAt τ t from ⟨⟨h6, k⟩, g⟩)]
        omega
      · rw [if_neg (fun q => g q.2)] at a4
        rw [if_neg (fun q => g q.2)]
        omega
    · rw [if_neg k, if_neg (fun q => k q.1)] at a4
      rw [if_neg (fun q => k q.1.2), if_neg (fun q => k q.2)]
      omega
  · have e1 : gvq τ ρ t = 0 := by unfold gvq; exact if_neg h6
    have e2 : rsq τ ρ t = 0 := by unfold rsq; exact if_neg h6
    rw [e1, e2, if_neg (fun q => h6 q.1.1), if_neg (fun q => h6 q.1)]
    rcases hR.2 t h2 with ⟨e, -⟩ | ⟨-, σ1, σ2, r1, r2, r3, -⟩
    · omega
    · have dx := run_dx hR (t := t) (by omega)
      obtain ⟨x1, x2, x3, x4, -⟩ := clk_x (τ t)
      have c0 : vs (clk (τ t)) = vs (τ t) := by
        rw [vs_k x2 x3 x4]
        unfold vs
        rw [x1]
      have d0 : DXo (clk (τ t)) := by
        intro x m
        rw [x1] at m
        rw [x2]
        exact dx.1 x m
      have d1 := HR_dx r1 d0
      have d2 := HR_dx r2 d1
      have s1 : spl σ1 = spl (clk (τ t)) := (st_c (fun k m => r1.2.1 k ((by decide : ∀ k ∈ stC, k ∈ hrK) k m))).1
      have s2 : spl σ2 = spl σ1 := (st_c (fun k m => r2.2.1 k ((by decide : ∀ k ∈ stC, k ∈ hrK) k m))).1
      have b1 := HR_vs r1 d0 (by omega)
      have b2 := HR_vs r2 d1 (by omega)
      have b3 := HR_vs r3 d2 (by omega)
      omega
theorem VSs {L s0 : Nat} {τ : Nat → qS} (hR : RNN L τ) {A : Nat → List (Ms × Nat × Nat)} {ρ : Nat → qS × qS × qS} {B : Nat → List (Ms × Nat × Nat) × List (Ms × Nat × Nat) × List (Ms × Nat × Nat)} (h : ANC L s0 τ A ρ B) {s : Nat} (h1 : s0 ≤ s) : ∀ k, s + k ≤ 7 * L → vs (τ s) + (smq (gvq τ ρ) s k : Nat) + (ctq (GAt τ) s k : Nat) ≤ vs (τ (s + k)) + (smq (rsq τ ρ) s k : Nat) + (ctq (ASKt τ) s k : Nat)
  | 0, _ => by simp [smq, ctq]
  | k + 1, hl => by
    have ih := VSs hR h h1 k (by omega)
    have b := vs_t hR h (t := s + k) (by omega) (by omega)
    rw [show s + (k + 1) = s + k + 1 by omega]
    simp only [ctq, smq]
    simp only [Int.natCast_add] at *
    omega
theorem dz_l (e : Int) : ∀ (L : List Ms) (S : Int → Prop), dz e S L ≤ L.length
  | [], _ => Nat.le_refl _
  | x :: L, S => by
    have a := dz_l e L (fun k => S k ∧ ¬ mDn e x k)
    simp only [dz, List.length_cons]
    split <;> omega
theorem vs_b {σ : qS} (h : (ln σ).length ≤ 95) : -95 ≤ vs σ ∧ vs σ ≤ 190 := by
  have a := dz_l (σ 31 0) (ln σ) (uns σ)
  have b : (ln σ).countP t12 ≤ (ln σ).length := List.countP_le_length
  have c : (ln σ).countP (gSp (σ 31 0)) ≤ (ln σ).length := List.countP_le_length
  unfold vs vl
  omega

