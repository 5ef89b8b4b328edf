-- letters to the master: an ASK, the end of a task (DONE, TRAP), a LACKS
theorem c6_tl (l : List Ms) : cn 6 (tl95 l) ≤ cn 6 l := by
  unfold tl95
  split
  · exact (List.eraseIdx_sublist l 0).countP_le
  · exact Nat.le_refl _
theorem c6_ap (l : List Ms) (m : Ms) : cn 6 (l ++ [m]) = cn 6 l + (if m.1 = 6 then 1 else 0) := by
  unfold cn
  rw [List.countP_append, List.countP_singleton]
  congr 1
  unfold toW
  by_cases e : m.1 = 6
  · rw [if_pos e, if_pos (by rw [e]; rfl)]
  · rw [if_neg e, if_neg (by rw [beq_iff_eq]; exact e)]
theorem tl_lst (D : List Ms) (m : Ms) : m ∈ tl95 (D ++ [m]) := by
  unfold tl95
  split
  · next c =>
    cases D with
    | nil =>
      rw [List.nil_append, List.length_singleton] at c
      omega
    | cons a D =>
      show m ∈ D ++ [m]
      exact List.mem_append_right D (List.mem_singleton.mpr rfl)
  · exact List.mem_append_right D (List.mem_singleton.mpr rfl)
def MSt (τ : Nat → qS) (ρ : Nat → qS × qS × qS) (t : Nat) : Prop := ASKt τ t ∨ FZt τ ρ t
theorem ACT_c6 {w : Int} {σ σ' : qS} (hw : ∀ x ∈ ln σ', xw x 0 = 5 → x.1 ≠ 6) (h : ACT w σ σ') : cn 6 (ln σ') ≤ cn 6 (ln σ) ∨ (cn 6 (ln σ') ≤ cn 6 (ln σ) + 1 ∧ ((σ' 62 w = -1 ∧ σ' 65 w = 1) ∨ (σ 62 w ≠ -1 ∧ σ' 62 w = -1) ∨ (38 ≤ σ' 62 w ∧ σ' 65 w = 1 ∧ σ' 66 w = 0))) := by
  have t6 : ∀ {ty a b c d : Int}, TL 6 ty a b c d σ σ' → cn 6 (ln σ') ≤ cn 6 (ln σ) + 1 := fun {ty a b c d} ⟨kv, e⟩ => by
    have l := c6_tl (ln σ)
    rw [e, c6_ap, if_pos rfl]
    omega
  have fg : ∀ {ty a b c d : Int}, σ 62 w ≠ -1 → fgo w σ' → TL 6 ty a b c d σ σ' → cn 6 (ln σ') ≤ cn 6 (ln σ) ∨ (cn 6 (ln σ') ≤ cn 6 (ln σ) + 1 ∧ ((σ' 62 w = -1 ∧ σ' 65 w = 1) ∨ (σ 62 w ≠ -1 ∧ σ' 62 w = -1) ∨ (38 ≤ σ' 62 w ∧ σ' 65 w = 1 ∧ σ' 66 w = 0))) := fun {ty a b c d} n f tl => Or.inr ⟨t6 tl, Or.inr (Or.inl ⟨n, f.1⟩)⟩
  have eq : ln σ' = ln σ → cn 6 (ln σ') ≤ cn 6 (ln σ) ∨ (cn 6 (ln σ') ≤ cn 6 (ln σ) + 1 ∧ ((σ' 62 w = -1 ∧ σ' 65 w = 1) ∨ (σ 62 w ≠ -1 ∧ σ' 62 w = -1) ∨ (38 ≤ σ' 62 w ∧ σ' 65 w = 1 ∧ σ' 66 w = 0))) := fun e => Or.inl (by rw [e]; exact Nat.le_refl _)
  obtain ⟨-, -, -, q⟩ := h
  rcases q with ⟨q1, -, q2, q3, q⟩ | ⟨⟨q0, q00⟩, q⟩ | ⟨q0, q⟩
  · rcases q with ⟨a0, tl⟩ | ⟨-, e⟩
    · refine Or.inr ⟨t6 tl, Or.inl ⟨q2, ?_⟩⟩
      rw [q3, if_neg (by omega), a0]
      rfl
    · exact eq e
  · have n : σ 62 w ≠ -1 := by omega
    rcases q with ⟨-, -, f, c, tl⟩ | ⟨-, f, -, ⟨c, tl⟩, -⟩ | ⟨-, -, f, tl⟩ | ⟨-, -, -, -, -, e⟩
    · exact fg n f tl
    · exact fg n f tl
    · exact fg n f tl
    · exact eq e
  · have n : σ 62 w ≠ -1 := by omega
    rcases q with ⟨-, -, f, tl⟩ | ⟨-, -, -, -, f, e⟩ | ⟨-, -, -, -, -, e, -⟩ | ⟨-, -, -, -, -, k1, -, -, k2, q⟩ | ⟨-, -, f, -, q⟩
    · exact fg n f tl
    · exact eq e
    · exact eq e
    · rcases q with ⟨-, -, kv, e⟩ | ⟨-, k3, kv, kv', e⟩
      · left
        have l := c6_tl (ln σ)
        have m := hw (σ 33 (σ 64 w), [5, σ 31 0, σ 64 w, σ 62 w - 38, ps σ w, w], kv) (by rw [e]; exact List.mem_append_right _ (List.mem_singleton.mpr rfl)) rfl
        rw [e, c6_ap, if_neg m]
        omega
      · right
        refine ⟨?_, Or.inr (Or.inr ⟨by omega, k2, k3⟩)⟩
        have l := c6_tl (ln σ)
        have l2 := c6_tl (tl95 (ln σ) ++ [(σ 33 (σ 64 w), [5, σ 31 0, σ 64 w, σ 62 w - 38, ps σ w, w], kv)])
        rw [c6_ap] at l2
        rw [e, c6_ap, if_pos rfl]
        by_cases m : σ 33 (σ 64 w) = 6
        · exfalso
          have tm : (σ 33 (σ 64 w), [5, σ 31 0, σ 64 w, σ 62 w - 38, ps σ w, w], kv) ∈ ln σ' := by
            rw [e]
            exact List.mem_append_left _ (tl_lst _ _)
          exact hw _ tm rfl m
        · rw [if_neg m] at l2
          omega
    · rcases q with ⟨-, -, tl⟩ | ⟨-, tl⟩
      · exact fg n f tl
      · exact fg n f tl
theorem mq_w2 {L s0 : Nat} {τ : Nat → qS} (hR : RNN L τ) {A : Nat → List (Ms × Nat × Nat)} {ρ : Nat → qS × qS × qS} {B : Nat → List (Ms × Nat × Nat) × List (Ms × Nat × Nat) × List (Ms × Nat × Nat)} (h : ANC2 L s0 τ A ρ B) (h7 : 224 ≤ s0) {t : Nat} (h1 : s0 + 448 ≤ t) (h2 : t < 7 * L) (h6 : t % 7 < 6) : mqc (A (t + 1)) ≤ mqc (A t) + ctq (MSt τ ρ) t 1 + 2 * ctq (LKt τ) t 1 := by
  have e : ∀ u, s0 ≤ u → u ≤ 7 * L → mqc (A u) = cn 6 (ln (τ u)) := fun u u1 u2 => by
    rw [← h.1.1.2.1 u u1 u2]
    unfold mqc cn prA
    rw [List.countP_map]
    congr 1
  obtain ⟨⟨r1, r2, r3, a, -⟩, ⟨p0, p1, p2, p3, p4⟩, n1, n2, n3, -⟩ := h.1.2 t (by omega) h2 h6
  have f5 : ∀ y ∈ A t, xw y.1 0 = 5 → xw y.1 5 ≠ 6 := fun y hy y5 => by
    have tk := ANR_tk h.1.1 (t - s0) (by omega)
    rw [show s0 + (t - s0) = t by omega] at tk
    have lf := LIFE64 hR h.1.1 h7 (t := t) (by omega) (by omega) hy ((tokb_i y).mpr (Or.inl y5))
    obtain ⟨-, -, -, v, v6, -, ea, -⟩ := tk y hy ((tokb_i y).mpr (Or.inl y5)) (by omega)
    unfold asr at ea
    rw [if_pos y5] at ea
    omega
  have st : ∀ i, i ≤ 3 → mqc (stA A B t i) ≤ mqc (A t) := fun i => by
    induction i with
    | zero => intro _; exact Nat.le_refl _
    | succ i ih =>
      intro q
      have r := st_rd h.1 (by omega : s0 ≤ t) h2 h6 (i := i) (by omega)
      have a := RDn_mq r (fun y hy y5 => f5 y (st_f5 h.1 (by omega) h2 h6 i (by omega) y hy y5) y5)
      have b := ih (by omega)
      exact Nat.le_trans a b
  have s3 : mqc (B t).2.2 ≤ mqc (A t) := st 3 (Nat.le_refl _)
  have e3 : mqc (B t).2.2 = cn 6 (ln (ρ t).2.2) := by
    rw [← p3]
    unfold mqc cn prA
    rw [List.countP_map]
    congr 1
  rcases ACT_c6 (fun x hx x5 => by
    have := lt5_b hR (t := t + 1) (by omega) (by omega) hx x5
    omega) a with g | ⟨g, c⟩
  · rw [e (t + 1) (by omega) (by omega)]
    omega
  · rw [e (t + 1) (by omega) (by omega)]
    rcases c with c | c | c
    · have p := ctq_pt (P := MSt τ ρ) (s := t) (x := t) 1 (by omega) (by omega) (Or.inl ⟨h6, c.1, c.2⟩)
      omega
    · have p := ctq_pt (P := MSt τ ρ) (s := t) (x := t) 1 (by omega) (by omega) (Or.inr ⟨h6, c.1, c.2⟩)
      omega
    · have p := ctq_pt (P := LKt τ) (s := t) (x := t) 1 (by omega) (by omega) ⟨h6, c⟩
      omega
theorem MLIN2 {L s0 : Nat} {τ : Nat → qS} (hR : RNN L τ) {A : Nat → List (Ms × Nat × Nat)} {ρ : Nat → qS × qS × qS} {B : Nat → List (Ms × Nat × Nat) × List (Ms × Nat × Nat) × List (Ms × Nat × Nat)} (h : ANC2 L s0 τ A ρ B) (h7 : 224 ≤ s0) {s : Nat} (h1 : s0 + 448 ≤ s) : ∀ k, s + k ≤ 7 * L → ∃ j, j ≤ k ∧ mqc (A (s + k)) + 3 * ctq (fun t => t % 7 = 6) (s + j) (k - j) ≤ ctq (MSt τ ρ) (s + j) (k - j) + 2 * ctq (LKt τ) (s + j) (k - j) + (if j = 0 then mqc (A s) else 0) + 3
  | 0, _ => ⟨0, Nat.le_refl _, by simp [ctq]⟩
  | k + 1, hk => by
    obtain ⟨j, j1, j2⟩ := MLIN2 hR h h7 h1 k (by omega)
    have e1 : s + (k + 1) = s + k + 1 := by omega
    have ej : k + 1 - j = (k - j) + 1 := by omega
    have ej2 : s + j + (k - j) = s + k := by omega
    have i1 := ctq_jn (P := fun t => t % 7 = 6) (s := s + j) (k - j) 1
    have i2 := ctq_jn (P := MSt τ ρ) (s := s + j) (k - j) 1
    have i3 := ctq_jn (P := LKt τ) (s := s + j) (k - j) 1
    rw [ej2] at i1 i2 i3
    rw [e1]
    by_cases c : (s + k) % 7 = 6
    · have m := mq_m hR h (t := s + k) (by omega) (by omega) (by omega) c
      have u := ctq_le (P := fun t => t % 7 = 6) (s := s + k) 1
      by_cases c3 : 3 ≤ mqc (A (s + k))
      · refine ⟨j, by omega, ?_⟩
        rw [ej, i1, i2, i3]
        rw [Nat.max_eq_right c3] at m
        omega
      · refine ⟨k, by omega, ?_⟩
        rw [Nat.max_eq_left (by omega)] at m
        rw [show k + 1 - k = 1 by omega]
        omega
    · have m := mq_w2 hR h h7 (t := s + k) (by omega) (by omega) (by omega)
      have z : ctq (fun t => t % 7 = 6) (s + k) 1 = 0 := ctq_off 1 (fun t t1 t2 q => by
        have : t = s + k := by omega
        rw [this] at q
        exact c q)
      refine ⟨j, by omega, ?_⟩
      rw [ej, i1, i2, i3]
      omega
-- ASKs come after an end of a task or after a wrap
theorem MSB {L s0 : Nat} {τ : Nat → qS} (hR : RNN L τ) {A : Nat → List (Ms × Nat × Nat)} {ρ : Nat → qS × qS × qS} {B : Nat → List (Ms × Nat × Nat) × List (Ms × Nat × Nat) × List (Ms × Nat × Nat)} (h : ANC L s0 τ A ρ B) {s k : Nat} (h1 : s0 + 14 ≤ s) (h2 : s + k ≤ 7 * L) : ctq (MSt τ ρ) s k ≤ 2 * ctq (FZt τ ρ) (s - 7) (k + 7) + ctq (SIa τ ρ 5) (s - 7) (k + 7) := by
  have o := ctq_or (P := MSt τ ρ) (Q := ASKt τ) (R := FZt τ ρ) (s := s) k (fun t _ _ q => q)
  have a := ctq_inj (P := ASKt τ) (f := fun t => t - 7) (s := s) (a := s - 7) (m := k + 7) k (fun t => FZt τ ρ t ∨ SIa τ ρ 5 t) (fun t t1 t2 q => ⟨by omega, by omega, ask_pv hR h (by omega) (by omega) q⟩) (fun t t' t1 _ t1' _ _ _ e => by
    have e : t - 7 = t' - 7 := e
    omega)
  have b := ctq_or (P := fun t => FZt τ ρ t ∨ SIa τ ρ 5 t) (Q := FZt τ ρ) (R := SIa τ ρ 5) (s := s - 7) (k + 7) (fun t _ _ q => q)
  have c := ctq_in (P := FZt τ ρ) (x := s) (m := k) (x' := s - 7) (m' := k + 7) (by omega) (by omega)
  omega

