def KLt (τ : Nat → qS) (v t : Nat) : Prop := t % 7 = v ∧ 38 ≤ τ t 62 (v : Int) ∧ τ (t + 1) 62 (v : Int) < 38
def TAc (τ : Nat → qS) (A : Nat → List (Ms × Nat × Nat)) (ρ : Nat → qS × qS × qS) (B : Nat → List (Ms × Nat × Nat) × List (Ms × Nat × Nat) × List (Ms × Nat × Nat)) (v s1 t : Nat) : Prop := t % 7 = v ∧ ∃ b, ACC τ A ρ B t b ∧ (b ≤ s1 ∨ TOb τ v b)
theorem ACC_64 {L s0 : Nat} {τ : Nat → qS} (hR : RNN L τ) {A : Nat → List (Ms × Nat × Nat)} {ρ : Nat → qS × qS × qS} {B : Nat → List (Ms × Nat × Nat) × List (Ms × Nat × Nat) × List (Ms × Nat × Nat)} (h : ANC L s0 τ A ρ B) (h7 : 224 ≤ s0) {t b : Nat} (h1 : s0 + 448 ≤ t) (h2 : t < 7 * L) (ha : ACC τ A ρ B t b) : t < b + 448 ∧ s0 < b := by
  apply Classical.byContradiction
  intro n
  obtain ⟨h6, i, hi, z, z1, zb, z6⟩ := ACC_st ha
  have m := hd_mem z1
  have zk : tokb z = true := (tokb_i z).mpr (Or.inr z6)
  have s2 := (st_srt h (by omega : s0 ≤ t) h2 h6 i (by omega)).2 z m.1
  by_cases q : ∃ x ∈ A t, tokb x = true ∧ x.2.2 = b
  · obtain ⟨x, x1, x2, x3⟩ := q
    have := LIFE64 hR h.1 h7 h1 (by omega) x1 x2
    omega
  · have zt : ∀ i, i ≤ 3 → ∀ x ∈ stA A B t i, tokb x = true → x.2.2 = b → False := fun i => by
      induction i with
      | zero => intro _ x x1 x2 x3; exact q ⟨x, x1, x2, x3⟩
      | succ i ih =>
        intro hi' x x1 x2 x3
        have r := st_rd h (by omega : s0 ≤ t) h2 h6 (i := i) (by omega)
        rcases r with ⟨-, e⟩ | ⟨j, y, -, y2, y3⟩
        · rw [e] at x1
          exact ih (by omega) x x1 x2 x3
        · rcases y3 with ⟨-, e⟩ | ⟨-, y5, w, -, -, -, -, -, -, e⟩
          · rw [e] at x1
            exact ih (by omega) x ((List.eraseIdx_sublist _ j).subset x1) x2 x3
          · rw [e, List.mem_append, List.mem_singleton] at x1
            rcases x1 with x1 | x1
            · exact ih (by omega) x ((List.eraseIdx_sublist _ j).subset ((tlA_sub _).subset x1)) x2 x3
            · rw [x1] at x3
              exact ih (by omega) y (List.mem_of_getElem? y2) ((tokb_i y).mpr (Or.inl y5)) x3
    exact zt i (by omega) z m.1 zk zb
theorem RTq_c {L s0 : Nat} {τ : Nat → qS} (hR : RNN L τ) {A : Nat → List (Ms × Nat × Nat)} {ρ : Nat → qS × qS × qS} {B : Nat → List (Ms × Nat × Nat) × List (Ms × Nat × Nat) × List (Ms × Nat × Nat)} (h : ANC L s0 τ A ρ B) (h7 : 224 ≤ s0) {v s1 R0 y : Nat} (hs : s0 ≤ s1) (hR0 : s1 + 448 ≤ R0) (hRy : R0 ≤ y) (hl : y ≤ 7 * L) : ctq (RTq τ A ρ B v s1) R0 (y - R0) ≤ ctq (KLt τ v) R0 (y - R0) + ctq (TOb τ v) (R0 - 448) (y - R0 + 448) := by
  have o := ctq_or (P := RTq τ A ρ B v s1) (Q := KLt τ v) (R := TAc τ A ρ B v s1) (s := R0) (y - R0) (fun t t1 t2 p => by
    rcases p.2.2 with q | q
    · exact Or.inl ⟨p.1, p.2.1, q⟩
    · exact Or.inr ⟨p.1, q⟩)
  have ex : ∀ t, ∃ b, R0 ≤ t → t < y → TAc τ A ρ B v s1 t → ACC τ A ρ B t b ∧ TOb τ v b := fun t => by
    by_cases c : R0 ≤ t ∧ t < y ∧ TAc τ A ρ B v s1 t
    · obtain ⟨-, b, b1, b2⟩ := c.2.2
      have q := ACC_64 hR h h7 (by omega : s0 + 448 ≤ t) (by omega) b1
      refine ⟨b, fun _ _ _ => ⟨b1, ?_⟩⟩
      rcases b2 with z | z
      · omega
      · exact z
    · exact ⟨0, fun c1 c2 c3 => absurd ⟨c1, c2, c3⟩ c⟩
  have i := ctq_inj (P := TAc τ A ρ B v s1) (f := fun t => Classical.choose (ex t)) (s := R0) (a := R0 - 448) (m := y - R0 + 448) (y - R0) (TOb τ v) (fun t t1 t2 p => by
    have q := Classical.choose_spec (ex t) t1 (by omega) p
    have l := ACC_64 hR h h7 (by omega : s0 + 448 ≤ t) (by omega) q.1
    have le := (ANC_once h l.2 (by omega) (by omega) q.1).2.1
    refine ⟨?_, ?_, q.2⟩
    · show R0 - 448 ≤ Classical.choose (ex t); omega
    · show Classical.choose (ex t) < R0 - 448 + (y - R0 + 448); omega) (fun t t' t1 t2 t1' t2' p p' e => by
    have e' : Classical.choose (ex t) = Classical.choose (ex t') := e
    have q := Classical.choose_spec (ex t) t1 (by omega) p
    have q' := Classical.choose_spec (ex t') t1' (by omega) p'
    rw [← e'] at q'
    have l := ACC_64 hR h h7 (by omega : s0 + 448 ≤ t) (by omega) q.1
    exact acc_1 h l.2 (by omega) (by omega) (by omega) (by omega) q.1 q'.1)
  omega
theorem ctq_sub {P : Nat → Prop} {s : Nat} {k k' : Nat} (h : k ≤ k') : ctq P s k ≤ ctq P s k' := by
  obtain ⟨j, rfl⟩ : ∃ j, k' = k + j := ⟨k' - k, by omega⟩
  rw [ctq_jn]
  omega
theorem KVB {L s0 : Nat} {τ : Nat → qS} (hR : RNN L τ) {A : Nat → List (Ms × Nat × Nat)} {ρ : Nat → qS × qS × qS} {B : Nat → List (Ms × Nat × Nat) × List (Ms × Nat × Nat) × List (Ms × Nat × Nat)} (h : ANC L s0 τ A ρ B) (h7 : 224 ≤ s0) {v : Nat} (hv : v < 6) {s1 Λ y R0 : Nat} (hs : s0 ≤ s1) (hR1 : s1 + 448 ≤ R0) (sy : R0 < y) (hy : RUNL L τ v y) (hL : ∀ t b, s1 < b → t < 7 * L → t % 7 = v → ACC τ A ρ B t b → t ≤ b + Λ) (hR0 : ∀ r, s1 < r → r < R0 → r + Λ * ctq (SPk τ v) r (y - r) + 447 < y) : (A y).countP (fun z => decide (tokb z = true ∧ asr z.1 = v)) ≤ 1 + ctq (KLt τ v) R0 (y - R0) + ctq (TOb τ v) (R0 - 448) (y - R0 + 448) + ctq (TOb τ v) (y - 447) 448 := by
  have yl := hy.1
  have k := KTOT hR h h7 hv (R0 := R0) hs (by omega) hy hL (fun r a r1 r2 a1 a2 e => by
    apply Classical.byContradiction
    intro n
    have q := hR0 r r1 (by omega)
    have m := ctq_sub (P := SPk τ v) (s := r) (k := a - r) (k' := y - r) (by omega)
    have m2 : Λ * ctq (SPk τ v) r (a - r) ≤ Λ * ctq (SPk τ v) r (y - r) := Nat.mul_le_mul_left Λ m
    omega) (by omega)
  have c := RTq_c hR h h7 (v := v) hs hR1 (by omega : R0 ≤ y) (by omega)
  omega

