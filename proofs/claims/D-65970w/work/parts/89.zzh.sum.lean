def IB (σ : qS) (B : Nat → Nat) (D : Nat) : Prop := ∀ k : Nat, k < 38 → isdn σ k = 0 → itb σ k ≤ B k + D
theorem itb_HR {σ σ' : qS} (h : HR σ σ') (k : Int) : itb σ' k ≤ itb σ k + 1 := by
  obtain ⟨-, hk, c⟩ := h
  have he : σ' 31 = σ 31 := hk _ (by decide)
  have ht : σ' 62 = σ 62 := hk _ (by decide)
  have hb : bk σ' k = bk σ k := by unfold bk b1; rw [ht]
  unfold itb gk
  rw [he, hb]
  rcases c with ⟨-, c2, -⟩ | ⟨i, x, -, -, c⟩
  · rw [c2]; omega
  · have a1 := (List.eraseIdx_sublist (ln σ) i).countP_le (p := isG (σ 31 0) k)
    have a2 := (List.eraseIdx_sublist (ln σ) i).countP_le (p := isD (σ 31 0) k)
    rcases c with ⟨-, c, -⟩ | ⟨-, -, -, -, fi, en, -, c⟩ | ⟨-, -, c, -⟩ | ⟨-, -, c, -⟩
    · rw [c]; omega
    · rcases c with ⟨c, -⟩ | ⟨t, -, -, -, -, -, kv, c⟩
      · rw [c]; omega
      · have b1 := cp_tl (isG (σ 31 0) k) ((ln σ).eraseIdx i)
        have b2 := cp_tl (isD (σ 31 0) k) ((ln σ).eraseIdx i)
        have z : isD (σ 31 0) k ((xw x 2, [2, σ 31 0, t, 0, 0, 0], kv) : Ms) = false := by
          rw [isD_mk]; exact decide_eq_false (fun e => absurd e.1 (by decide))
        rw [c, List.countP_append, List.countP_append, List.countP_cons, List.countP_cons, List.countP_nil, List.countP_nil, z]
        simp only [Bool.false_eq_true, if_false]
        split <;> omega
    · rw [c]; omega
    · rw [c]; omega
theorem itb_cl {σ σ' : qS} (h : HR σ σ') {x : Ms} (hx : hd6 σ x) (he' : xw x 1 = σ 31 0) (hc : clos σ x) (k : Int) : itb σ' k ≤ itb σ k := by
  obtain ⟨-, hk, c⟩ := h
  have he : σ' 31 = σ 31 := hk _ (by decide)
  have ht : σ' 62 = σ 62 := hk _ (by decide)
  have hb : bk σ' k = bk σ k := by unfold bk b1; rw [ht]
  unfold itb gk
  rw [he, hb]
  obtain ⟨i0, b1, b2⟩ := hx
  rcases c with ⟨q1, -⟩ | ⟨i, y, q1, q2, c⟩
  · rw [q1] at b1; cases b1
  · rw [q1] at b1
    have e := Option.some.inj b1
    subst e
    rw [q2] at b2
    have e := Option.some.inj b2
    subst e
    have a1 := (List.eraseIdx_sublist (ln σ) i).countP_le (p := isG (σ 31 0) k)
    have a2 := (List.eraseIdx_sublist (ln σ) i).countP_le (p := isD (σ 31 0) k)
    have t3 := hc.1
    rcases c with ⟨-, c, -⟩ | ⟨-, d1, -⟩ | ⟨-, -, c, -⟩ | ⟨-, d1, -⟩
    · rw [c]; omega
    · omega
    · rw [c]; omega
    · omega
theorem IB_HR {σ σ' : qS} (h : HR σ σ') {B : Nat → Nat} {D : Nat} (hI : IB σ B D) : IB σ' (nb σ σ' B) (D + 1) := fun k hk e => by
  have a := itb_HR h k
  unfold nb
  rw [if_neg (fun z => z e)]
  by_cases c : isdn σ k ≠ 0
  · rw [if_pos c]; omega
  · rw [if_neg c]
    have := hI k hk (Classical.byContradiction c)
    omega
theorem HR_BB {σ σ' : qS} (hJ : JI True (-1) σ) (hE : ER σ) (h : HR σ σ') {B : Nat → Nat} {D : Nat} (hI : IB σ B D) (hP : ∀ x, hd6 σ x → clos σ x → xw x 3 < 38) : ∃ cl : Nat, cl ≤ 1 ∧ ((∀ x, hd6 σ x → ¬ clos σ x) → cl = 0) ∧ We σ' + 2 * sb (nb σ σ' B) 38 + 2 * (if 1 ≤ cn 6 (ln σ) then 1 else 0) ≤ We σ + 2 * sb B 38 + cl * (2 * D + 2) := by
  by_cases c : ∀ x, hd6 σ x → ¬ clos σ x
  · have := HR_Bn hJ hE h B c
    exact ⟨0, by omega, fun _ => rfl, by omega⟩
  · obtain ⟨x, hx⟩ := Classical.not_forall.mp c
    obtain ⟨h1, h2⟩ := Classical.not_imp.mp hx
    have h2' : clos σ x := Classical.byContradiction h2
    have hm : x ∈ ln σ := by
      obtain ⟨i, -, hx⟩ := h1
      exact List.mem_of_getElem? hx
    have he := hE x hm
    have hL := (hJ.2.2.2.2.2.2.2.1 x hm).2 he
    have h0 : 0 ≤ xw x 3 := by
      have t3 := h2'.1
      rcases hL with ⟨-, g⟩ | ⟨-, g⟩
      · rcases g with ⟨g, -⟩ | ⟨-, g⟩ | ⟨g, -⟩ | ⟨g, -⟩
        · omega
        · rcases g.2 with g | g <;> omega
        · omega
        · omega
      · rcases g with ⟨g, -⟩ | ⟨g, -⟩ | ⟨g, -⟩ <;> omega
    have h38 := hP x h1 h2'
    have ej : xw x 3 = ((xw x 3).toNat : Int) := (Int.toNat_of_nonneg h0).symm
    have b := HR_Bc hJ h B h1 he h2' ej (by omega)
    have i1 := itb_cl h h1 he h2' ((xw x 3).toNat : Int)
    have i2 := hI (xw x 3).toNat (by omega) (by rw [← ej]; exact h2'.2)
    refine ⟨1, Nat.le_refl _, fun e => absurd e c, ?_⟩
    have hi : (if 1 ≤ cn 6 (ln σ) then 1 else 0) ≤ 1 := by split <;> omega
    omega
theorem M_B {σ σ1 σ2 σ' : qS} (j0 : JI True (-1) (clk σ)) (j1 : JI True (-1) σ1) (j2 : JI True (-1) σ2) (r1 : HR (clk σ) σ1) (r2 : HR σ1 σ2) (r3 : HR σ2 σ') (hE : ER σ) (hl : (ln σ).length ≤ 95) (k0 : ∀ x, hd6 (clk σ) x → clos (clk σ) x → xw x 3 < 38) (k1 : ∀ x, hd6 σ1 x → clos σ1 x → xw x 3 < 38) (k2 : ∀ x, hd6 σ2 x → clos σ2 x → xw x 3 < 38) {B : Nat → Nat} {D : Nat} (hI : IB σ B D) : ∃ cl : Nat, cl ≤ 3 ∧ (((∀ x, hd6 (clk σ) x → ¬ clos (clk σ) x) ∧ (∀ x, hd6 σ1 x → ¬ clos σ1 x) ∧ ∀ x, hd6 σ2 x → ¬ clos σ2 x) → cl = 0) ∧ We σ' + 2 * sb (nb σ2 σ' (nb σ1 σ2 (nb (clk σ) σ1 B))) 38 + 2 * min 3 (cn 6 (ln σ)) ≤ We σ + 2 * sb B 38 + cl * (2 * D + 6) := by
  have l0 : ln (clk σ) = ln σ := l_clk σ
  have e0 : (clk σ) 31 = σ 31 := clk_k (by decide)
  have t0 : (clk σ) 62 = σ 62 := clk_k (by decide)
  have E0 : ER (clk σ) := fun x hx => by rw [l0] at hx; rw [e0]; exact hE x hx
  have I0 : IB (clk σ) B D := fun k hk e => by
    have e' : isdn σ k = 0 := by rw [← e]; exact (isdn_k (clk_k (by decide)) (clk_k (by decide)) _).symm
    have := hI k hk e'
    have q : itb (clk σ) k = itb σ k := by unfold itb gk bk b1; rw [l0, e0, t0]
    omega
  obtain ⟨E1, L1, C1⟩ := HR_M j0 E0 (by rw [l0]; exact hl) r1
  obtain ⟨E2, L2, C2⟩ := HR_M j1 E1 L1 r2
  rw [l0] at C1
  obtain ⟨c0, a0, b0, w0⟩ := HR_BB j0 E0 r1 I0 k0
  obtain ⟨c1, a1, b1, w1⟩ := HR_BB j1 E1 r2 (IB_HR r1 I0) k1
  obtain ⟨c2, a2, b2, w2⟩ := HR_BB j2 E2 r3 (IB_HR r2 (IB_HR r1 I0)) k2
  rw [l0, We_clk] at w0
  refine ⟨c0 + c1 + c2, by omega, fun ⟨q0, q1, q2⟩ => by rw [b0 q0, b1 q1, b2 q2], ?_⟩
  have m : ∀ c : Nat, c ≤ 1 → ∀ x y : Nat, x ≤ y → c * x ≤ c * y := fun c _ x y h => Nat.mul_le_mul_left c h
  have m0 := m c0 a0 (2 * D + 2) (2 * D + 6) (by omega)
  have m1 := m c1 a1 (2 * (D + 1) + 2) (2 * D + 6) (by omega)
  have m2 := m c2 a2 (2 * (D + 1 + 1) + 2) (2 * D + 6) (by omega)
  have s : (c0 + c1 + c2) * (2 * D + 6) = c0 * (2 * D + 6) + c1 * (2 * D + 6) + c2 * (2 * D + 6) := by rw [Nat.add_mul, Nat.add_mul]
  rw [s]
  by_cases d0 : 1 ≤ cn 6 (ln σ)
  · rw [if_pos d0] at w0
    by_cases d1 : 1 ≤ cn 6 (ln σ1)
    · rw [if_pos d1] at w1
      by_cases d2 : 1 ≤ cn 6 (ln σ2)
      · rw [if_pos d2] at w2
        omega
      · rw [if_neg d2] at w2
        omega
    · rw [if_neg d1] at w1
      omega
  · rw [if_neg d0] at w0
    omega

