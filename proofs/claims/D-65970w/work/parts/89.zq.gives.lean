def t2 (x : Ms) : Bool := xw x 0 == 2
def t34 (x : Ms) : Bool := xw x 0 == 3 || xw x 0 == 4
def g2 (σ : qS) : Nat := (ln σ).countP t2
def bz (σ : qS) (v : Int) : Nat := if 0 ≤ σ 62 v then 1 else 0
def bT (σ : qS) : Nat := bz σ 0 + bz σ 1 + bz σ 2 + bz σ 3 + bz σ 4 + bz σ 5
theorem bz_1 (σ : qS) (v : Int) : bz σ v ≤ 1 := by unfold bz; split <;> omega
theorem bT_6 (σ : qS) : bT σ ≤ 6 := by
  have h := bz_1 σ
  have h0 := h 0
  have h1 := h 1
  have h2 := h 2
  have h3 := h 3
  have h4 := h 4
  have h5 := h 5
  unfold bT; omega
theorem bT_o {σ σ' : qS} {w : Int} (hw : 0 ≤ w ∧ w < 6) (ho : oth w σ σ') : bT σ' + bz σ w = bT σ + bz σ' w := by
  have e : ∀ v, v ≠ w → bz σ' v = bz σ v := fun v hv => by unfold bz; rw [ho.1 v hv 62 (by decide)]
  have hc : w = 0 ∨ w = 1 ∨ w = 2 ∨ w = 3 ∨ w = 4 ∨ w = 5 := by omega
  unfold bT
  rcases hc with rfl | rfl | rfl | rfl | rfl | rfl
  · rw [e 1 (by decide), e 2 (by decide), e 3 (by decide), e 4 (by decide), e 5 (by decide)]; omega
  · rw [e 0 (by decide), e 2 (by decide), e 3 (by decide), e 4 (by decide), e 5 (by decide)]; omega
  · rw [e 0 (by decide), e 1 (by decide), e 3 (by decide), e 4 (by decide), e 5 (by decide)]; omega
  · rw [e 0 (by decide), e 1 (by decide), e 2 (by decide), e 4 (by decide), e 5 (by decide)]; omega
  · rw [e 0 (by decide), e 1 (by decide), e 2 (by decide), e 3 (by decide), e 5 (by decide)]; omega
  · rw [e 0 (by decide), e 1 (by decide), e 2 (by decide), e 3 (by decide), e 4 (by decide)]; omega
theorem t2_f {x : Ms} (h : xw x 0 ≠ 2) : t2 x = false := by unfold t2; exact beq_eq_false_iff_ne.mpr h
theorem t2_t {x : Ms} (h : xw x 0 = 2) : t2 x = true := by unfold t2; rw [h]; rfl
theorem t34_f {x : Ms} (h : xw x 0 ≠ 3) (h' : xw x 0 ≠ 4) : t34 x = false := by
  unfold t34
  rw [beq_eq_false_iff_ne.mpr h, beq_eq_false_iff_ne.mpr h']
  rfl
theorem RD_g {w : Int} {σ σ' : qS} (hw : 0 ≤ w ∧ w < 6) (h : RD w σ σ') : ∃ s, rdop w (ln σ) (ln σ') s ∧ (∀ x ∈ s, xw x 0 = 6) ∧ g2 σ' + bT σ' ≤ g2 σ + bT σ := by
  obtain ⟨-, ho, -, c⟩ := h
  have hb := bT_o hw ho
  have sm : same w σ σ' → bT σ' = bT σ := fun s => by
    have : bz σ' w = bz σ w := by unfold bz; rw [s.1]
    omega
  have nl : ∀ x ∈ ([] : List Ms), xw x 0 = 6 := fun x hx => absurd hx (by simp)
  rcases c with ⟨c1, c2, c3⟩ | ⟨i, x, c1, c2, c⟩
  · exact ⟨[], Or.inl ⟨c1, c2, rfl⟩, nl, by unfold g2; rw [c2, sm c3]; exact Nat.le_refl _⟩
  · have er := cp_er t2 (ln σ) i x c2
    rcases c with ⟨-, d1, d2⟩ | ⟨-, d1, d2, d3⟩ | ⟨-, -, d2, a, kv, d3⟩ | ⟨-, -, d1, d2⟩
    · refine ⟨[], Or.inr ⟨i, c1, Or.inl ⟨d1, rfl⟩⟩, nl, ?_⟩
      unfold g2; rw [d1, sm d2]; omega
    · refine ⟨[], Or.inr ⟨i, c1, Or.inl ⟨d2, rfl⟩⟩, nl, ?_⟩
      rw [if_pos (t2_t d1)] at er
      have := bz_1 σ' w
      unfold g2; rw [d2]; omega
    · refine ⟨_, Or.inr ⟨i, c1, Or.inr ⟨_, d3, rfl⟩⟩, fun y hy => by rw [List.mem_singleton.mp hy]; rfl, ?_⟩
      have h2 := cp_tl t2 ((ln σ).eraseIdx i)
      have h3 : t2 ((xw x 5, [6, σ 31 0, xw x 2, xw x 4, a, xw x 3], kv) : Ms) = false := t2_f (by decide : ¬ (6 : Int) = 2)
      unfold g2
      rw [d3, List.countP_append, List.countP_cons, h3, List.countP_nil, sm d2]
      simp only [Bool.false_eq_true, if_false]
      omega
    · refine ⟨[], Or.inr ⟨i, c1, Or.inl ⟨d1, rfl⟩⟩, nl, ?_⟩
      have e : bT σ' = bT σ := by
        rcases d2 with ⟨-, d2⟩ | ⟨-, d2, -⟩
        · exact sm d2
        · have : bz σ' w = bz σ w := by unfold bz; rw [d2]
          omega
      unfold g2; rw [d1, e]; omega
theorem ACT_g {w : Int} {σ σ' : qS} (hw : 0 ≤ w ∧ w < 6) (h : ACT w σ σ') : ∃ s, acop (ln σ) (ln σ') s ∧ s.countP t34 + (g2 σ' + bT σ') ≤ g2 σ + bT σ ∧ s.countP t2 = 0 := by
  obtain ⟨-, ho, -, c⟩ := h
  have hb := bT_o hw ho
  have bs : σ' 62 w = σ 62 w → bT σ' = bT σ := fun e => by
    have : bz σ' w = bz σ w := by unfold bz; rw [e]
    omega
  have bf : fgo w σ' → 0 ≤ σ 62 w → bT σ' + 1 = bT σ := fun f e => by
    have e1 : bz σ w = 1 := by unfold bz; exact if_pos e
    have e2 : bz σ' w = 0 := by unfold bz; exact if_neg (by have := f.1; omega)
    omega
  have nl : ln σ' = ln σ → bT σ' ≤ bT σ → ∃ s, acop (ln σ) (ln σ') s ∧ s.countP t34 + (g2 σ' + bT σ') ≤ g2 σ + bT σ ∧ s.countP t2 = 0 := fun e e' => by
    refine ⟨[], Or.inl ⟨e, rfl⟩, ?_, rfl⟩
    unfold g2; rw [e, List.countP_nil]; omega
  have tl : ∀ {to ty a b c d}, ty ≠ 2 → TL to ty a b c d σ σ' → (if ty = 3 ∨ ty = 4 then 1 else 0) + bT σ' ≤ bT σ → ∃ s, acop (ln σ) (ln σ') s ∧ s.countP t34 + (g2 σ' + bT σ') ≤ g2 σ + bT σ ∧ s.countP t2 = 0 := fun {to ty a b c d} h2 t hb' => by
    obtain ⟨kv, t⟩ := t
    have f1 := cp_tl t2 (ln σ)
    have f2 : t2 ((to, [ty, σ 31 0, a, b, c, d], kv) : Ms) = false := t2_f h2
    have f3 : (if t34 ((to, [ty, σ 31 0, a, b, c, d], kv) : Ms) = true then 1 else 0) ≤ (if ty = 3 ∨ ty = 4 then 1 else 0) := by
      by_cases c3 : ty = 3 ∨ ty = 4
      · rw [if_pos c3]; split <;> omega
      · have f9 : t34 ((to, [ty, σ 31 0, a, b, c, d], kv) : Ms) = false := t34_f (x := (to, [ty, σ 31 0, a, b, c, d], kv)) (fun e => c3 (Or.inl e)) (fun e => c3 (Or.inr e))
        rw [if_neg c3, f9]
        decide
    refine ⟨_, Or.inr (Or.inl ⟨_, t, rfl⟩), ?_, ?_⟩
    · unfold g2
      rw [t, List.countP_append, List.countP_cons, List.countP_cons, List.countP_nil, List.countP_nil, f2]
      simp only [Bool.false_eq_true, if_false]
      omega
    · rw [List.countP_cons, List.countP_nil, f2]; rfl
  rcases c with ⟨c1, -, c2, -, c⟩ | ⟨c0, c⟩ | ⟨c0, c⟩
  · have e := bs (by rw [c1, c2])
    rcases c with ⟨-, c⟩ | ⟨-, c⟩
    · exact tl (by decide) c (by rw [if_neg (by decide)]; omega)
    · exact nl c (by omega)
  · rcases c with ⟨-, -, f, a, c⟩ | ⟨-, f, -, ⟨a, c⟩, -⟩ | ⟨-, -, f, c⟩ | ⟨-, -, c1, -, -, c⟩
    · exact tl (by decide) c (by have := bf f c0.1; rw [if_pos (by decide)]; omega)
    · exact tl (by decide) c (by have := bf f c0.1; rw [if_pos (by decide)]; omega)
    · exact tl (by decide) c (by have := bf f c0.1; rw [if_pos (by decide)]; omega)
    · exact nl c (by rw [bs c1]; exact Nat.le_refl _)
  · have t0 : 0 ≤ σ 62 w := by omega
    rcases c with ⟨-, -, f, c⟩ | ⟨-, -, -, -, f, c⟩ | ⟨-, -, -, -, -, c, c1, -⟩ | ⟨-, -, -, -, -, c1, -, -, -, c⟩ | ⟨-, -, f, -, c⟩
    · exact tl (by decide) c (by have := bf f t0; rw [if_pos (by decide)]; omega)
    · exact nl c (by have := bf f t0; omega)
    · exact nl c (by rw [bs c1]; exact Nat.le_refl _)
    · have e := bs c1
      rcases c with ⟨-, -, c⟩ | ⟨-, -, kv, kv', c⟩
      · exact tl (by decide) c (by rw [if_neg (by decide)]; omega)
      · refine ⟨_, Or.inr (Or.inr ⟨_, _, c, rfl⟩), ?_, ?_⟩
        · have f1 := cp_tl t2 (ln σ)
          have f2 := cp_tl t2 (tl95 (ln σ) ++ [(σ 33 (σ 64 w), [5, σ 31 0, σ 64 w, σ 62 w - 38, ps σ w, w], kv)])
          have f3 : t2 ((σ 33 (σ 64 w), [5, σ 31 0, σ 64 w, σ 62 w - 38, ps σ w, w], kv) : Ms) = false := t2_f (by decide : ¬ (5 : Int) = 2)
          have f4 : t2 ((6, [7, σ 31 0, σ 64 w, σ 33 (σ 64 w), 0, 0], kv') : Ms) = false := t2_f (by decide : ¬ (7 : Int) = 2)
          have f5 : t34 ((σ 33 (σ 64 w), [5, σ 31 0, σ 64 w, σ 62 w - 38, ps σ w, w], kv) : Ms) = false := t34_f (by decide : ¬ (5 : Int) = 3) (by decide : ¬ (5 : Int) = 4)
          have f6 : t34 ((6, [7, σ 31 0, σ 64 w, σ 33 (σ 64 w), 0, 0], kv') : Ms) = false := t34_f (by decide : ¬ (7 : Int) = 3) (by decide : ¬ (7 : Int) = 4)
          rw [List.countP_append, List.countP_cons, List.countP_nil, f3] at f2
          simp only [Bool.false_eq_true, if_false] at f2
          unfold g2
          rw [c, List.countP_append]
          simp only [List.countP_cons, List.countP_nil, f4, f5, f6, Bool.false_eq_true, if_false]
          omega
        · have f3 : t2 ((σ 33 (σ 64 w), [5, σ 31 0, σ 64 w, σ 62 w - 38, ps σ w, w], kv) : Ms) = false := t2_f (by decide : ¬ (5 : Int) = 2)
          have f4 : t2 ((6, [7, σ 31 0, σ 64 w, σ 33 (σ 64 w), 0, 0], kv') : Ms) = false := t2_f (by decide : ¬ (7 : Int) = 2)
          simp only [List.countP_cons, List.countP_nil, f3, f4, Bool.false_eq_true, if_false]
    · rcases c with ⟨-, -, c⟩ | ⟨-, c⟩
      · exact tl (by decide) c (by have := bf f t0; rw [if_pos (by decide)]; omega)
      · exact tl (by decide) c (by have := bf f t0; rw [if_pos (by decide)]; omega)
theorem c0_6 {s : List Ms} {n : Int} (hs : ∀ x ∈ s, xw x 0 = n) (p : Ms → Bool) (hp : ∀ x, p x = true → xw x 0 ≠ n) : s.countP p = 0 := by
  rw [List.countP_eq_zero]
  intro x hx e
  exact hp x e (hs x hx)
theorem t34_t {x : Ms} (h : t34 x = true) : xw x 0 = 3 ∨ xw x 0 = 4 := by
  unfold t34 at h
  rcases Bool.or_eq_true_iff.mp h with e | e
  · exact Or.inl (by simpa using e)
  · exact Or.inr (by simpa using e)
def GE (w : Int) (σ σ' : qS) (s : List Ms) : Prop := TS w (ln σ) (ln σ') s ∧ s.countP t34 + (g2 σ' + bT σ') ≤ g2 σ + bT σ + s.countP t2 ∧ (w ≠ 6 → s.countP t2 = 0) ∧ (w = 6 → s.length ≤ 3)
theorem STP_g {w : Int} {σ σ' : qS} (h : STP w σ σ') : ∃ s, GE w σ σ' s := by
  rcases h with ⟨hw, σ1, σ2, σ3, r1, r2, r3, a, -⟩ | ⟨rfl, σ1, σ2, r1, r2, r3, -⟩
  · obtain ⟨s1, p1, q1, g1⟩ := RD_g hw r1
    obtain ⟨s2, p2, q2, g2'⟩ := RD_g hw r2
    obtain ⟨s3, p3, q3, g3'⟩ := RD_g hw r3
    obtain ⟨s4, p4, g4, g5⟩ := ACT_g hw a
    have z : ∀ {s : List Ms}, (∀ x ∈ s, xw x 0 = 6) → s.countP t34 = 0 ∧ s.countP t2 = 0 := fun hs => ⟨c0_6 hs t34 (fun x e => by have := t34_t e; omega), c0_6 hs t2 (fun x e => by have : xw x 0 = 2 := by { unfold t2 at e; simpa using e }; omega)⟩
    have z1 := z q1
    have z2 := z q2
    have z3 := z q3
    refine ⟨s1 ++ s2 ++ s3 ++ s4, ⟨_, _, _, s1, s2, s3, s4, p1, p2, p3, p4, rfl⟩, ?_, fun _ => ?_, fun e => by omega⟩
    · simp only [List.countP_append]; omega
    · simp only [List.countP_append]; omega
  · obtain ⟨s1, p1, q1⟩ := HR_y r1
    obtain ⟨s2, p2, q2⟩ := HR_y r2
    obtain ⟨s3, p3, q3⟩ := HR_y r3
    have k1 : (clk σ) 62 = σ 62 := clk_k (by decide)
    have e1 : σ1 62 = σ 62 := (r1.2.1 _ (by decide)).trans k1
    have e2 : σ2 62 = σ 62 := (r2.2.1 _ (by decide)).trans e1
    have e3 : σ' 62 = σ 62 := (r3.2.1 _ (by decide)).trans e2
    have eb : bT σ' = bT σ := by unfold bT bz; rw [e3]
    rw [l_clk] at p1
    obtain ⟨c1, d1⟩ := rd_cp t2 p1
    obtain ⟨c2, d2⟩ := rd_cp t2 p2
    obtain ⟨c3, d3⟩ := rd_cp t2 p3
    have z : ∀ {s : List Ms}, (∀ x ∈ s, xw x 0 = 2) → s.countP t34 = 0 := fun hs => c0_6 hs t34 (fun x e => by have := t34_t e; omega)
    have z1 := z q1
    have z2 := z q2
    have z3 := z q3
    refine ⟨s1 ++ s2 ++ s3 ++ [], ⟨_, _, _, s1, s2, s3, [], p1, p2, p3, Or.inl ⟨rfl, rfl⟩, rfl⟩, ?_, fun e => absurd rfl e, fun _ => ?_⟩
    · rw [List.append_nil, List.countP_append, List.countP_append, List.countP_append, List.countP_append, eb]
      unfold g2
      omega
    · rw [List.append_nil, List.length_append, List.length_append]; omega

