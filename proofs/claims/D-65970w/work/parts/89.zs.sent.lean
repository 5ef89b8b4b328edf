def t1 (x : Ms) : Bool := xw x 0 == 1
def t7 (x : Ms) : Bool := xw x 0 == 7
def t56 (x : Ms) : Bool := xw x 0 == 5 || xw x 0 == 6
def ty7 (x : Ms) : Prop := 1 ≤ xw x 0 ∧ xw x 0 ≤ 7
theorem t1_f {x : Ms} (h : xw x 0 ≠ 1) : t1 x = false := by unfold t1; exact beq_eq_false_iff_ne.mpr h
theorem t7_f {x : Ms} (h : xw x 0 ≠ 7) : t7 x = false := by unfold t7; exact beq_eq_false_iff_ne.mpr h
theorem ty_sum : ∀ L : List Ms, (∀ x ∈ L, ty7 x) → L.length ≤ L.countP t1 + L.countP t2 + L.countP t34 + L.countP t56 + L.countP t7
  | [], _ => by simp
  | x :: L, h => by
    have ih := ty_sum L (fun y hy => h y (List.mem_cons_of_mem x hy))
    have hx := h x List.mem_cons_self
    simp only [List.countP_cons, List.length_cons]
    have hc : xw x 0 = 1 ∨ xw x 0 = 2 ∨ xw x 0 = 3 ∨ xw x 0 = 4 ∨ xw x 0 = 5 ∨ xw x 0 = 6 ∨ xw x 0 = 7 := by unfold ty7 at hx; omega
    rcases hc with e | e | e | e | e | e | e
    · have : t1 x = true := by unfold t1; rw [e]; rfl
      rw [if_pos this]; omega
    · have : t2 x = true := by unfold t2; rw [e]; rfl
      rw [if_pos this]; omega
    · have : t34 x = true := by unfold t34; rw [e]; rfl
      rw [if_pos this]; omega
    · have : t34 x = true := by unfold t34; rw [e]; rfl
      rw [if_pos this]; omega
    · have : t56 x = true := by unfold t56; rw [e]; rfl
      rw [if_pos this]; omega
    · have : t56 x = true := by unfold t56; rw [e]; rfl
      rw [if_pos this]; omega
    · have : t7 x = true := by unfold t7; rw [e]; rfl
      rw [if_pos this]; omega
def AH_ (w : Int) (σ σ' : qS) (s : List Ms) : Prop := s.countP t34 + (g2 σ' + bT σ') ≤ g2 σ + bT σ ∧ s.countP t2 = 0 ∧ (s.countP t1 = 0 ∨ (s.countP t1 ≤ 1 ∧ AK w σ')) ∧ (s.countP t7 = 0 ∨ (s.countP t7 ≤ 1 ∧ LKs σ' w)) ∧ ∀ x ∈ s, ty7 x
theorem ACT_h {w : Int} {σ σ' : qS} (hw : 0 ≤ w ∧ w < 6) (h : ACT w σ σ') : ∃ s, acop (ln σ) (ln σ') s ∧ AH_ w σ σ' s := by
  obtain ⟨-, ho, -, c⟩ := h
  have hb := bT_o hw ho
  have bs : σ' 62 w = σ 62 w → bT σ' = bT σ := fun e => by
    have : bz σ' w = bz σ w := by unfold bz; rw [e]
    omega
  have bf : fgo w σ' → 0 ≤ σ 62 w → bT σ' + 1 = bT σ := fun f e => by
    have e1 : bz σ w = 1 := by unfold bz; exact if_pos e
    have e2 : bz σ' w = 0 := by unfold bz; exact if_neg (by have := f.1; omega)
    omega
  have nl : ln σ' = ln σ → bT σ' ≤ bT σ → ∃ s, acop (ln σ) (ln σ') s ∧ AH_ w σ σ' s := fun e e' => by
    refine ⟨[], Or.inl ⟨e, rfl⟩, ?_, rfl, Or.inl rfl, Or.inl rfl, fun x hx => absurd hx (by simp)⟩
    unfold g2; rw [e, List.countP_nil]; omega
  have tl : ∀ {to ty a b c d}, (ty = 1 ∨ ty = 3 ∨ ty = 4 ∨ ty = 5) → TL to ty a b c d σ σ' → (if ty = 3 ∨ ty = 4 then 1 else 0) + bT σ' ≤ bT σ → (ty = 1 → AK w σ') → ∃ s, acop (ln σ) (ln σ') s ∧ AH_ w σ σ' s := fun {to ty a b c d} ht t hb' hA => by
    obtain ⟨kv, t⟩ := t
    have f1 := cp_tl t2 (ln σ)
    have f2 : t2 ((to, [ty, σ 31 0, a, b, c, d], kv) : Ms) = false := t2_f (x := (to, [ty, σ 31 0, a, b, c, d], kv)) (fun e => by have e' : ty = 2 := e; omega)
    have f7 : t7 ((to, [ty, σ 31 0, a, b, c, d], kv) : Ms) = false := t7_f (x := (to, [ty, σ 31 0, a, b, c, d], kv)) (fun e => by have e' : ty = 7 := e; omega)
    have f3 : (if t34 ((to, [ty, σ 31 0, a, b, c, d], kv) : Ms) = true then 1 else 0) ≤ (if ty = 3 ∨ ty = 4 then 1 else 0) := by
      by_cases c3 : ty = 3 ∨ ty = 4
      · rw [if_pos c3]; split <;> omega
      · have f9 : t34 ((to, [ty, σ 31 0, a, b, c, d], kv) : Ms) = false := t34_f (x := (to, [ty, σ 31 0, a, b, c, d], kv)) (fun e => c3 (Or.inl e)) (fun e => c3 (Or.inr e))
        rw [if_neg c3, f9]
        decide
    refine ⟨_, Or.inr (Or.inl ⟨_, t, rfl⟩), ?_, ?_, ?_, Or.inl ?_, fun x hx => ?_⟩
    · unfold g2
      rw [t, List.countP_append, List.countP_cons, List.countP_cons, List.countP_nil, List.countP_nil, f2]
      simp only [Bool.false_eq_true, if_false]
      omega
    · rw [List.countP_cons, List.countP_nil, f2]; rfl
    · by_cases c1 : ty = 1
      · exact Or.inr ⟨by rw [List.countP_cons, List.countP_nil]; split <;> omega, hA c1⟩
      · have f0 : t1 ((to, [ty, σ 31 0, a, b, c, d], kv) : Ms) = false := t1_f (x := (to, [ty, σ 31 0, a, b, c, d], kv)) c1
        exact Or.inl (by rw [List.countP_cons, List.countP_nil, f0]; rfl)
    · rw [List.countP_cons, List.countP_nil, f7]; rfl
    · rw [List.mem_singleton.mp hx]
      exact (show 1 ≤ ty ∧ ty ≤ 7 by omega)
  rcases c with ⟨c1, -, c2, c3, c⟩ | ⟨c0, c⟩ | ⟨c0, c⟩
  · have e := bs (by rw [c1, c2])
    rcases c with ⟨c4, c⟩ | ⟨-, c⟩
    · exact tl (Or.inl rfl) c (by rw [if_neg (by decide)]; omega) (fun _ => ⟨c2, by rw [c3, c4]; rfl⟩)
    · exact nl c (by omega)
  · rcases c with ⟨-, -, f, a, c⟩ | ⟨-, f, -, ⟨a, c⟩, -⟩ | ⟨-, -, f, c⟩ | ⟨-, -, c1, -, -, c⟩
    · exact tl (Or.inr (Or.inl rfl)) c (by have := bf f c0.1; rw [if_pos (by decide)]; omega) (fun e => absurd e (by decide))
    · exact tl (Or.inr (Or.inl rfl)) c (by have := bf f c0.1; rw [if_pos (by decide)]; omega) (fun e => absurd e (by decide))
    · exact tl (Or.inr (Or.inr (Or.inl rfl))) c (by have := bf f c0.1; rw [if_pos (by decide)]; omega) (fun e => absurd e (by decide))
    · exact nl c (by rw [bs c1]; exact Nat.le_refl _)
  · have t0 : 0 ≤ σ 62 w := by omega
    rcases c with ⟨-, -, f, c⟩ | ⟨-, -, -, -, f, c⟩ | ⟨-, -, -, -, -, c, c1, -⟩ | ⟨-, -, -, -, -, c1, -, -, c5, c⟩ | ⟨-, -, f, -, c⟩
    · exact tl (Or.inr (Or.inl rfl)) c (by have := bf f t0; rw [if_pos (by decide)]; omega) (fun e => absurd e (by decide))
    · exact nl c (by have := bf f t0; omega)
    · exact nl c (by rw [bs c1]; exact Nat.le_refl _)
    · have e := bs c1
      rcases c with ⟨-, -, c⟩ | ⟨-, c7, kv, kv', c⟩
      · exact tl (Or.inr (Or.inr (Or.inr rfl))) c (by rw [if_neg (by decide)]; omega) (fun e => absurd e (by decide))
      · have f3 : t2 ((σ 33 (σ 64 w), [5, σ 31 0, σ 64 w, σ 62 w - 38, ps σ w, w], kv) : Ms) = false := t2_f (by decide : ¬ (5 : Int) = 2)
        have f4 : t2 ((6, [7, σ 31 0, σ 64 w, σ 33 (σ 64 w), 0, 0], kv') : Ms) = false := t2_f (by decide : ¬ (7 : Int) = 2)
        have f5 : t34 ((σ 33 (σ 64 w), [5, σ 31 0, σ 64 w, σ 62 w - 38, ps σ w, w], kv) : Ms) = false := t34_f (by decide : ¬ (5 : Int) = 3) (by decide : ¬ (5 : Int) = 4)
        have f6 : t34 ((6, [7, σ 31 0, σ 64 w, σ 33 (σ 64 w), 0, 0], kv') : Ms) = false := t34_f (by decide : ¬ (7 : Int) = 3) (by decide : ¬ (7 : Int) = 4)
        have f8 : t1 ((σ 33 (σ 64 w), [5, σ 31 0, σ 64 w, σ 62 w - 38, ps σ w, w], kv) : Ms) = false := t1_f (by decide : ¬ (5 : Int) = 1)
        have f9 : t1 ((6, [7, σ 31 0, σ 64 w, σ 33 (σ 64 w), 0, 0], kv') : Ms) = false := t1_f (by decide : ¬ (7 : Int) = 1)
        have fa : t7 ((σ 33 (σ 64 w), [5, σ 31 0, σ 64 w, σ 62 w - 38, ps σ w, w], kv) : Ms) = false := t7_f (by decide : ¬ (5 : Int) = 7)
        refine ⟨_, Or.inr (Or.inr ⟨_, _, c, rfl⟩), ?_, ?_, Or.inl ?_, Or.inr ⟨?_, by rw [c1]; exact c0, c5, c7⟩, fun y hy => ?_⟩
        · have f1 := cp_tl t2 (ln σ)
          have f2 := cp_tl t2 (tl95 (ln σ) ++ [(σ 33 (σ 64 w), [5, σ 31 0, σ 64 w, σ 62 w - 38, ps σ w, w], kv)])
          rw [List.countP_append, List.countP_cons, List.countP_nil, f3] at f2
          simp only [Bool.false_eq_true, if_false] at f2
          unfold g2
          rw [c, List.countP_append]
          simp only [List.countP_cons, List.countP_nil, f4, f5, f6, Bool.false_eq_true, if_false]
          omega
        · simp only [List.countP_cons, List.countP_nil, f3, f4, Bool.false_eq_true, if_false]
        · simp only [List.countP_cons, List.countP_nil, f8, f9, Bool.false_eq_true, if_false]
        · simp only [List.countP_cons, List.countP_nil, fa, Bool.false_eq_true, if_false]
          split <;> omega
        · rcases List.mem_cons.mp hy with rfl | hy
          · exact (show (1 : Int) ≤ 5 ∧ (5 : Int) ≤ 7 by decide)
          · rw [List.mem_singleton.mp hy]; exact (show (1 : Int) ≤ 7 ∧ (7 : Int) ≤ 7 by decide)
    · rcases c with ⟨-, -, c⟩ | ⟨-, c⟩
      · exact tl (Or.inr (Or.inl rfl)) c (by have := bf f t0; rw [if_pos (by decide)]; omega) (fun e => absurd e (by decide))
      · exact tl (Or.inr (Or.inr (Or.inl rfl))) c (by have := bf f t0; rw [if_pos (by decide)]; omega) (fun e => absurd e (by decide))
def GH (w : Int) (σ σ' : qS) (s : List Ms) : Prop := TS w (ln σ) (ln σ') s ∧ s.countP t34 + (g2 σ' + bT σ') ≤ g2 σ + bT σ + s.countP t2 ∧ (w ≠ 6 → s.countP t2 = 0 ∧ (s.countP t1 = 0 ∨ (s.countP t1 ≤ 1 ∧ AK w σ')) ∧ (s.countP t7 = 0 ∨ (s.countP t7 ≤ 1 ∧ LKs σ' w))) ∧ (w = 6 → s.length ≤ 3 ∧ s.countP t1 = 0 ∧ s.countP t7 = 0) ∧ ∀ x ∈ s, ty7 x
theorem STP_h {w : Int} {σ σ' : qS} (h : STP w σ σ') : ∃ s, GH w σ σ' s := by
  rcases h with ⟨hw, σ1, σ2, σ3, r1, r2, r3, a, -⟩ | ⟨rfl, σ1, σ2, r1, r2, r3, -⟩
  · obtain ⟨s1, p1, q1, g1⟩ := RD_g hw r1
    obtain ⟨s2, p2, q2, g2'⟩ := RD_g hw r2
    obtain ⟨s3, p3, q3, g3'⟩ := RD_g hw r3
    obtain ⟨s4, p4, g4, g5, g6, g7, g8⟩ := ACT_h hw a
    have z : ∀ {s : List Ms}, (∀ x ∈ s, xw x 0 = 6) → s.countP t34 = 0 ∧ s.countP t2 = 0 ∧ s.countP t1 = 0 ∧ s.countP t7 = 0 := fun hs => ⟨c0_6 hs t34 (fun x e => by have := t34_t e; omega), c0_6 hs t2 (fun x e => by have : xw x 0 = 2 := by { unfold t2 at e; simpa using e }; omega), c0_6 hs t1 (fun x e => by have : xw x 0 = 1 := by { unfold t1 at e; simpa using e }; omega), c0_6 hs t7 (fun x e => by have : xw x 0 = 7 := by { unfold t7 at e; simpa using e }; omega)⟩
    have z1 := z q1
    have z2 := z q2
    have z3 := z q3
    have y6 : ∀ {s : List Ms}, (∀ x ∈ s, xw x 0 = 6) → ∀ x ∈ s, ty7 x := fun hs x hx => by have := hs x hx; unfold ty7; omega
    refine ⟨s1 ++ s2 ++ s3 ++ s4, ⟨_, _, _, s1, s2, s3, s4, p1, p2, p3, p4, rfl⟩, ?_, fun _ => ⟨?_, ?_, ?_⟩, fun e => by omega, mem4 (y6 q1) (y6 q2) (y6 q3) g8⟩
    · simp only [List.countP_append]; omega
    · simp only [List.countP_append]; omega
    · simp only [List.countP_append]
      rcases g6 with g6 | ⟨g6, g⟩
      · exact Or.inl (by omega)
      · exact Or.inr ⟨by omega, g⟩
    · simp only [List.countP_append]
      rcases g7 with g7 | ⟨g7, g⟩
      · exact Or.inl (by omega)
      · exact Or.inr ⟨by omega, g⟩
  · obtain ⟨s1, p1, q1⟩ := HR_y r1
    obtain ⟨s2, p2, q2⟩ := HR_y r2
    obtain ⟨s3, p3, q3⟩ := HR_y r3
    have k1 : (clk σ) 62 = σ 62 := clk_k (by decide)
    have e1 : σ1 62 = σ 62 := (r1.2.1 _ (by decide)).trans k1
    have e2 : σ2 62 = σ 62 := (r2.2.1 _ (by decide)).trans e1
    have e3 : σ' 62 = σ 62 := (r3.2.1 _ (by decide)).trans e2
    have eb : bT σ' = bT σ := by unfold bT bz; rw [e3]
    rw [l_clk] at p1
    obtain ⟨c1, d1⟩ := rd_cp t2 p1
    obtain ⟨c2, d2⟩ := rd_cp t2 p2
    obtain ⟨c3, d3⟩ := rd_cp t2 p3
    have z : ∀ {s : List Ms}, (∀ x ∈ s, xw x 0 = 2) → s.countP t34 = 0 ∧ s.countP t1 = 0 ∧ s.countP t7 = 0 := fun hs => ⟨c0_6 hs t34 (fun x e => by have := t34_t e; omega), c0_6 hs t1 (fun x e => by have : xw x 0 = 1 := by { unfold t1 at e; simpa using e }; omega), c0_6 hs t7 (fun x e => by have : xw x 0 = 7 := by { unfold t7 at e; simpa using e }; omega)⟩
    have z1 := z q1
    have z2 := z q2
    have z3 := z q3
    have y2 : ∀ {s : List Ms}, (∀ x ∈ s, xw x 0 = 2) → ∀ x ∈ s, ty7 x := fun hs x hx => by have := hs x hx; unfold ty7; omega
    refine ⟨s1 ++ s2 ++ s3 ++ [], ⟨_, _, _, s1, s2, s3, [], p1, p2, p3, Or.inl ⟨rfl, rfl⟩, rfl⟩, ?_, fun e => absurd rfl e, fun _ => ⟨?_, ?_, ?_⟩, mem4 (y2 q1) (y2 q2) (y2 q3) (fun x hx => absurd hx (by simp))⟩
    · rw [List.append_nil, List.countP_append, List.countP_append, List.countP_append, List.countP_append, eb]
      unfold g2
      omega
    · rw [List.append_nil, List.length_append, List.length_append]; omega
    · rw [List.append_nil, List.countP_append, List.countP_append]; omega
    · rw [List.append_nil, List.countP_append, List.countP_append]; omega

