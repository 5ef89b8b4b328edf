def NL (σ : qS) : Prop := ∀ x ∈ ln σ, xw x 0 = 7 → xw x 3 ≠ -1
def OW (σ σ' : qS) (k : Int) (s : List Ms) : Prop := (s.countP (isG (σ 31 0) k) = 0 ∧ σ' 37 k = σ 37 k ∧ σ' 38 k = σ 38 k) ∨ (s.countP (isG (σ 31 0) k) ≤ s.countP (isT (σ 31 0) (σ' 37 k)) ∧ (0 ≤ σ' 37 k ∧ σ' 37 k < 6) ∧ σ' 38 k = σ 39 0 ∧ (σ 37 k = σ' 37 k ∨ σ 37 k = -1 ∨ 25 < z_sub (σ 39 0) (σ 38 k)))
theorem HR_co {σ σ' : qS} (hJ : JI True (-1) σ) (h : HR σ σ') (hN : NL σ) : NL σ' ∧ ∃ s, rdop 6 (ln σ) (ln σ') s ∧ (∀ x ∈ s, xw x 0 = 2) ∧ (∀ k, gk σ' k + bk σ' k ≤ gk σ k + bk σ k + s.countP (isG (σ 31 0) k)) ∧ (∀ v, ca σ' v + s.countP (isT (σ 31 0) v) ≤ ca σ v) ∧ ∀ k, 0 ≤ k → k < 38 → isdn σ k = 0 → OW σ σ' k s := by
  obtain ⟨-, hk, c⟩ := h
  have he : σ' 31 = σ 31 := hk _ (by decide)
  have ht : σ' 62 = σ 62 := hk _ (by decide)
  have hb : ∀ k, bk σ' k = bk σ k := fun k => by unfold bk b1; rw [ht]
  rcases c with ⟨c1, c2, c3⟩ | ⟨i, x, c1, c2, c⟩
  · refine ⟨fun y hy => by rw [c2] at hy; exact hN y hy, [], Or.inl ⟨c1, c2, rfl⟩, fun x hx => absurd hx (by simp), fun k => ?_, fun v => ?_, fun k _ _ _ => Or.inl ⟨rfl, by rw [c3 _ (by decide)], by rw [c3 _ (by decide)]⟩⟩
    · rw [hb]; unfold gk; rw [c2, he]; omega
    · unfold ca; rw [c2, he, List.countP_nil]; omega
  · have hx : x ∈ ln σ := List.mem_of_getElem? c2
    have er : ln σ' = (ln σ).eraseIdx i → (∀ k, 0 ≤ k → k < 38 → isdn σ k = 0 → σ' 37 k = σ 37 k ∧ σ' 38 k = σ 38 k) → NL σ' ∧ ∃ s, rdop 6 (ln σ) (ln σ') s ∧ (∀ x ∈ s, xw x 0 = 2) ∧ (∀ k, gk σ' k + bk σ' k ≤ gk σ k + bk σ k + s.countP (isG (σ 31 0) k)) ∧ (∀ v, ca σ' v + s.countP (isT (σ 31 0) v) ≤ ca σ v) ∧ ∀ k, 0 ≤ k → k < 38 → isdn σ k = 0 → OW σ σ' k s := fun e hg => by
      refine ⟨fun y hy => by rw [e] at hy; exact hN y ((List.eraseIdx_sublist _ _).subset hy), [], Or.inr ⟨i, c1, Or.inl ⟨e, rfl⟩⟩, fun x hx => absurd hx (by simp), fun k => ?_, fun v => ?_, fun k k0 k1 k2 => Or.inl ⟨rfl, hg k k0 k1 k2⟩⟩
      · have := (List.eraseIdx_sublist (ln σ) i).countP_le (p := isG (σ 31 0) k)
        rw [hb]; unfold gk; rw [e, he]; omega
      · have := (List.eraseIdx_sublist (ln σ) i).countP_le (p := isA (σ 31 0) v)
        unfold ca; rw [e, he, List.countP_nil]; omega
    rcases c with ⟨-, c, c3⟩ | ⟨d0, d1, -, -, fi, en, -, c⟩ | ⟨-, -, c, c3, c4, -⟩ | ⟨-, d7, c, -, c4, c5⟩
    · exact er c (fun k _ _ _ => ⟨by rw [c3 _ (by decide)], by rw [c3 _ (by decide)]⟩)
    · rcases c with ⟨c, c3, c4, -⟩ | ⟨t, -, -, c3, c4, c5, kv, c⟩
      · exact er c (fun k _ _ _ => ⟨by rw [c3], by rw [c4]⟩)
      · have a6 : 0 ≤ xw x 2 ∧ xw x 2 < 6 := by
          have hL := (hJ.2.2.2.2.2.2.2.1 x hx).2 d0
          rcases hL with ⟨-, g⟩ | ⟨-, g⟩
          · rcases g with ⟨-, g⟩ | ⟨g, -⟩ | ⟨g, -⟩ | ⟨g, -⟩
            · exact g
            · omega
            · omega
            · omega
          · rcases g with ⟨g, -⟩ | ⟨g, -⟩ | ⟨g, -⟩ <;> omega
        refine ⟨fun y hy => ?_, _, Or.inr ⟨i, c1, Or.inr ⟨_, c, rfl⟩⟩, fun y hy => by rw [List.mem_singleton.mp hy]; rfl, fun k => ?_, fun v => ?_, fun k k0 k1 k2 => ?_⟩
        · rw [c] at hy
          rcases List.mem_append.mp hy with hy | hy
          · have : y ∈ (ln σ).eraseIdx i := by
              unfold tl95 at hy
              split at hy
              · exact (List.eraseIdx_sublist _ _).subset hy
              · exact hy
            exact hN y ((List.eraseIdx_sublist _ _).subset this)
          · rw [List.mem_singleton.mp hy]
            intro e7
            exact absurd (show (2 : Int) = 7 from e7) (by decide)
        · have h1 := (List.eraseIdx_sublist (ln σ) i).countP_le (p := isG (σ 31 0) k)
          have h2 := cp_tl (isG (σ 31 0) k) ((ln σ).eraseIdx i)
          rw [hb]; unfold gk; rw [c, he, List.countP_append]; omega
        · have h1 := cp_er (isA (σ 31 0) v) (ln σ) i x c2
          have h2 := cp_tl (isA (σ 31 0) v) ((ln σ).eraseIdx i)
          have h3 : isA (σ 31 0) v ((xw x 2, [2, σ 31 0, t, 0, 0, 0], kv) : Ms) = false := by
            rw [isA_mk]; exact decide_eq_false (fun e => absurd e.1 (by decide))
          have h4 : (if isT (σ 31 0) v ((xw x 2, [2, σ 31 0, t, 0, 0, 0], kv) : Ms) = true then 1 else 0) = if isA (σ 31 0) v x = true then 1 else 0 := by
            by_cases e : xw x 2 = v
            · rw [if_pos, if_pos]
              · unfold isA; exact decide_eq_true ⟨d0, d1, e⟩
              · unfold isT; exact decide_eq_true ⟨rfl, rfl, e⟩
            · rw [if_neg, if_neg]
              · unfold isA; exact fun z => e (of_decide_eq_true z).2.2
              · unfold isT; exact fun z => e (of_decide_eq_true z).2.2
          unfold ca
          rw [c, he, List.countP_append, List.countP_cons, List.countP_cons, List.countP_nil, List.countP_nil, h3, h4]
          simp only [Bool.false_eq_true, if_false]
          omega
        · by_cases ek : k = t
          · right
            have g1 := c4 k
            have g2 := c5 k
            rw [if_pos ek] at g1 g2
            have iT : isT (σ 31 0) (xw x 2) ((xw x 2, [2, σ 31 0, t, 0, 0, 0], kv) : Ms) = true := by unfold isT; exact decide_eq_true ⟨rfl, rfl, rfl⟩
            refine ⟨?_, by rw [g1]; exact a6, g2, ?_⟩
            · rw [g1, List.countP_cons, List.countP_cons, List.countP_nil, List.countP_nil, if_pos iT]
              split <;> omega
            · rw [g1, ek]
              rcases c3.2 with g | g | g
              · exact Or.inl g
              · exact Or.inr (Or.inl g)
              · exact Or.inr (Or.inr g)
          · left
            have g1 := c4 k
            have g2 := c5 k
            rw [if_neg ek] at g1 g2
            refine ⟨?_, g1, g2⟩
            have : isG (σ 31 0) k ((xw x 2, [2, σ 31 0, t, 0, 0, 0], kv) : Ms) = false := by
              rw [isG_mk]; exact decide_eq_false (fun e => ek e.2.symm)
            rw [List.countP_cons, List.countP_nil, this]
            simp
    · exact er c (fun k _ _ _ => ⟨by rw [c3], by rw [c4]⟩)
    · refine er c (fun k k0 k1 k2 => ⟨?_, by rw [c4]⟩)
      rcases c5 with ⟨f1, f2, -, f4⟩ | ⟨-, -, f4⟩
      · have g := f4 k
        by_cases ek : k = xw x 2
        · exfalso
          have u : σ 33 k = -1 := by
            unfold isdn at k2
            rw [if_pos k1] at k2
            by_cases z : σ 33 k = -1
            · exact z
            · rw [if_neg z] at k2; omega
          exact hN x hx d7 (by rw [← f2, ← ek]; exact u)
        · rw [if_neg ek] at g; exact g
      · rw [f4]
theorem zs_0 (c : Int) : ¬ 25 < z_sub c c := by
  unfold z_sub
  rw [Int.sub_self, w32_i 0 (by omega) (by omega)]
  omega
theorem OW_tr {σ σ1 σ2 : qS} {k : Int} {s1 s2 : List Ms} (h1 : OW σ σ1 k s1) (h2 : OW σ1 σ2 k s2) (he : σ1 31 = σ 31) (hc : σ1 39 = σ 39) : OW σ σ2 k (s1 ++ s2) := by
  unfold OW at h1 h2 ⊢
  rw [he, hc] at h2
  rw [List.countP_append, List.countP_append]
  rcases h1 with ⟨a1, a2, a3⟩ | ⟨a1, a2, a3, a4⟩
  · rcases h2 with ⟨b1, b2, b3⟩ | ⟨b1, b2, b3, b4⟩
    · exact Or.inl ⟨by omega, by rw [b2, a2], by rw [b3, a3]⟩
    · rw [a2, a3] at b4
      exact Or.inr ⟨by omega, b2, b3, b4⟩
  · rcases h2 with ⟨b1, b2, b3⟩ | ⟨b1, b2, b3, b4⟩
    · right
      rw [b2, b3]
      exact ⟨by omega, a2, a3, a4⟩
    · right
      have e : σ1 37 k = σ2 37 k := by
        rcases b4 with b4 | b4 | b4
        · exact b4
        · omega
        · rw [a3] at b4; exact absurd b4 (zs_0 _)
      rw [e] at a1 a2 a4
      exact ⟨by omega, a2, b3, a4⟩
def CHN (L : Nat) (τ s1 s2 : Nat → qS) : Prop := ∀ t, t < 7 * L → t % 7 = 6 → HR (clk (τ t)) (s1 t) ∧ HR (s1 t) (s2 t) ∧ HR (s2 t) (τ (t + 1)) ∧ JI True (-1) (clk (τ t)) ∧ JI True (-1) (s1 t) ∧ JI True (-1) (s2 t)
theorem CHN_ex {L : Nat} {τ : Nat → qS} (h : RNN L τ) : ∃ s1 s2, CHN L τ s1 s2 := by
  have : ∀ t, ∃ p : qS × qS, t < 7 * L → t % 7 = 6 → HR (clk (τ t)) p.1 ∧ HR p.1 p.2 ∧ HR p.2 (τ (t + 1)) ∧ JI True (-1) (clk (τ t)) ∧ JI True (-1) p.1 ∧ JI True (-1) p.2 := fun t => by
    by_cases c : t < 7 * L ∧ t % 7 = 6
    · rcases h.2 t c.1 with ⟨hw, -⟩ | ⟨-, σ1, σ2, r1, r2, r3, -, j0, j1, j2⟩
      · omega
      · exact ⟨(σ1, σ2), fun _ _ => ⟨r1, r2, r3, j0, j1, j2⟩⟩
    · exact ⟨(τ t, τ t), fun a b => absurd ⟨a, b⟩ c⟩
  obtain ⟨f, hf⟩ := Classical.skolem.mp this
  exact ⟨fun t => (f t).1, fun t => (f t).2, fun t a b => hf t a b⟩
def UN (τ s1 s2 : Nat → qS) (k : Int) (t : Nat) : Prop := isdn (τ t) k = 0 ∧ isdn (s1 t) k = 0 ∧ isdn (s2 t) k = 0
theorem MT_o {σ σ1 σ2 σ' : qS} (r1 : HR (clk σ) σ1) (r2 : HR σ1 σ2) (r3 : HR σ2 σ') (j0 : JI True (-1) (clk σ)) (j1 : JI True (-1) σ1) (j2 : JI True (-1) σ2) (hN : NL σ) : NL σ' ∧ ∃ s, TC 6 σ σ' s ∧ ∀ k, 0 ≤ k → k < 38 → (isdn σ k = 0 ∧ isdn σ1 k = 0 ∧ isdn σ2 k = 0) → OW (clk σ) σ' k s := by
  have l0 := l_clk σ
  have N0 : NL (clk σ) := fun x hx => by rw [l0] at hx; exact hN x hx
  obtain ⟨N1, s1, p1, q1, g1, c1, o1⟩ := HR_co j0 r1 N0
  obtain ⟨N2, s2, p2, q2, g2, c2, o2⟩ := HR_co j1 r2 N1
  obtain ⟨N3, s3, p3, q3, g3, c3, o3⟩ := HR_co j2 r3 N2
  have e0 : (clk σ) 31 = σ 31 := clk_k (by decide)
  have t0 : (clk σ) 62 = σ 62 := clk_k (by decide)
  have e1 : σ1 31 = (clk σ) 31 := r1.2.1 _ (by decide)
  have e2 : σ2 31 = (clk σ) 31 := (r2.2.1 _ (by decide)).trans e1
  have k1 : σ1 39 = (clk σ) 39 := r1.2.1 _ (by decide)
  have k2 : σ2 39 = (clk σ) 39 := (r2.2.1 _ (by decide)).trans k1
  have gc : ∀ k, gk (clk σ) k = gk σ k := fun k => by unfold gk; rw [l0, e0]
  have bc : ∀ k, bk (clk σ) k = bk σ k := fun k => by unfold bk b1; rw [t0]
  have cc : ∀ v, ca (clk σ) v = ca σ v := fun v => by unfold ca; rw [l0, e0]
  have p1' : rdop 6 (ln σ) (ln σ1) s1 := by rw [← l0]; exact p1
  rw [e0] at g1 c1
  rw [e1, e0] at g2 c2
  rw [e2, e0] at g3 c3
  have hq : ∀ x ∈ s1 ++ s2 ++ s3 ++ [], xw x 0 = 2 := fun x hx => by
    rw [List.append_nil, List.mem_append, List.mem_append] at hx
    rcases hx with (hx | hx) | hx
    · exact q1 x hx
    · exact q2 x hx
    · exact q3 x hx
  refine ⟨N3, s1 ++ s2 ++ s3 ++ [], ⟨⟨_, _, _, s1, s2, s3, [], p1', p2, p3, Or.inl ⟨rfl, rfl⟩, rfl⟩, fun k k0 => ?_, fun e => absurd rfl e, fun _ => hq, fun v => ?_⟩, fun k k0 k1' hu => ?_⟩
  · have zD : (s1 ++ s2 ++ s3 ++ []).countP (isD (σ 31 0) k) = 0 := by
      rw [List.countP_eq_zero]
      intro x hx hp
      have h1 := hq x hx
      have h2 := (of_decide_eq_true hp).2.1
      omega
    have i1 := g1 k
    have i2 := g2 k
    have i3 := g3 k
    rw [zD, List.append_nil, List.countP_append, List.countP_append]
    rw [gc, bc] at i1
    omega
  · have i1 := c1 v
    have i2 := c2 v
    have i3 := c3 v
    rw [if_pos rfl, List.append_nil, List.countP_append, List.countP_append]
    rw [cc] at i1
    omega
  · obtain ⟨u0, u1, u2⟩ := hu
    have ud : isdn (clk σ) k = 0 := by
      rw [← u0]
      exact isdn_k (clk_k (by decide)) (clk_k (by decide)) k
    have w1 := o1 k k0 k1' ud
    have w2 := o2 k k0 k1' u1
    have w3 := o3 k k0 k1' u2
    rw [List.append_nil]
    exact OW_tr (OW_tr w1 w2 e1 k1) w3 e2 k2
def SNO (L : Nat) (τ : Nat → qS) (S : Nat → List Ms) (s1 s2 : Nat → qS) : Prop := SNC L τ S ∧ ∀ t, t < 7 * L → t % 7 = 6 → NL (τ t) → ∀ k, 0 ≤ k → k < 38 → UN τ s1 s2 k t → OW (clk (τ t)) (τ (t + 1)) k (S t)
theorem SNO_ex {L : Nat} {τ s1 s2 : Nat → qS} (h : RNN L τ) (hc : CHN L τ s1 s2) : ∃ S, SNO L τ S s1 s2 := by
  have : ∀ t, ∃ s, (t < 7 * L → TC ((t % 7 : Nat) : Int) (τ t) (τ (t + 1)) s) ∧ (t < 7 * L → t % 7 = 6 → NL (τ t) → ∀ k, 0 ≤ k → k < 38 → UN τ s1 s2 k t → OW (clk (τ t)) (τ (t + 1)) k s) := fun t => by
    by_cases c : t < 7 * L
    · by_cases c6 : t % 7 = 6 ∧ NL (τ t)
      · obtain ⟨r1, r2, r3, j0, j1, j2⟩ := hc t c c6.1
        obtain ⟨-, s, q1, q2⟩ := MT_o r1 r2 r3 j0 j1 j2 c6.2
        refine ⟨s, fun _ => ?_, fun _ _ _ => q2⟩
        rw [c6.1]; exact q1
      · obtain ⟨s, hs⟩ := STP_tc (h.2 t c)
        exact ⟨s, fun _ => hs, fun _ e n => absurd ⟨e, n⟩ c6⟩
    · exact ⟨[], fun e => absurd e c, fun e => absurd e c⟩
  obtain ⟨S, hS⟩ := Classical.skolem.mp this
  exact ⟨S, fun t ht => (hS t).1 ht, fun t ht => (hS t).2 ht⟩

