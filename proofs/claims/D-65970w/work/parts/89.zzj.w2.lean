def ub (σ : qS) (k : Nat) : Nat := if isdn σ k = 0 then itb σ k else 0
def W2 (σ : qS) : Nat := We σ + 2 * sb (ub σ) 38
theorem sb_p1 {B B' : Nat → Nat} {j : Nat} (hj : B' j ≤ B j + 1) : ∀ n, (∀ k, k < n → k ≠ j → B' k ≤ B k) → sb B' n ≤ sb B n + 1
  | 0, _ => by simp [sb]
  | n + 1, h => by
    by_cases c : n = j
    · have := sb_le n (fun k hk => h k (by omega) (by omega))
      simp only [sb]; rw [c]; rw [c] at this; omega
    · have ih := sb_p1 hj n (fun k hk => h k (by omega))
      have := h n (by omega) c
      simp only [sb]; omega
theorem itb_HR1 {σ σ' : qS} (h : HR σ σ') : (∀ k : Nat, k < 38 → itb σ' k ≤ itb σ k) ∨ (¬ mapd σ ∧ (∃ x, hd6 σ x ∧ xw x 0 = 1) ∧ ∃ t : Nat, ∀ k : Nat, k ≠ t → itb σ' k ≤ itb σ k) := by
  obtain ⟨-, hk, c⟩ := h
  have he : σ' 31 = σ 31 := hk _ (by decide)
  have ht : σ' 62 = σ 62 := hk _ (by decide)
  have hb : ∀ k, bk σ' k = bk σ k := fun k => by unfold bk b1; rw [ht]
  have key : ∀ {M : List Ms}, M.Sublist (ln σ) → ln σ' = M → ∀ k, itb σ' k ≤ itb σ k := fun {M} s e k => by
    have a1 := s.countP_le (p := isG (σ 31 0) k)
    have a2 := s.countP_le (p := isD (σ 31 0) k)
    unfold itb gk
    rw [he, hb, e]; omega
  rcases c with ⟨-, c2, -⟩ | ⟨i, x, f1, f2, c⟩
  · exact Or.inl (fun k _ => key (List.Sublist.refl _) c2 k)
  · rcases c with ⟨-, c, -⟩ | ⟨-, d1, -, -, fi, en, d2, c⟩ | ⟨-, -, c, -⟩ | ⟨-, -, c, -⟩
    · exact Or.inl (fun k _ => key (List.eraseIdx_sublist _ _) c k)
    · rcases c with ⟨c, -⟩ | ⟨t, t1, -, -, -, -, kv, c⟩
      · exact Or.inl (fun k _ => key (List.eraseIdx_sublist _ _) c k)
      · have no : ∀ k : Int, k ≠ t → itb σ' k ≤ itb σ k := fun k hkt => by
          have a1 := (List.eraseIdx_sublist (ln σ) i).countP_le (p := isG (σ 31 0) k)
          have a2 := (List.eraseIdx_sublist (ln σ) i).countP_le (p := isD (σ 31 0) k)
          have b1 := cp_tl (isG (σ 31 0) k) ((ln σ).eraseIdx i)
          have b2 := cp_tl (isD (σ 31 0) k) ((ln σ).eraseIdx i)
          have z : isD (σ 31 0) k ((xw x 2, [2, σ 31 0, t, 0, 0, 0], kv) : Ms) = false := by
            rw [isD_mk]; exact decide_eq_false (fun e => absurd e.1 (by decide))
          have z2 : isG (σ 31 0) k ((xw x 2, [2, σ 31 0, t, 0, 0, 0], kv) : Ms) = false := by
            rw [isG_mk]; exact decide_eq_false (fun e => hkt e.2.symm)
          unfold itb gk
          rw [he, hb, c, List.countP_append, List.countP_append, List.countP_cons, List.countP_cons, List.countP_nil, List.countP_nil, z, z2]
          simp only [Bool.false_eq_true, if_false]
          omega
        rcases d2 with ⟨-, rfl, -⟩ | ⟨m, rfl, -⟩
        · exact Or.inl (fun k k38 => no k (by omega))
        · exact Or.inr ⟨m, ⟨x, ⟨i, f1, f2⟩, d1⟩, t.toNat, fun k hkt => no k (by omega)⟩
    · exact Or.inl (fun k _ => key (List.eraseIdx_sublist _ _) c k)
    · exact Or.inl (fun k _ => key (List.eraseIdx_sublist _ _) c k)
theorem itb_cl1 {σ σ' : qS} (h : HR σ σ') {x : Ms} (hx : hd6 σ x) (he' : xw x 1 = σ 31 0) (hc : clos σ x) : itb σ' (xw x 3) + 1 ≤ itb σ (xw x 3) := by
  obtain ⟨-, hk, c⟩ := h
  have he : σ' 31 = σ 31 := hk _ (by decide)
  have ht : σ' 62 = σ 62 := hk _ (by decide)
  have hb : bk σ' (xw x 3) = bk σ (xw x 3) := by unfold bk b1; rw [ht]
  unfold itb gk
  rw [he, hb]
  obtain ⟨i0, b1, b2⟩ := hx
  rcases c with ⟨q1, -⟩ | ⟨i, y, q1, q2, c⟩
  · rw [q1] at b1; cases b1
  · rw [q1] at b1
    have e := Option.some.inj b1
    subst e
    rw [q2] at b2
    have e := Option.some.inj b2
    subst e
    have a1 := (List.eraseIdx_sublist (ln σ) i).countP_le (p := isG (σ 31 0) (xw y 3))
    have a2 := cp_er (isD (σ 31 0) (xw y 3)) (ln σ) i y q2
    have t3 := hc.1
    have z : isD (σ 31 0) (xw y 3) y = true := decide_eq_true ⟨he', t3, rfl⟩
    rw [if_pos z] at a2
    rcases c with ⟨d0, -⟩ | ⟨-, d1, -⟩ | ⟨-, -, c, -⟩ | ⟨-, d1, -⟩
    · exact absurd he' d0
    · omega
    · rw [c]; omega
    · omega
noncomputable def gs (σ σ' : qS) : Nat := @ite Nat (∀ k : Nat, k < 38 → itb σ' k ≤ itb σ k) (Classical.propDecidable _) 0 1
theorem gs_1 (σ σ' : qS) : gs σ σ' ≤ 1 := by unfold gs; split <;> omega
theorem gs_0 {σ σ' : qS} (h : HR σ σ') (hm : mapd σ) : gs σ σ' = 0 := by
  unfold gs
  rcases itb_HR1 h with c | ⟨c, -⟩
  · exact if_pos c
  · exact absurd hm c
theorem gs_a {σ σ' : qS} (h : HR σ σ') (hg : gs σ σ' ≠ 0) : ∃ x, hd6 σ x ∧ xw x 0 = 1 := by
  rcases itb_HR1 h with c | ⟨-, c, -⟩
  · exact absurd (by unfold gs; exact if_pos c) hg
  · exact c
theorem ub_nb {σ σ' : qS} (h : HR σ σ') : sb (ub σ') 38 ≤ sb (nb σ σ' (ub σ)) 38 + gs σ σ' := by
  have one : ∀ k : Nat, k < 38 → itb σ' k ≤ itb σ k → ub σ' k ≤ nb σ σ' (ub σ) k := fun k hk hi => by
    unfold ub nb
    by_cases a : isdn σ' k = 0
    · rw [if_pos a, if_neg (fun e => e a)]
      by_cases b : isdn σ k ≠ 0
      · rw [if_pos b]; omega
      · rw [if_neg b]
        show _ ≤ (if isdn σ k = 0 then itb σ k else 0)
        rw [if_pos (Classical.byContradiction b)]; exact hi
    · rw [if_neg a]; omega
  have up : ∀ k : Nat, ub σ' k ≤ nb σ σ' (ub σ) k + 1 := fun k => by
    have hi := itb_HR h k
    unfold ub nb
    by_cases a : isdn σ' k = 0
    · rw [if_pos a, if_neg (fun e => e a)]
      by_cases b : isdn σ k ≠ 0
      · rw [if_pos b]; omega
      · rw [if_neg b]
        show _ ≤ (if isdn σ k = 0 then itb σ k else 0) + 1
        rw [if_pos (Classical.byContradiction b)]; exact hi
    · rw [if_neg a]; omega
  unfold gs
  by_cases c : ∀ k : Nat, k < 38 → itb σ' k ≤ itb σ k
  · rw [if_pos c]
    have := sb_le (B := nb σ σ' (ub σ)) (B' := ub σ') 38 (fun k hk => one k hk (c k hk))
    omega
  · rw [if_neg c]
    rcases itb_HR1 h with e | ⟨-, -, t, e⟩
    · exact absurd e c
    · exact sb_p1 (j := t) (up t) 38 (fun k hk hkt => one k hk (e k hkt))
theorem HR_W2 {σ σ' : qS} (hJ : JI True (-1) σ) (hE : ER σ) (h : HR σ σ') (hP : ∀ x, hd6 σ x → clos σ x → xw x 3 < 38) : W2 σ' + 2 * (if 1 ≤ cn 6 (ln σ) then 1 else 0) ≤ W2 σ + 2 * gs σ σ' := by
  have u := ub_nb h
  unfold W2
  by_cases c : ∀ x, hd6 σ x → ¬ clos σ x
  · have := HR_Bn hJ hE h (ub σ) c
    omega
  · obtain ⟨x, hx⟩ := Classical.not_forall.mp c
    obtain ⟨h1, h2⟩ := Classical.not_imp.mp hx
    have h2' : clos σ x := Classical.byContradiction h2
    have hm : x ∈ ln σ := by
      obtain ⟨i, -, hx⟩ := h1
      exact List.mem_of_getElem? hx
    have he := hE x hm
    have hL := (hJ.2.2.2.2.2.2.2.1 x hm).2 he
    have h0 : 0 ≤ xw x 3 := by
      have t3 := h2'.1
      rcases hL with ⟨-, g⟩ | ⟨-, g⟩
      · rcases g with ⟨g, -⟩ | ⟨-, g⟩ | ⟨g, -⟩ | ⟨g, -⟩
        · omega
        · rcases g.2 with g | g <;> omega
        · omega
        · omega
      · rcases g with ⟨g, -⟩ | ⟨g, -⟩ | ⟨g, -⟩ <;> omega
    have h38 := hP x h1 h2'
    have ej : xw x 3 = ((xw x 3).toNat : Int) := (Int.toNat_of_nonneg h0).symm
    have b := HR_Bc hJ h (ub σ) h1 he h2' ej (by omega)
    have i1 := itb_cl1 h h1 he h2'
    rw [ej] at i1
    have i2 : ub σ (xw x 3).toNat = itb σ ((xw x 3).toNat : Int) := by
      unfold ub
      rw [← ej, if_pos h2'.2]
    have hi : (if 1 ≤ cn 6 (ln σ) then 1 else 0) ≤ 1 := by split <;> omega
    omega
theorem W2_clk (σ : qS) : W2 (clk σ) = W2 σ := by
  have l0 : ln (clk σ) = ln σ := l_clk σ
  have e0 : (clk σ) 31 = σ 31 := clk_k (by decide)
  have t0 : (clk σ) 62 = σ 62 := clk_k (by decide)
  have e : ub (clk σ) = ub σ := funext (fun k => by
    have q : itb (clk σ) k = itb σ k := by unfold itb gk bk b1; rw [l0, e0, t0]
    have d : isdn (clk σ) k = isdn σ k := isdn_k (clk_k (by decide)) (clk_k (by decide)) _
    unfold ub; rw [q, d])
  unfold W2; rw [We_clk, e]
theorem M_W2 {σ σ1 σ2 σ' : qS} (j0 : JI True (-1) (clk σ)) (j1 : JI True (-1) σ1) (j2 : JI True (-1) σ2) (r1 : HR (clk σ) σ1) (r2 : HR σ1 σ2) (r3 : HR σ2 σ') (hE : ER σ) (hl : (ln σ).length ≤ 95) (k0 : ∀ x, hd6 (clk σ) x → clos (clk σ) x → xw x 3 < 38) (k1 : ∀ x, hd6 σ1 x → clos σ1 x → xw x 3 < 38) (k2 : ∀ x, hd6 σ2 x → clos σ2 x → xw x 3 < 38) : W2 σ' + 2 * min 3 (cn 6 (ln σ)) ≤ W2 σ + 2 * (gs (clk σ) σ1 + gs σ1 σ2 + gs σ2 σ') := by
  have l0 : ln (clk σ) = ln σ := l_clk σ
  have e0 : (clk σ) 31 = σ 31 := clk_k (by decide)
  have E0 : ER (clk σ) := fun x hx => by rw [l0] at hx; rw [e0]; exact hE x hx
  obtain ⟨E1, L1, C1⟩ := HR_M j0 E0 (by rw [l0]; exact hl) r1
  obtain ⟨E2, L2, C2⟩ := HR_M j1 E1 L1 r2
  rw [l0] at C1
  have w0 := HR_W2 j0 E0 r1 k0
  have w1 := HR_W2 j1 E1 r2 k1
  have w2 := HR_W2 j2 E2 r3 k2
  rw [l0, W2_clk] at w0
  by_cases d0 : 1 ≤ cn 6 (ln σ)
  · rw [if_pos d0] at w0
    by_cases d1 : 1 ≤ cn 6 (ln σ1)
    · rw [if_pos d1] at w1
      by_cases d2 : 1 ≤ cn 6 (ln σ2)
      · rw [if_pos d2] at w2
        omega
      · rw [if_neg d2] at w2
        omega
    · rw [if_neg d1] at w1
      omega
  · rw [if_neg d0] at w0
    omega
theorem w2_t {L : Nat} {τ : Nat → qS} (h : RNN L τ) {t : Nat} (ht : t < 7 * L) (hw : t % 7 < 6) : W2 (τ (t + 1)) ≤ W2 (τ t) + pf (τ (t + 1)) ((t % 7 : Nat) : Int) := by
  have w := we_t h ht hw
  obtain ⟨S, hS⟩ := SNC_ex h
  have hst := h.2 t ht
  have ez : ∀ k, isdn (τ (t + 1)) k = isdn (τ t) k := fun k => by
    rcases hst with ⟨-, σ1, σ2, σ3, r1, r2, r3, a, -⟩ | ⟨e, -⟩
    · refine isdn_k ?_ ?_ _
      · exact (a.2.2.1 _ (by decide)).trans ((r3.2.2.1 _ (by decide)).trans ((r2.2.2.1 _ (by decide)).trans (r1.2.2.1 _ (by decide))))
      · exact (a.2.2.1 _ (by decide)).trans ((r3.2.2.1 _ (by decide)).trans ((r2.2.2.1 _ (by decide)).trans (r1.2.2.1 _ (by decide))))
    · omega
  have hi : ∀ k : Nat, itb (τ (t + 1)) k ≤ itb (τ t) k := fun k => by
    have i := itb_r h hS (k := k) (by omega) t 1 (by omega)
    have z := ((hS t ht).2.2.1 (by omega)).1 k
    rw [run_era h (by omega)] at z
    simp only [sns, List.nil_append, Nat.add_zero, List.countP_append, List.countP_nil] at i
    omega
  have := sb_le (B := ub (τ t)) (B' := ub (τ (t + 1))) 38 (fun k hk => by
    have := hi k
    unfold ub; rw [ez]
    split <;> omega)
  unfold W2
  omega
theorem hr_np {σ σ' : qS} (hJ : JI True (-1) σ) (hE : ER σ) (h : HR σ σ') (hd : ∀ i : Nat, i < 6 → db σ' i = db σ i) : ∀ x, hd6 σ x → clos σ x → xw x 3 < 38 := fun x hx hc => by
  apply Classical.byContradiction
  intro hn
  have hm : x ∈ ln σ := by
    obtain ⟨i, -, hx⟩ := hx
    exact List.mem_of_getElem? hx
  have he := hE x hm
  have hL := (hJ.2.2.2.2.2.2.2.1 x hm).2 he
  have t3 := hc.1
  have hp := hJ.1.2.2.2.2.2.1
  have hr : xw x 3 < 38 + σ 13 (jb σ) := by
    rcases hL with ⟨-, g⟩ | ⟨-, g⟩
    · rcases g with ⟨g, -⟩ | ⟨-, g⟩ | ⟨g, -⟩ | ⟨g, -⟩
      · omega
      · rcases g.2 with g | g <;> omega
      · omega
      · omega
    · rcases g with ⟨g, -⟩ | ⟨g, -⟩ | ⟨g, -⟩ <;> omega
  have h6 : (xw x 3 - 38).toNat < 6 := by omega
  have ei : (((xw x 3 - 38).toNat : Nat) : Int) = xw x 3 - 38 := Int.toNat_of_nonneg (by omega)
  have hdi := hd _ h6
  unfold db at hdi
  rw [ei] at hdi
  have h0 : σ 35 (xw x 3 - 38) = 0 := by
    have := hc.2
    unfold isdn at this
    rw [if_neg hn] at this
    exact this
  obtain ⟨-, hk, c⟩ := h
  obtain ⟨i0, b1, b2⟩ := hx
  rcases c with ⟨q1, -⟩ | ⟨i, y, q1, q2, c⟩
  · rw [q1] at b1; cases b1
  · rw [q1] at b1
    have e := Option.some.inj b1
    subst e
    rw [q2] at b2
    have e := Option.some.inj b2
    subst e
    rcases c with ⟨d0, -⟩ | ⟨-, d1, -⟩ | ⟨-, -, -, -, -, c⟩ | ⟨-, d1, -⟩
    · exact d0 he
    · omega
    · rcases c with ⟨c, -⟩ | ⟨-, -, c⟩
      · exact hn c
      · rw [c, if_pos rfl, h0] at hdi
        exact absurd hdi (by decide)
    · omega
def NPE (L : Nat) (τ s1 s2 : Nat → qS) : Prop := ∀ t, 224 ≤ t → t < 7 * L → t % 7 = 6 → (∀ x, hd6 (clk (τ t)) x → clos (clk (τ t)) x → xw x 3 < 38) ∧ (∀ x, hd6 (s1 t) x → clos (s1 t) x → xw x 3 < 38) ∧ ∀ x, hd6 (s2 t) x → clos (s2 t) x → xw x 3 < 38
theorem NPE_of {L : Nat} {τ s1 s2 : Nat → qS} (h : RNN L τ) (hc : CHN L τ s1 s2) (hs : ∀ t, t ≤ 7 * L → psame (τ 0) (τ t)) : NPE L τ s1 s2 := fun t t1 t2 t3 => by
  obtain ⟨r1, r2, r3, j0, j1, j2⟩ := hc t t2 t3
  have l0 : ln (clk (τ t)) = ln (τ t) := l_clk _
  have e0 : (clk (τ t)) 31 = (τ t) 31 := clk_k (by decide)
  have hE := run_ER h t1 (by omega)
  have E0 : ER (clk (τ t)) := fun x hx => by rw [l0] at hx; rw [e0]; exact hE x hx
  obtain ⟨E1, L1, -⟩ := HR_M j0 E0 (by rw [l0]; exact run_95 h (by omega) (by omega) (by omega)) r1
  obtain ⟨E2, L2, -⟩ := HR_M j1 E1 L1 r2
  have p1 := HR_pm r1
  have p2 := HR_pm r2
  have p3 := HR_pm r3
  have ec : ∀ i, db (clk (τ t)) i = db (τ t) i := fun i => by
    have : (clk (τ t)) 35 = (τ t) 35 := clk_k (by decide)
    unfold db; rw [this]
  have ee : ∀ i : Nat, i < 6 → db (τ (t + 1)) i = db (τ t) i := fun i hi => ((hs (t + 1) (by omega)).2.2.1 i hi).trans ((hs t (by omega)).2.2.1 i hi).symm
  have key : ∀ {a b c d : Bool}, (a = true → b = true) → (b = true → c = true) → (c = true → d = true) → d = a → b = a ∧ c = b ∧ d = c := fun {a b c d} => by revert a b c d; decide
  have kk : ∀ i : Nat, i < 6 → db (s1 t) i = db (clk (τ t)) i ∧ db (s2 t) i = db (s1 t) i ∧ db (τ (t + 1)) i = db (s2 t) i := fun i hi => key (p1.2.2.1 i) (p2.2.2.1 i) (p3.2.2.1 i) (by rw [ec]; exact ee i hi)
  exact ⟨hr_np j0 E0 r1 (fun i hi => (kk i hi).1), hr_np j1 E1 r2 (fun i hi => (kk i hi).2.1), hr_np j2 E2 r3 (fun i hi => (kk i hi).2.2)⟩
theorem rnd_W2 {L : Nat} {τ s1 s2 : Nat → qS} (h : RNN L τ) (hc : CHN L τ s1 s2) (hP : NPE L τ s1 s2) {r : Nat} (hr : 32 ≤ r) (hl : r < L) : W2 (τ (7 * r + 7)) + 2 * min 3 (cn 6 (ln (τ (7 * r + 6)))) ≤ W2 (τ (7 * r)) + psm τ r + 2 * (gs (clk (τ (7 * r + 6))) (s1 (7 * r + 6)) + gs (s1 (7 * r + 6)) (s2 (7 * r + 6)) + gs (s2 (7 * r + 6)) (τ (7 * r + 7))) := by
  have w0 := w2_t h (t := 7 * r) (by omega) (by omega)
  have w1 := w2_t h (t := 7 * r + 1) (by omega) (by omega)
  have w2 := w2_t h (t := 7 * r + 2) (by omega) (by omega)
  have w3 := w2_t h (t := 7 * r + 3) (by omega) (by omega)
  have w4 := w2_t h (t := 7 * r + 4) (by omega) (by omega)
  have w5 := w2_t h (t := 7 * r + 5) (by omega) (by omega)
  have m0 : (7 * r) % 7 = 0 := by omega
  have m1 : (7 * r + 1) % 7 = 1 := by omega
  have m2 : (7 * r + 2) % 7 = 2 := by omega
  have m3 : (7 * r + 3) % 7 = 3 := by omega
  have m4 : (7 * r + 4) % 7 = 4 := by omega
  have m5 : (7 * r + 5) % 7 = 5 := by omega
  have m6 : (7 * r + 6) % 7 = 6 := by omega
  rw [m0] at w0; rw [m1] at w1; rw [m2] at w2; rw [m3] at w3; rw [m4] at w4; rw [m5] at w5
  obtain ⟨r1, r2, r3, j0, j1, j2⟩ := hc (7 * r + 6) (by omega) m6
  obtain ⟨p0, p1, p2⟩ := hP (7 * r + 6) (by omega) (by omega) m6
  have c3 := M_W2 j0 j1 j2 r1 r2 r3 (run_ER h (by omega) (by omega)) (run_95 h (by omega) (by omega) (by omega)) p0 p1 p2
  unfold psm
  have d0 : ((0 : Nat) : Int) = 0 := rfl
  have d1 : ((1 : Nat) : Int) = 1 := rfl
  have d2 : ((2 : Nat) : Int) = 2 := rfl
  have d3 : ((3 : Nat) : Int) = 3 := rfl
  have d4 : ((4 : Nat) : Int) = 4 := rfl
  have d5 : ((5 : Nat) : Int) = 5 := rfl
  rw [d0] at w0; rw [d1] at w1; rw [d2] at w2; rw [d3] at w3; rw [d4] at w4; rw [d5] at w5
  simp only [Nat.add_assoc, Nat.reduceAdd] at w0 w1 w2 w3 w4 w5 c3 ⊢
  omega

