theorem QWa {L : Nat} {τ : Nat → qS} (h : RNN L τ) {a b : Nat} (h1 : 32 ≤ a) (hb : b ≤ L) (hab : a + 4400000000 ≤ b) (hg : RG τ a b) (hc : MC τ a b) : False := by
  have hK : K2 = 15400300 := rfl
  have hex : ∃ r, a ≤ r ∧ r < a + 39400 ∧ cn 6 (ln (τ (7 * r + 6))) < 3 := by
    apply Classical.byContradiction
    intro hn
    refine QC h h1 (by omega) (fun t t1 t2 => hg.2 t (by omega) (by omega)) (fun r r1 r2 => ⟨?_, fun j hj x hx => hg.1 r (by omega) (by omega) x ⟨j, hj, hx⟩⟩)
    apply Classical.byContradiction
    intro hc
    exact hn ⟨r, r1, r2, by omega⟩
  obtain ⟨r, r1, r2, r3⟩ := hex
  have hq := (MT_q (run_95 h (by omega) (by omega) (by omega)) (stp_mtk h (r := r) (by omega))).1
  rw [← mq_len] at r3
  have hz : mq (ln (τ (7 * (r + 1)))) = [] := by
    rw [show 7 * (r + 1) = 7 * r + 7 by omega, hq]
    exact List.drop_eq_nil_of_le (by omega)
  have ca : CA τ (r + 1) b := ⟨⟨fun r' a1 a2 => hg.1 r' (by omega) a2, fun t a1 a2 => hg.2 t (by omega) a2⟩, fun t t' a1 a2 a3 a4 => hc t t' (by omega) a2 (by omega) a4, by omega, hz⟩
  have cb := CB_of h ca hb (c := r + 1 + K2) (e := b - K2 - 4) rfl (by omega)
  exact CBf h cb (by omega) (by omega)
def N7 (L : List Ms) : Prop := ∀ x ∈ L, xw x 0 ≠ 7
theorem isdn_s {σ σ' : qS} (h1 : ∀ j, σ 33 j ≠ -1 → σ' 33 j ≠ -1) (h2 : ∀ j, σ 35 j ≠ 0 → σ' 35 j ≠ 0) (b : Int) (h : isdn σ b ≠ 0) : isdn σ' b ≠ 0 := by
  unfold isdn at h ⊢
  by_cases c : b < 38
  · rw [if_pos c] at h ⊢
    have : σ 33 b ≠ -1 := fun e => by rw [if_pos e] at h; exact h rfl
    rw [if_neg (h1 b this)]
    decide
  · rw [if_neg c] at h ⊢
    exact h2 _ h
theorem HR_m {σ σ' : qS} (hJ : JI True (-1) σ) (hE : ER σ) (h7 : N7 (ln σ)) (h : HR σ σ') : (∀ b, isdn σ b ≠ 0 → isdn σ' b ≠ 0) ∧ N7 (ln σ') ∧ (∀ b, isdn σ b ≠ 0 → gk σ' b ≤ gk σ b) ∧ (∀ x, (mq (ln σ))[0]? = some x → isK x = true ∨ (xw x 0 = 3 ∧ isdn σ' (xw x 3) ≠ 0)) ∧ ∃ s, rdop 6 (ln σ) (ln σ') s ∧ ∀ x ∈ s, xw x 0 = 2 ∧ isdn σ (xw x 2) = 0 ∧ (38 ≤ xw x 2 → mapd σ) := by
  obtain ⟨-, hk, c⟩ := h
  have he : σ' 31 = σ 31 := hk _ (by decide)
  have nl : ∀ x ∈ ([] : List Ms), xw x 0 = 2 ∧ isdn σ (xw x 2) = 0 ∧ (38 ≤ xw x 2 → mapd σ) := fun x hx => absurd hx (by simp)
  rcases c with ⟨c1, c2, c3⟩ | ⟨i, x, c1, c2, c⟩
  · refine ⟨isdn_s (fun j e => by rw [c3 33 (by decide)]; exact e) (fun j e => by rw [c3 35 (by decide)]; exact e), by rw [c2]; exact h7, fun b _ => by unfold gk; rw [c2, he]; exact Nat.le_refl _, fun x hx => ?_, [], Or.inl ⟨c1, c2, rfl⟩, nl⟩
    rw [mq_n c1] at hx
    cases hx
  · have hm := List.mem_of_getElem? c2
    have em := mq_h _ _ _ c1 c2
    have hx0 := hE x hm
    have hL := (hJ.2.2.2.2.2.2.2.1 x hm).2 hx0
    obtain ⟨i0, i1, -⟩ := List.findIdx?_eq_some_iff_getElem.mp c1
    have x6 : x.1 = 6 := by
      have := List.getElem?_eq_getElem i0
      rw [c2] at this
      rw [← Option.some.inj this] at i1
      simpa using i1
    have n7e : ln σ' = (ln σ).eraseIdx i → N7 (ln σ') := fun e y hy => h7 y ((List.eraseIdx_sublist _ _).subset (by rw [e] at hy; exact hy))
    have ge : ln σ' = (ln σ).eraseIdx i → ∀ b, isdn σ b ≠ 0 → gk σ' b ≤ gk σ b := fun e b _ => by
      unfold gk; rw [e, he]; exact (List.eraseIdx_sublist _ _).countP_le
    have hh : ∀ P : Ms → Prop, P x → ∀ y, (mq (ln σ))[0]? = some y → P y := fun P hp y hy => by
      rw [em] at hy
      have : x = y := Option.some.inj hy
      rw [← this]; exact hp
    rcases c with ⟨c, -⟩ | ⟨he', h1, d1, d2, fi, en, d3, c⟩ | ⟨-, h3, d1, -, -, c⟩ | ⟨-, c, -⟩
    · exact absurd hx0 c
    · have mo : ∀ b, isdn σ b ≠ 0 → isdn σ' b ≠ 0 := isdn_s (fun j e => by rw [d1]; exact e) (fun j e => by rw [d2]; exact e)
      have hd : ∀ y, (mq (ln σ))[0]? = some y → isK y = true ∨ (xw y 0 = 3 ∧ isdn σ' (xw y 3) ≠ 0) := hh _ (Or.inl (isK_t h1))
      rcases c with ⟨d4, -⟩ | ⟨t, t1, t2, t3, -, -, kv, c⟩
      · exact ⟨mo, n7e d4, ge d4, hd, [], Or.inr ⟨i, c1, Or.inl ⟨d4, rfl⟩⟩, nl⟩
      · refine ⟨mo, fun y hy => ?_, fun b hb => ?_, hd, _, Or.inr ⟨i, c1, Or.inr ⟨_, c, rfl⟩⟩, fun y hy => ?_⟩
        · rw [c] at hy
          rcases List.mem_append.mp hy with hy | hy
          · unfold tl95 at hy
            split at hy
            · exact h7 y ((List.eraseIdx_sublist _ _).subset ((List.eraseIdx_sublist _ _).subset hy))
            · exact h7 y ((List.eraseIdx_sublist _ _).subset hy)
          · rw [List.mem_singleton.mp hy]
            exact (by decide : ¬ (2 : Int) = 7)
        · have hne : t ≠ b := fun e => hb (by rw [← e]; exact t3.1)
          have f1 := cp_tl (isG (σ 31 0) b) ((ln σ).eraseIdx i)
          have f2 : ((ln σ).eraseIdx i).countP (isG (σ 31 0) b) ≤ (ln σ).countP (isG (σ 31 0) b) := (List.eraseIdx_sublist _ _).countP_le
          unfold gk
          rw [c, he, List.countP_append, List.countP_cons, List.countP_nil, isG_mk, if_neg (fun z => hne (of_decide_eq_true z).2)]
          omega
        · rw [List.mem_singleton.mp hy]
          refine ⟨rfl, t3.1, fun e38 => ?_⟩
          have e38' : 38 ≤ t := e38
          rcases d3 with ⟨dm, -⟩ | ⟨-, -, de⟩
          · exact dm
          · have := spl_b hJ.1
            omega
    · have hsn : 0 ≤ xw x 2 := by
        rcases hL with ⟨-, e⟩ | ⟨e0, -⟩
        · rcases e with ⟨e, -⟩ | ⟨-, e⟩ | ⟨e, -⟩ | ⟨e, -⟩
          · omega
          · exact e.1.1
          · omega
          · omega
        · omega
      rcases c with ⟨e1, e2, e3⟩ | ⟨e1, e2, e3⟩
      · refine ⟨isdn_s (fun j e => ?_) (fun j e => by rw [e2]; exact e), n7e d1, ge d1, hh _ (Or.inr ⟨h3, ?_⟩), [], Or.inr ⟨i, c1, Or.inl ⟨d1, rfl⟩⟩, nl⟩
        · rw [e3]
          split
          · omega
          · exact e
        · unfold isdn
          rw [if_pos e1, e3, if_pos rfl, if_neg (by omega)]
          decide
      · refine ⟨isdn_s (fun j e => by rw [e2]; exact e) (fun j e => ?_), n7e d1, ge d1, hh _ (Or.inr ⟨h3, ?_⟩), [], Or.inr ⟨i, c1, Or.inl ⟨d1, rfl⟩⟩, nl⟩
        · rw [e3]
          split
          · decide
          · exact e
        · unfold isdn
          rw [if_neg (by omega), e3, if_pos rfl]
          decide
    · exact absurd c (h7 x hm)
theorem MT_m {σ σ' : qS} (hE : ER σ) (hl : (ln σ).length ≤ 95) (h7 : N7 (ln σ)) (h : MTK σ σ') : (∀ b, isdn σ b ≠ 0 → isdn σ' b ≠ 0) ∧ (∀ b, isdn σ b ≠ 0 → gk σ' b + bk σ' b ≤ gk σ b + bk σ b) ∧ (∀ x, HD3 x (ln σ) → isK x = true ∨ (xw x 0 = 3 ∧ isdn σ' (xw x 3) ≠ 0)) ∧ ∃ s, TS 6 (ln σ) (ln σ') s ∧ ∀ x ∈ s, xw x 0 = 2 ∧ (38 ≤ xw x 2 → mapd σ') := by
  have hK := MTK_k h
  have bb : ∀ b, bk σ' b = bk σ b := fun b => by unfold bk b1; rw [hK 62 (by decide) (by decide)]
  have hst : ∀ k ∈ stC, σ' k = σ k := STP_st (w := 6) (Or.inr ⟨rfl, h⟩)
  obtain ⟨σ1, σ2, r1, r2, r3, -, j0, j1, j2⟩ := h
  have l0 : (ln (clk σ)).length ≤ 95 := by rw [l_clk]; exact hl
  have E0 : ER (clk σ) := fun x hx => by
    rw [l_clk] at hx
    rw [clk_k (by decide)]
    exact hE x hx
  obtain ⟨E1, l1, -⟩ := HR_M j0 E0 l0 r1
  obtain ⟨E2, l2, -⟩ := HR_M j1 E1 l1 r2
  have q1 := (HR_q j0 l0 r1).1
  have q2 := (HR_q j1 l1 r2).1
  obtain ⟨a1, a2, a3, a4, s1, a5, a6⟩ := HR_m j0 E0 (by rw [l_clk]; exact h7) r1
  obtain ⟨b1, b2, b3, b4, s2, b5, b6⟩ := HR_m j1 E1 a2 r2
  obtain ⟨c1, c2, c3, c4, s3, c5, c6⟩ := HR_m j2 E2 b2 r3
  have i0 : ∀ t, isdn (clk σ) t = isdn σ t := isdn_k (clk_k (by decide)) (clk_k (by decide))
  have g0 : ∀ b, gk (clk σ) b = gk σ b := fun b => by unfold gk; rw [l_clk, clk_k (by decide)]
  have s0 : ∀ k ∈ stC, clk σ k = σ k := fun k m => clk_k ((by decide : ∀ k ∈ stC, k ≠ 39) k m)
  have st : ∀ {ρ ρ' : qS}, HR ρ ρ' → ∀ k ∈ stC, ρ' k = ρ k := fun hr k m => hr.2.1 k ((by decide : ∀ k ∈ stC, k ∈ hrK) k m)
  have mp : ∀ {ρ : qS}, (∀ k ∈ stC, ρ k = σ k) → (∀ b, isdn ρ b ≠ 0 → isdn σ' b ≠ 0) → mapd ρ → mapd σ' := fun {ρ} s1 s2 hm t t1 t2 t3 => by
    have hsp := spl_b j0.1
    rw [(st_c s0).1] at hsp
    rw [(st_c hst).1] at t2
    have h1 := hm t t1 (by rw [(st_c s1).1]; exact t2)
    refine s2 t ?_ ?_
    · unfold isdn
      rw [if_pos (by omega), if_neg h1]
      decide
    · unfold isdn
      rw [if_pos (by omega), if_pos t3]
  rw [l_clk] at q1 a4 a5
  refine ⟨fun b hb => c1 b (b1 b (a1 b (by rw [i0]; exact hb))), fun b hb => ?_, fun x hx => ?_, s1 ++ s2 ++ s3 ++ [], ⟨_, _, _, s1, s2, s3, [], a5, b5, c5, Or.inl ⟨rfl, rfl⟩, rfl⟩, ?_⟩
  · have e1 := a3 b (by rw [i0]; exact hb)
    have e2 := b3 b (a1 b (by rw [i0]; exact hb))
    have e3 := c3 b (b1 b (a1 b (by rw [i0]; exact hb)))
    rw [g0] at e1
    rw [bb]
    omega
  · obtain ⟨j, hj, hx⟩ := hx
    have hc : j = 0 ∨ j = 1 ∨ j = 2 := by omega
    rcases hc with rfl | rfl | rfl
    · rcases a4 x hx with e | ⟨e1, e2⟩
      · exact Or.inl e
      · exact Or.inr ⟨e1, c1 _ (b1 _ e2)⟩
    · rcases b4 x (by rw [q1, List.getElem?_drop]; exact hx) with e | ⟨e1, e2⟩
      · exact Or.inl e
      · exact Or.inr ⟨e1, c1 _ e2⟩
    · rcases c4 x (by rw [q2, q1, List.getElem?_drop, List.getElem?_drop]; exact hx) with e | ⟨e1, e2⟩
      · exact Or.inl e
      · exact Or.inr ⟨e1, e2⟩
  · refine mem4 (fun x hx => ?_) (fun x hx => ?_) (fun x hx => ?_) (fun x hx => absurd hx (by simp))
    · exact ⟨(a6 x hx).1, fun e => mp s0 (fun b hb => c1 b (b1 b (a1 b hb))) ((a6 x hx).2.2 e)⟩
    · exact ⟨(b6 x hx).1, fun e => mp (fun k m => (st r1 k m).trans (s0 k m)) (fun b hb => c1 b (b1 b hb)) ((b6 x hx).2.2 e)⟩
    · exact ⟨(c6 x hx).1, fun e => mp (fun k m => (st r2 k m).trans ((st r1 k m).trans (s0 k m))) (fun b hb => c1 b hb) ((c6 x hx).2.2 e)⟩

