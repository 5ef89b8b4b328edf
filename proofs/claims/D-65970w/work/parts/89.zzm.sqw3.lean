def NE (L : Nat) (τ s1 s2 : Nat → qS) : Prop := ∀ t, t < 7 * L → t % 7 = 6 → (∀ b, isdn (clk (τ t)) b ≠ 0 → isdn (s1 t) b ≠ 0) ∧ (∀ b, isdn (s1 t) b ≠ 0 → isdn (s2 t) b ≠ 0) ∧ ∀ b, isdn (s2 t) b ≠ 0 → isdn (τ (t + 1)) b ≠ 0
def LKe (σ : qS) (x : Ms) : Prop := (0 ≤ xw x 2 ∧ xw x 2 < 38) ∧ σ 33 (xw x 2) = xw x 3 ∧ xw x 3 ≠ -1
theorem HR_m2 {σ σ' : qS} (hJ : JI True (-1) σ) (hE : ER σ) (mo : ∀ b, isdn σ b ≠ 0 → isdn σ' b ≠ 0) (h : HR σ σ') : (∀ b, isdn σ b ≠ 0 → gk σ' b ≤ gk σ b) ∧ (∀ x, (mq (ln σ))[0]? = some x → isK x = true ∨ (xw x 0 = 3 ∧ isdn σ' (xw x 3) ≠ 0) ∨ (xw x 0 = 7 ∧ ¬ LKe σ x)) ∧ (∃ s, rdop 6 (ln σ) (ln σ') s ∧ ∀ x ∈ s, xw x 0 = 2 ∧ isdn σ (xw x 2) = 0 ∧ (38 ≤ xw x 2 → mapd σ)) ∧ ((∀ x, (mq (ln σ))[0]? = some x → xw x 0 ≠ 3) → σ' 33 = σ 33) := by
  obtain ⟨-, hk, c⟩ := h
  have he : σ' 31 = σ 31 := hk _ (by decide)
  have nl : ∀ x ∈ ([] : List Ms), xw x 0 = 2 ∧ isdn σ (xw x 2) = 0 ∧ (38 ≤ xw x 2 → mapd σ) := fun x hx => absurd hx (by simp)
  rcases c with ⟨c1, c2, c3⟩ | ⟨i, x, c1, c2, c⟩
  · refine ⟨fun b _ => by unfold gk; rw [c2, he]; exact Nat.le_refl _, fun x hx => ?_, ⟨[], Or.inl ⟨c1, c2, rfl⟩, nl⟩, fun _ => c3 _ (by decide)⟩
    rw [mq_n c1] at hx
    cases hx
  · have hm := List.mem_of_getElem? c2
    have em := mq_h _ _ _ c1 c2
    have hx0 := hE x hm
    have hL := (hJ.2.2.2.2.2.2.2.1 x hm).2 hx0
    have ge : ln σ' = (ln σ).eraseIdx i → ∀ b, isdn σ b ≠ 0 → gk σ' b ≤ gk σ b := fun e b _ => by
      unfold gk; rw [e, he]; exact (List.eraseIdx_sublist _ _).countP_le
    have hh : ∀ P : Ms → Prop, P x → ∀ y, (mq (ln σ))[0]? = some y → P y := fun P hp y hy => by
      rw [em] at hy
      have : x = y := Option.some.inj hy
      rw [← this]; exact hp
    have h0 : (mq (ln σ))[0]? = some x := by rw [em]; rfl
    rcases c with ⟨c, -⟩ | ⟨he', h1, d1, d2, fi, en, d3, c⟩ | ⟨-, h3, d1, -, -, c⟩ | ⟨-, h7, d1, -, -, c⟩
    · exact absurd hx0 c
    · have hd : ∀ y, (mq (ln σ))[0]? = some y → isK y = true ∨ (xw y 0 = 3 ∧ isdn σ' (xw y 3) ≠ 0) ∨ (xw y 0 = 7 ∧ ¬ LKe σ y) := hh _ (Or.inl (isK_t h1))
      rcases c with ⟨d4, -⟩ | ⟨t, t1, t2, t3, -, -, kv, c⟩
      · exact ⟨ge d4, hd, ⟨[], Or.inr ⟨i, c1, Or.inl ⟨d4, rfl⟩⟩, nl⟩, fun _ => d1⟩
      · refine ⟨fun b hb => ?_, hd, ⟨_, Or.inr ⟨i, c1, Or.inr ⟨_, c, rfl⟩⟩, fun y hy => ?_⟩, fun _ => d1⟩
        · have hne : t ≠ b := fun e => hb (by rw [← e]; exact t3.1)
          have f1 := cp_tl (isG (σ 31 0) b) ((ln σ).eraseIdx i)
          have f2 : ((ln σ).eraseIdx i).countP (isG (σ 31 0) b) ≤ (ln σ).countP (isG (σ 31 0) b) := (List.eraseIdx_sublist _ _).countP_le
          unfold gk
          rw [c, he, List.countP_append, List.countP_cons, List.countP_nil, isG_mk, if_neg (fun z => hne (of_decide_eq_true z).2)]
          omega
        · rw [List.mem_singleton.mp hy]
          refine ⟨rfl, t3.1, fun e38 => ?_⟩
          have e38' : 38 ≤ t := e38
          rcases d3 with ⟨dm, -⟩ | ⟨-, -, de⟩
          · exact dm
          · have := spl_b hJ.1
            omega
    · have hsn : 0 ≤ xw x 2 := by
        rcases hL with ⟨-, e⟩ | ⟨e0, e⟩
        · rcases e with ⟨e, -⟩ | ⟨-, e⟩ | ⟨e, -⟩ | ⟨e, -⟩
          · omega
          · exact e.1.1
          · omega
          · omega
        · rcases e with ⟨e, -⟩ | ⟨e, -⟩ | ⟨e, -⟩ <;> omega
      have nd : isdn σ' (xw x 3) ≠ 0 := by
        unfold isdn
        rcases c with ⟨e1, e2, e3⟩ | ⟨e1, e2, e3⟩
        · rw [if_pos e1, e3, if_pos rfl, if_neg (by omega)]
          decide
        · rw [if_neg (by omega), e3, if_pos rfl]
          decide
      exact ⟨ge d1, hh _ (Or.inr (Or.inl ⟨h3, nd⟩)), ⟨[], Or.inr ⟨i, c1, Or.inl ⟨d1, rfl⟩⟩, nl⟩, fun hn => absurd h3 (hn x h0)⟩
    · have key : ¬ LKe σ x ∧ σ' 33 = σ 33 := by
        rcases c with ⟨e1, e2, e3, -⟩ | ⟨e1, e2, -⟩
        · have hz : σ 33 (xw x 2) = -1 := by
            apply Classical.byContradiction
            intro hn
            have g1 : isdn σ (xw x 2) ≠ 0 := by unfold isdn; rw [if_pos e1, if_neg hn]; decide
            have g2 := mo _ g1
            unfold isdn at g2
            rw [if_pos e1, e3, if_pos rfl, if_pos rfl] at g2
            exact g2 rfl
          refine ⟨fun l => l.2.2 (by rw [← e2]; exact hz), funext (fun j => ?_)⟩
          rw [e3]
          split
          · rename_i ej; rw [ej]; exact hz.symm
          · rfl
        · exact ⟨fun l => e1 ⟨l.1.2, l.2.1⟩, e2⟩
      exact ⟨ge d1, hh _ (Or.inr (Or.inr ⟨h7, key.1⟩)), ⟨[], Or.inr ⟨i, c1, Or.inl ⟨d1, rfl⟩⟩, nl⟩, fun _ => key.2⟩
theorem MT_m2 {σ σ1 σ2 σ' : qS} (hE : ER σ) (hl : (ln σ).length ≤ 95) (hM : MTK σ σ') (r1 : HR (clk σ) σ1) (r2 : HR σ1 σ2) (r3 : HR σ2 σ') (j0 : JI True (-1) (clk σ)) (j1 : JI True (-1) σ1) (j2 : JI True (-1) σ2) (n0 : ∀ b, isdn (clk σ) b ≠ 0 → isdn σ1 b ≠ 0) (n1 : ∀ b, isdn σ1 b ≠ 0 → isdn σ2 b ≠ 0) (n2 : ∀ b, isdn σ2 b ≠ 0 → isdn σ' b ≠ 0) : (∀ b, isdn σ b ≠ 0 → gk σ' b + bk σ' b ≤ gk σ b + bk σ b) ∧ (∀ x, HD3 x (ln σ) → isK x = true ∨ (xw x 0 = 3 ∧ isdn σ' (xw x 3) ≠ 0) ∨ (xw x 0 = 7 ∧ (¬ LKe (clk σ) x ∨ ¬ LKe σ1 x ∨ ¬ LKe σ2 x))) ∧ (∃ s, TS 6 (ln σ) (ln σ') s ∧ ∀ x ∈ s, xw x 0 = 2 ∧ (38 ≤ xw x 2 → mapd σ')) ∧ ((∀ x, HD3 x (ln σ) → xw x 0 ≠ 3) → σ1 33 = σ 33 ∧ σ2 33 = σ 33 ∧ σ' 33 = σ 33) := by
  have hK := MTK_k hM
  have bb : ∀ b, bk σ' b = bk σ b := fun b => by unfold bk b1; rw [hK 62 (by decide) (by decide)]
  have hst : ∀ k ∈ stC, σ' k = σ k := STP_st (w := 6) (Or.inr ⟨rfl, hM⟩)
  have l0 : (ln (clk σ)).length ≤ 95 := by rw [l_clk]; exact hl
  have E0 : ER (clk σ) := fun x hx => by
    rw [l_clk] at hx
    rw [clk_k (by decide)]
    exact hE x hx
  obtain ⟨E1, l1, -⟩ := HR_M j0 E0 l0 r1
  obtain ⟨E2, l2, -⟩ := HR_M j1 E1 l1 r2
  have q1 := (HR_q j0 l0 r1).1
  have q2 := (HR_q j1 l1 r2).1
  obtain ⟨a3, a4, ⟨s1, a5, a6⟩, a7⟩ := HR_m2 j0 E0 n0 r1
  obtain ⟨b3, b4, ⟨s2, b5, b6⟩, b7⟩ := HR_m2 j1 E1 n1 r2
  obtain ⟨c3, c4, ⟨s3, c5, c6⟩, c7⟩ := HR_m2 j2 E2 n2 r3
  have i0 : ∀ t, isdn (clk σ) t = isdn σ t := isdn_k (clk_k (by decide)) (clk_k (by decide))
  have g0 : ∀ b, gk (clk σ) b = gk σ b := fun b => by unfold gk; rw [l_clk, clk_k (by decide)]
  have s0 : ∀ k ∈ stC, clk σ k = σ k := fun k m => clk_k ((by decide : ∀ k ∈ stC, k ≠ 39) k m)
  have st : ∀ {ρ ρ' : qS}, HR ρ ρ' → ∀ k ∈ stC, ρ' k = ρ k := fun hr k m => hr.2.1 k ((by decide : ∀ k ∈ stC, k ∈ hrK) k m)
  have mp : ∀ {ρ : qS}, (∀ k ∈ stC, ρ k = σ k) → (∀ b, isdn ρ b ≠ 0 → isdn σ' b ≠ 0) → mapd ρ → mapd σ' := fun {ρ} s1 s2 hm t t1 t2 t3 => by
    have hsp := spl_b j0.1
    rw [(st_c s0).1] at hsp
    rw [(st_c hst).1] at t2
    have h1 := hm t t1 (by rw [(st_c s1).1]; exact t2)
    refine s2 t ?_ ?_
    · unfold isdn
      rw [if_pos (by omega), if_neg h1]
      decide
    · unfold isdn
      rw [if_pos (by omega), if_pos t3]
  rw [l_clk] at q1 a4 a5 a7
  refine ⟨fun b hb => ?_, fun x hx => ?_, ⟨s1 ++ s2 ++ s3 ++ [], ⟨_, _, _, s1, s2, s3, [], a5, b5, c5, Or.inl ⟨rfl, rfl⟩, rfl⟩, ?_⟩, fun hn => ?_⟩
  · have e1 := a3 b (by rw [i0]; exact hb)
    have e2 := b3 b (n0 b (by rw [i0]; exact hb))
    have e3 := c3 b (n1 b (n0 b (by rw [i0]; exact hb)))
    rw [g0] at e1
    rw [bb]
    omega
  · obtain ⟨j, hj, hx⟩ := hx
    have hc : j = 0 ∨ j = 1 ∨ j = 2 := by omega
    rcases hc with rfl | rfl | rfl
    · rcases a4 x hx with e | ⟨e1, e2⟩ | ⟨e1, e2⟩
      · exact Or.inl e
      · exact Or.inr (Or.inl ⟨e1, n2 _ (n1 _ e2)⟩)
      · exact Or.inr (Or.inr ⟨e1, Or.inl e2⟩)
    · rcases b4 x (by rw [q1, List.getElem?_drop]; exact hx) with e | ⟨e1, e2⟩ | ⟨e1, e2⟩
      · exact Or.inl e
      · exact Or.inr (Or.inl ⟨e1, n2 _ e2⟩)
      · exact Or.inr (Or.inr ⟨e1, Or.inr (Or.inl e2)⟩)
    · rcases c4 x (by rw [q2, q1, List.getElem?_drop, List.getElem?_drop]; exact hx) with e | ⟨e1, e2⟩ | ⟨e1, e2⟩
      · exact Or.inl e
      · exact Or.inr (Or.inl ⟨e1, e2⟩)
      · exact Or.inr (Or.inr ⟨e1, Or.inr (Or.inr e2)⟩)
  · refine mem4 (fun x hx => ?_) (fun x hx => ?_) (fun x hx => ?_) (fun x hx => absurd hx (by simp))
    · exact ⟨(a6 x hx).1, fun e => mp s0 (fun b hb => n2 b (n1 b (n0 b hb))) ((a6 x hx).2.2 e)⟩
    · exact ⟨(b6 x hx).1, fun e => mp (fun k m => (st r1 k m).trans (s0 k m)) (fun b hb => n2 b (n1 b hb)) ((b6 x hx).2.2 e)⟩
    · exact ⟨(c6 x hx).1, fun e => mp (fun k m => (st r2 k m).trans ((st r1 k m).trans (s0 k m))) (fun b hb => n2 b hb) ((c6 x hx).2.2 e)⟩
  · have f1 := a7 (fun x hx => hn x ⟨0, by omega, hx⟩)
    have f2 := b7 (fun x hx => hn x ⟨1, by omega, by rw [q1, List.getElem?_drop] at hx; exact hx⟩)
    have f3 := c7 (fun x hx => hn x ⟨2, by omega, by rw [q2, q1, List.getElem?_drop, List.getElem?_drop] at hx; exact hx⟩)
    have f0 : (clk σ) 33 = σ 33 := clk_k (by decide)
    rw [f0] at f1
    exact ⟨f1, f2.trans f1, f3.trans (f2.trans f1)⟩
theorem MT_r {L : Nat} {τ s1 s2 : Nat → qS} (h : RNN L τ) (hc : CHN L τ s1 s2) (hn : NE L τ s1 s2) {t : Nat} (h1 : 224 ≤ t) (h2 : t < 7 * L) (h6 : t % 7 = 6) : (∀ b, isdn (τ t) b ≠ 0 → gk (τ (t + 1)) b + bk (τ (t + 1)) b ≤ gk (τ t) b + bk (τ t) b) ∧ (∀ x, HD3 x (ln (τ t)) → isK x = true ∨ (xw x 0 = 3 ∧ isdn (τ (t + 1)) (xw x 3) ≠ 0) ∨ (xw x 0 = 7 ∧ (¬ LKe (clk (τ t)) x ∨ ¬ LKe (s1 t) x ∨ ¬ LKe (s2 t) x))) ∧ (∃ s, TS 6 (ln (τ t)) (ln (τ (t + 1))) s ∧ ∀ x ∈ s, xw x 0 = 2 ∧ (38 ≤ xw x 2 → mapd (τ (t + 1)))) ∧ ((∀ x, HD3 x (ln (τ t)) → xw x 0 ≠ 3) → (s1 t) 33 = (τ t) 33 ∧ (s2 t) 33 = (τ t) 33 ∧ (τ (t + 1)) 33 = (τ t) 33) := by
  obtain ⟨r1, r2, r3, j0, j1, j2⟩ := hc t h2 h6
  obtain ⟨n0, n1, n2⟩ := hn t h2 h6
  rcases h.2 t h2 with ⟨e, -⟩ | ⟨-, hs⟩
  · omega
  · exact MT_m2 (run_ER h h1 (by omega)) (run_95 h (by omega) (by omega) (by omega)) hs r1 r2 r3 j0 j1 j2 n0 n1 n2
theorem run_nd2 {L : Nat} {τ s1 s2 : Nat → qS} (h : RNN L τ) (hn : NE L τ s1 s2) {t : Nat} (h2 : t < 7 * L) (b : Int) (hb : isdn (τ t) b ≠ 0) : isdn (τ (t + 1)) b ≠ 0 := by
  by_cases c : t % 7 = 6
  · obtain ⟨n0, n1, n2⟩ := hn t h2 c
    exact n2 b (n1 b (n0 b (by rw [isdn_k (clk_k (by decide)) (clk_k (by decide))]; exact hb)))
  · rcases h.2 t h2 with ⟨-, hs⟩ | ⟨e, -⟩
    · have k := WTK_j hs
      rw [isdn_k (k 33 (by decide)) (k 35 (by decide))]
      exact hb
    · omega
theorem run_nk2 {L : Nat} {τ s1 s2 : Nat → qS} (h : RNN L τ) (hn : NE L τ s1 s2) {t : Nat} (h1 : 224 ≤ t) (b : Int) (hb : isdn (τ t) b ≠ 0) : ∀ k, t + k ≤ 7 * L → isdn (τ (t + k)) b ≠ 0
  | 0, _ => hb
  | k + 1, h2 => run_nd2 h hn (t := t + k) (by omega) b (run_nk2 h hn h1 b hb k (by omega))
theorem win1b {L V : Nat} {τ s1 s2 : Nat → qS} (h : RNN L τ) (hs : ∀ t, t ≤ 7 * L → psame (τ 0) (τ t)) (hn : NE L τ s1 s2) (hL : 32 + 39 * V ≤ L) : ∃ a, 32 ≤ a ∧ a + V ≤ L ∧ ZC τ a (a + V) := by
  have mono : ∀ a b, 32 ≤ a → a ≤ b → b ≤ L → ∀ i, i < 38 → uu (τ (7 * b)) i = true → uu (τ (7 * a)) i = true := fun a b h1 h2 h3 i hi e => by
    rw [uu_d hi] at e ⊢
    apply Classical.byContradiction
    intro hq
    have := run_nk2 h hn (t := 7 * a) (by omega) i hq (7 * b - 7 * a) (by omega)
    rw [show 7 * a + (7 * b - 7 * a) = 7 * b by omega] at this
    exact this e
  obtain ⟨c, c1, c2, c3⟩ := dec_pig (f := fun r => (List.range 38).countP (uu (τ (7 * r)))) (V := V) 38 32 (fun i h1 h2 => cP_lt (mono i (i + 1) (by omega) (by omega) (by omega))) (by
    have := List.countP_le_length (p := uu (τ (7 * 32))) (l := List.range 38)
    rw [List.length_range] at this
    exact this)
  refine ⟨c, c1, by omega, fun t t1 t2 k k0 k1 => ?_⟩
  have up : ∀ k : Int, isdn (τ (7 * c)) k ≠ 0 → isdn (τ t) k ≠ 0 := fun k e => by
    have := run_nk2 h hn (t := 7 * c) (by omega) k e (t - 7 * c) (by omega)
    rw [show 7 * c + (t - 7 * c) = t by omega] at this
    exact this
  refine ⟨fun e => Classical.byContradiction (fun n => up k n e), fun e => Classical.byContradiction (fun n => ?_)⟩
  by_cases c38 : k < 38
  · have n2 := run_nk2 h hn (t := t) (by omega) k n (7 * (c + V) - t) (by omega)
    rw [show t + (7 * (c + V) - t) = 7 * (c + V) by omega] at n2
    have he := cP_eq (p := uu (τ (7 * (c + V)))) (q := uu (τ (7 * c))) (List.range 38) (fun x hx => mono c (c + V) (by omega) (by omega) (by omega) x (List.mem_range.mp hx)) c3 k.toNat (List.mem_range.mpr (by omega))
    have e1 : uu (τ (7 * c)) k.toNat = true := (uu_d (by omega)).mpr (by rw [show ((k.toNat : Nat) : Int) = k by omega]; exact e)
    rw [← he] at e1
    have := (uu_d (by omega)).mp e1
    rw [show ((k.toNat : Nat) : Int) = k by omega] at this
    exact n2 this
  · have d1 := (hs (7 * c) (by omega)).2.2.1 (k - 38).toNat (by omega)
    have d2 := (hs t (by omega)).2.2.1 (k - 38).toNat (by omega)
    rw [← d1] at d2
    unfold db at d2
    unfold isdn at e n
    rw [if_neg c38] at e n
    rw [show (((k - 38).toNat : Nat) : Int) = k - 38 by omega, e] at d2
    have d3 : decide (τ t 35 (k - 38) ≠ 0) = true := decide_eq_true n
    rw [d3] at d2
    exact absurd d2 (by decide)
theorem win2b {L V a : Nat} {τ s1 s2 : Nat → qS} (h : RNN L τ) (hc : CHN L τ s1 s2) (hn : NE L τ s1 s2) (h1 : 32 ≤ a) (hL : a + 4445 * V ≤ L) (hz : ZC τ a (a + 4445 * V)) : ∃ c, a ≤ c ∧ c + V ≤ a + 4445 * V ∧ ∀ t, 7 * c + 224 ≤ t → t ≤ 7 * (c + V) → ∀ x ∈ ln (τ t), xw x 0 = 3 → isdn (τ (7 * a)) (xw x 3) = 0 := by
  obtain ⟨S, hS⟩ := SNC_ex h
  have dn : ∀ t, 7 * a ≤ t → t < 7 * (a + 4445 * V) → ∀ b : Int, 0 ≤ b → isdn (τ (7 * a)) b ≠ 0 → (S t).countP (isD (τ 0 31 0) b) + (gk (τ (t + 1)) b + bk (τ (t + 1)) b) ≤ gk (τ t) b + bk (τ t) b := fun t t1 t2 b b0 hb => by
    obtain ⟨c1, c2, c3, c4, -⟩ := hS t (by omega)
    rw [run_era h (by omega)] at c2 c3
    by_cases c : t % 7 = 6
    · have nb : isdn (τ t) b ≠ 0 := by
        have := run_nk2 h hn (t := 7 * a) (by omega) b hb (t - 7 * a) (by omega)
        rw [show 7 * a + (t - 7 * a) = t by omega] at this
        exact this
      have g := (MT_r h hc hn (t := t) (by omega) (by omega) c).1 b nb
      have z : (S t).countP (isD (τ 0 31 0) b) = 0 := by
        rw [List.countP_eq_zero]
        intro x hx hp
        have e1 := c4 (by omega) x hx
        have e2 := (of_decide_eq_true hp).2.1
        omega
      omega
    · have g := c2 b b0
      have z := (c3 (by omega)).1 b
      omega
  have st : ∀ t, 7 * a ≤ t → t < 7 * (a + 4445 * V) → pt (τ (7 * a)) (τ (t + 1)) 44 + ds (τ (7 * a)) (τ 0 31 0) (S t) 44 ≤ pt (τ (7 * a)) (τ t) 44 := fun t t1 t2 => pt_s (dn t t1 t2) 44
  have le7 : ∀ i, a ≤ i → i < a + 4445 * V → pt (τ (7 * a)) (τ (7 * (i + 1))) 44 ≤ pt (τ (7 * a)) (τ (7 * i)) 44 := fun i i1 i2 => by
    have := dec_le (f := fun t => pt (τ (7 * a)) (τ t) 44) (a := 7 * i) (b := 0) 7 (fun j j1 j2 => by have := st j (by omega) (by omega); omega)
    rw [show 7 * (i + 1) = 7 * i + 7 by omega]
    exact this
  obtain ⟨c, c1, c2, c3⟩ := dec_pig (f := fun r => pt (τ (7 * a)) (τ (7 * r)) 44) (V := V) 4444 a (fun i i1 i2 => le7 i i1 (by omega)) (by
    have := pt_b (σ0 := τ (7 * a)) (run_95 h (t := 7 * a) (by omega) (by omega) (by omega)) 44
    omega)
  refine ⟨c, c1, by omega, fun t t1 t2 x hx x3 => ?_⟩
  have d0 : ∀ u, 7 * c ≤ u → u < 7 * (c + V) → ds (τ (7 * a)) (τ 0 31 0) (S u) 44 = 0 := fun u u1 u2 => by
    have g1 := dec_le (f := fun t => pt (τ (7 * a)) (τ t) 44) (a := 7 * c) (b := 0) (u - 7 * c) (fun j j1 j2 => by have := st j (by omega) (by omega); omega)
    have g2 := dec_le (f := fun t => pt (τ (7 * a)) (τ t) 44) (a := u + 1) (b := 0) (7 * (c + V) - (u + 1)) (fun j j1 j2 => by have := st j (by omega) (by omega); omega)
    have g3 := st u (by omega) (by omega)
    simp only [show 7 * c + (u - 7 * c) = u by omega, show u + 1 + (7 * (c + V) - (u + 1)) = 7 * (c + V) by omega] at g1 g2 c3
    omega
  apply Classical.byContradiction
  intro hq
  have gs := h.1 t (by omega)
  have hE := run_ER h (t := t) (by omega) (by omega) x hx
  have hL' := (gs.1.2.2.2.2.2.2.2.1 x hx).2 hE
  have hr : 0 ≤ xw x 3 ∧ xw x 3 < 44 := by
    have hp := gs.1.1.2.2.2.2.2.1
    rcases hL' with ⟨-, e⟩ | ⟨e0, e⟩
    · rcases e with ⟨e, -⟩ | ⟨-, e⟩ | ⟨e, -⟩ | ⟨e, -⟩
      · omega
      · rcases e.2 with e | e <;> omega
      · omega
      · omega
    · rcases e with ⟨e, -⟩ | ⟨e, -⟩ | ⟨e, -⟩ <;> omega
  have hs := old_gone h (SNC_d hS) (t - 224) 224 (by omega) (by omega)
  rw [show t - 224 + 224 = t by omega] at hs
  have key := sns_m (S := S) (t0 := t - 224) (P := fun y => isD (τ 0 31 0) (xw x 3) y = false) 224 (fun u u1 u2 y hy => by
    have z := ds_0 44 (d0 u (by omega) (by omega)) (xw x 3).toNat (by omega) (by rw [show (((xw x 3).toNat : Nat) : Int) = xw x 3 by omega]; exact hq)
    rw [show (((xw x 3).toNat : Nat) : Int) = xw x 3 by omega, List.countP_eq_zero] at z
    have := z y hy
    simpa using this) x (hs.subset hx)
  unfold isD at key
  rw [run_era h (by omega)] at hE
  exact of_decide_eq_false key ⟨hE, x3, rfl⟩
theorem gp_run2 {L : Nat} {τ s1 s2 : Nat → qS} (h : RNN L τ) (hc : CHN L τ s1 s2) (hn : NE L τ s1 s2) {t : Nat} (h1 : 448 ≤ t) (h2 : t ≤ 7 * L) (hu : ∀ u, t ≤ u + 224 → u ≤ t → UD (τ u)) : ¬ ∃ x ∈ ln (τ t), xw x 0 = 2 ∧ 38 ≤ xw x 2 := by
  have hex : ∀ t, ∃ s, t < 7 * L → TS ((t % 7 : Nat) : Int) (ln (τ t)) (ln (τ (t + 1))) s ∧ (224 ≤ t → ∀ x ∈ s, xw x 0 = 2 → 38 ≤ xw x 2 → mapd (τ (t + 1))) := fun t => by
    by_cases c : t < 7 * L
    · by_cases c2 : 224 ≤ t ∧ t % 7 = 6
      · obtain ⟨s, p1, p2⟩ := (MT_r h hc hn (t := t) (by omega) c c2.2).2.2.1
        rw [← show ((t % 7 : Nat) : Int) = 6 by omega] at p1
        exact ⟨s, fun _ => ⟨p1, fun _ x hx _ => (p2 x hx).2⟩⟩
      · obtain ⟨s, p1, p2⟩ := STP_7 (h.2 t c)
        exact ⟨s, fun _ => ⟨p1, fun e x hx e2 => by have := (p2 x hx).2 e2; omega⟩⟩
    · exact ⟨[], fun e => absurd e c⟩
  obtain ⟨S, hS⟩ := Classical.skolem.mp hex
  have hd : SND L τ S := fun t ht => (hS t ht).1
  have hs := old_gone h hd (t - 224) 224 (by omega) (by omega)
  rw [show t - 224 + 224 = t by omega] at hs
  rintro ⟨x, hx, e1, e2⟩
  refine sns_m (S := S) (t0 := t - 224) (P := fun y => ¬ (xw y 0 = 2 ∧ 38 ≤ xw y 2)) 224 (fun u u1 u2 y hy e => ?_) x (hs.subset hx) ⟨e1, e2⟩
  have hm := (hS u (by omega)).2 (by omega) y hy e.1 e.2
  exact UD_m (hu (u + 1) (by omega) (by omega)) hm

