def fgo (w : Int) (σ' : qS) : Prop := σ' 62 w = -1 ∧ σ' 64 w = 0 ∧ σ' 65 w = 0 ∧ σ' 66 w = 0
def acK : List Nat := [61, 63, 33, 34, 35, 54, 36, 37, 38, 39, 27, 31, 32, 30, 29, 10, 11, 2, 13]
def kpK (σ σ' : qS) : Prop := σ' 56 = σ 56 ∧ σ' 40 = σ 40
def TL (to ty a b c d : Int) (σ σ' : qS) : Prop := ∃ kv : List Pr, ln σ' = tl95 (ln σ) ++ [(to, [ty, σ 31 0, a, b, c, d], kv)]
def ACT (w : Int) (σ σ' : qS) : Prop := LT0 σ' ∧ oth w σ σ' ∧ (∀ k ∈ acK, σ' k = σ k) ∧
  ((σ 62 w = -1 ∧ kpK σ σ' ∧ σ' 62 w = -1 ∧ σ' 65 w = (if σ 65 w = 5 then 0 else σ 65 w + 1) ∧ ((σ 65 w = 0 ∧ TL 6 1 w 0 0 0 σ σ') ∨ (σ 65 w ≠ 0 ∧ ln σ' = ln σ))) ∨
   ((0 ≤ σ 62 w ∧ σ 62 w < spl σ) ∧
     ((σ 56 (w * 38 + σ 62 w) ≠ -1 ∧ kpK σ σ' ∧ fgo w σ' ∧ ∃ c, TL 6 3 w (σ 62 w) c 0 σ σ') ∨
      (σ 56 (w * 38 + σ 62 w) = -1 ∧ fgo w σ' ∧ σ' 40 = σ 40 ∧ (∃ c, TL 6 3 w (σ 62 w) c 0 σ σ') ∧ (∀ j, j ≠ w * 38 + σ 62 w → σ' 56 j = σ 56 j) ∧ σ' 56 (w * 38 + σ 62 w) ≠ -1) ∨
      (σ 56 (w * 38 + σ 62 w) = -1 ∧ kpK σ σ' ∧ fgo w σ' ∧ TL 6 4 (σ 62 w) 0 0 0 σ σ') ∨
      (σ 56 (w * 38 + σ 62 w) = -1 ∧ kpK σ σ' ∧ σ' 62 w = σ 62 w ∧ σ 64 w < 16 ∧ σ' 64 w = σ 64 w + 1 ∧ ln σ' = ln σ))) ∨
   (38 ≤ σ 62 w ∧
     ((σ 40 (σ 62 w - 38) = σ 31 0 ∧ kpK σ σ' ∧ fgo w σ' ∧ TL 6 3 w (σ 62 w) 0 0 σ σ') ∨
      (σ 40 (σ 62 w - 38) ≠ σ 31 0 ∧ σ 64 w < spl σ ∧ σ 33 (σ 64 w) = -1 ∧ kpK σ σ' ∧ fgo w σ' ∧ ln σ' = ln σ) ∨
      (σ 40 (σ 62 w - 38) ≠ σ 31 0 ∧ σ 64 w < spl σ ∧ σ 33 (σ 64 w) ≠ -1 ∧ (σ 65 w ≠ 0 ∧ σ 65 w ≤ 12) ∧ kpK σ σ' ∧ ln σ' = ln σ ∧ σ' 62 w = σ 62 w ∧ σ' 64 w = σ 64 w ∧ σ' 66 w = σ 66 w ∧ ps σ' w = ps σ w ∧ σ' 65 w = σ 65 w + 1) ∨
      (σ 40 (σ 62 w - 38) ≠ σ 31 0 ∧ σ 64 w < spl σ ∧ σ 33 (σ 64 w) ≠ -1 ∧ (σ 65 w = 0 ∨ σ 65 w = 13) ∧ kpK σ σ' ∧ σ' 62 w = σ 62 w ∧ σ' 64 w = σ 64 w ∧ ps σ' w = ps σ w ∧ σ' 65 w = 1 ∧
        ((σ 66 w ≠ 11 ∧ σ' 66 w = σ 66 w + 1 ∧ TL (σ 33 (σ 64 w)) 5 (σ 64 w) (σ 62 w - 38) (ps σ w) w σ σ') ∨
         (σ 66 w = 11 ∧ σ' 66 w = 0 ∧ ∃ kv kv' : List Pr, ln σ' = tl95 (tl95 (ln σ) ++ [(σ 33 (σ 64 w), [5, σ 31 0, σ 64 w, σ 62 w - 38, ps σ w, w], kv)]) ++ [(6, [7, σ 31 0, σ 64 w, σ 33 (σ 64 w), 0, 0], kv')]))) ∨
      (σ 40 (σ 62 w - 38) ≠ σ 31 0 ∧ σ 64 w = spl σ ∧ fgo w σ' ∧ σ' 56 = σ 56 ∧
        ((σ' 40 (σ 62 w - 38) = σ 31 0 ∧ (∀ j, j ≠ σ 62 w - 38 → σ' 40 j = σ 40 j) ∧ TL 6 3 w (σ 62 w) 0 0 σ σ') ∨ (σ' 40 = σ 40 ∧ TL 6 4 (σ 62 w) 0 0 0 σ σ'))))))
def lcL : List Nat := [44, 45, 46, 47, 48, 49, 50]
theorem tell_eff {to ty a b c d : Int} {σ σ1 : qS} (h0 : LT0 σ) (h : Q_M_tell to ty a b c d σ σ1) : LT0 σ1 ∧ TL to ty a b c d σ σ1 ∧ ∀ k, k ∉ lcL → σ1 k = σ k := by
  obtain ⟨q1, q2, q3, q4, kv, q5, q6⟩ := h
  exact ⟨LT0_u h0 q3 q4, ⟨kv, tld_L h0 q6 rfl⟩, q1⟩
def dnL : List Nat := lcL ++ fgL
theorem fgt_eff {σ : qS} {w : Int} : fgo w (fgt σ w) := by
  obtain ⟨v1, v2, v3, v4, -⟩ := fgt_v σ w
  exact ⟨v1, v2, v3, v4⟩
theorem tf_eff {to ty a b c d w : Int} {σ σ' : qS} (h0 : LT0 σ) (h : ∃ σ1, Q_M_tell to ty a b c d σ σ1 ∧ σ' = fgt σ1 w) : LT0 σ' ∧ oth w σ σ' ∧ fgo w σ' ∧ TL to ty a b c d σ σ' ∧ ∀ k, k ∉ dnL → σ' k = σ k := by
  obtain ⟨σ1, q, rfl⟩ := h
  obtain ⟨t1, ⟨kv, t2⟩, t3⟩ := tell_eff h0 q
  have hk : ∀ k, k ∉ fgL → fgt σ1 w k = σ1 k := fun k m => fgt_F m
  refine ⟨LT0_k t1 (fun k m => hk k ((by decide : ∀ k ∈ [49, 50], k ∉ fgL) k m)), (oth.of t3 (by decide)).tr (oth.fgt w σ1), fgt_eff, ⟨kv, ?_⟩, fun k m => ?_⟩
  · rw [ln_k (fun k m => hk k ((by decide : ∀ k ∈ [48, 44, 45, 46, 47], k ∉ fgL) k m)), t2]
  · unfold dnL at m
    simp only [List.mem_append, not_or] at m
    rw [hk k m.2, t3 k m.1]
theorem TL_k {to ty a b c d : Int} {σ σ1 σ' : qS} (h : TL to ty a b c d σ1 σ') (h1 : ln σ1 = ln σ) (h2 : σ1 31 = σ 31) : TL to ty a b c d σ σ' := by
  obtain ⟨kv, h⟩ := h
  exact ⟨kv, by rw [h, h1, h2]⟩
theorem maps_eff {σ σ' : qS} {w : Int} (hj : jobok σ) (h0 : LT0 σ) (hd : DK σ w) (hm : WMp σ w) (hq : Q_M_maps w σ σ') : ACT w σ σ' := by
  have hsp := spl_b hj
  obtain ⟨m1, m2, E, m3, m4, m5⟩ := hm
  have mpo : ∀ {σ1 : qS}, F_mp w σ σ1 → oth w σ σ1 ∧ LT0 σ1 ∧ ln σ1 = ln σ ∧ (∀ k ∈ acK, σ1 k = σ k) ∧ kpK σ σ1 ∧ σ1 62 = σ 62 ∧ σ1 55 = σ 55 := fun {σ1} f => by
    have sub : ∀ {S : List Nat}, (∀ k ∈ S, k ∉ SC ∧ k ∉ 64 :: MB) → ∀ k ∈ S, σ1 k = σ k := fun hS k m => f.1 k (hS k m).1 (hS k m).2
    refine ⟨⟨fun v hv k hk => ?_, fun i _ => by rw [f.1 76 (by decide) (by decide)], fun i _ => by rw [f.1 56 (by decide) (by decide)]⟩, LT0_k h0 (sub (by decide)), ln_k (sub (by decide)), sub (by decide), ⟨f.1 _ (by decide) (by decide), f.1 _ (by decide) (by decide)⟩, f.1 _ (by decide) (by decide), f.1 _ (by decide) (by decide)⟩
    by_cases e : k = 64
    · subst e; exact f.2.1 v hv
    · rw [sub (S := [61, 62, 63, 65, 66, 75, 54]) (by decide) k (by
        revert hk
        simp only [List.mem_cons, List.not_mem_nil, or_false]
        omega)]
  have trp : ∀ {σ1 : qS}, oth w σ σ1 → LT0 σ1 → ln σ1 = ln σ → (∀ k ∈ acK, σ1 k = σ k) → kpK σ σ1 → σ1 62 = σ 62 → Q_M_traps w σ1 σ' → σ 56 (w * 38 + σ 62 w) = -1 → ACT w σ σ' := fun {σ1} g1 g2 g3 g4 g5 g6 c hk => by
    obtain ⟨e1, e2, e3, e4, e5⟩ := tf_eff g2 c
    rw [g6] at e4
    exact ⟨e1, g1.tr e2, fun k m => (e5 k ((by decide : ∀ k ∈ acK, k ∉ dnL) k m)).trans (g4 k m), Or.inr (Or.inl ⟨m1, Or.inr (Or.inr (Or.inl ⟨hk, ⟨(e5 _ (by decide)).trans g5.1, (e5 _ (by decide)).trans g5.2⟩, e3, TL_k e4 g3 (g4 _ (by decide))⟩))⟩)⟩
  rcases hq with ⟨q1, q2⟩ | ⟨q1, q2, q3⟩ | ⟨q1, q2, q3⟩
  · obtain ⟨e1, e2, e3, e4, e5⟩ := tf_eff h0 q2
    exact ⟨e1, e2, fun k m => e5 k ((by decide : ∀ k ∈ acK, k ∉ dnL) k m), Or.inr (Or.inl ⟨m1, Or.inl ⟨q1, ⟨e5 _ (by decide), e5 _ (by decide)⟩, e3, _, e4⟩⟩)⟩
  · obtain ⟨σ1, f1, c⟩ := q3 E m3
    obtain ⟨g1, g2, g3, g4, g5, g6, g7⟩ := mpo f1
    rcases c with ⟨out, σ2, c1, c2, c3, c4⟩ | ⟨c1, σ2, c3, c4⟩
    · have sub : ∀ {S : List Nat}, (∀ k ∈ S, k ∉ SC ∧ k ∉ [59, 60, 55, 56, 57, 58]) → ∀ k ∈ S, σ2 k = σ1 k := fun hS k m => c3.1 k (hS k m).1 (hS k m).2
      have k2 := c3.2.2.2.2.1
      have ho : oth w σ1 σ2 := by
        refine ⟨fun v _ k hk => ?_, fun i _ => by rw [c3.1 76 (by decide) (by decide)], fun i hi => ?_⟩
        · rw [sub (S := [61, 62, 63, 64, 65, 66, 75, 54]) (by decide) k hk]
        · rw [k2, if_neg (by omega)]
      obtain ⟨e1, e2, e3, e4, e5⟩ := tf_eff (LT0_k g2 (sub (by decide))) c4
      have eL : ln σ2 = ln σ := (ln_k (sub (by decide))).trans g3
      have eE : σ2 31 = σ 31 := (c3.1 _ (by decide) (by decide)).trans (g4 _ (by decide))
      refine ⟨e1, (g1.tr ho).tr e2, fun k m => (e5 k ((by decide : ∀ k ∈ acK, k ∉ dnL) k m)).trans ((sub (S := acK) (by decide) k m).trans (g4 k m)), Or.inr (Or.inl ⟨m1, Or.inr (Or.inl ⟨q1, e3, ?_, ⟨_, TL_k e4 eL eE⟩, fun j hj => ?_, ?_⟩)⟩)⟩
      · exact (e5 _ (by decide)).trans ((c3.1 _ (by decide) (by decide)).trans g5.2)
      · rw [e5 _ (by decide), k2, if_neg hj, g5.1]
      · rw [e5 _ (by decide), k2, if_pos rfl, g7]
        have := hd.1
        omega
    · have sub : ∀ {S : List Nat}, (∀ k ∈ S, k ∉ SC ∧ k ∉ [59, 60]) → ∀ k ∈ S, σ2 k = σ1 k := fun hS k m => c3.1 k (hS k m).1 (hS k m).2
      exact trp (g1.tr (oth.k (sub (by decide)))) (LT0_k g2 (sub (by decide))) ((ln_k (sub (by decide))).trans g3) (fun k m => (sub (S := acK) (by decide) k m).trans (g4 k m)) ⟨(c3.1 _ (by decide) (by decide)).trans g5.1, (c3.1 _ (by decide) (by decide)).trans g5.2⟩ ((c3.1 _ (by decide) (by decide)).trans g6) c4 q1
  · rcases q3 with ⟨c1, σ1, f1, c2⟩ | ⟨em, c1, f1, c2, c3⟩
    · obtain ⟨g1, g2, g3, g4, g5, g6, g7⟩ := mpo f1
      exact trp g1 g2 g3 g4 g5 g6 c2 q1
    · obtain ⟨g1, g2, g3, g4, g5, g6, g7⟩ := mpo f1
      exact ⟨g2, g1, g4, Or.inr (Or.inl ⟨m1, Or.inr (Or.inr (Or.inr ⟨q1, g5, by rw [g6], q2.1, c2, g3⟩))⟩)⟩
theorem asks_eff {σ σ' : qS} {w : Int} (h0 : LT0 σ) (ht : σ 62 w = -1) (hq : Q_M_asks w σ σ') : ACT w σ σ' := by
  obtain ⟨σ1, q, rfl⟩ := hq
  rcases q with ⟨q1, q2⟩ | ⟨q1, rfl⟩
  · obtain ⟨t1, ⟨kv, t2⟩, t3⟩ := tell_eff h0 q2
    have hk : ∀ k, k ≠ 65 → su σ1 65 w (if σ 65 w = 5 then 0 else σ 65 w + 1) k = σ1 k := fun k m => su_k m
    refine ⟨LT0_k t1 (fun k m => hk k ((by decide : ∀ k ∈ [49, 50], k ≠ 65) k m)), (oth.of t3 (by decide)).tr (oth.su (by decide)), fun k m => (hk k ((by decide : ∀ k ∈ acK, k ≠ 65) k m)).trans (t3 k ((by decide : ∀ k ∈ acK, k ∉ lcL) k m)), Or.inl ⟨ht, ⟨?_, ?_⟩, ?_, by rw [su_s], Or.inl ⟨q1, kv, ?_⟩⟩⟩
    · rw [hk _ (by decide), t3 _ (by decide)]
    · rw [hk _ (by decide), t3 _ (by decide)]
    · rw [hk _ (by decide), t3 _ (by decide)]; exact ht
    · rw [ln_k (fun k m => hk k ((by decide : ∀ k ∈ [48, 44, 45, 46, 47], k ≠ 65) k m)), t2]
  · have hk : ∀ k, k ≠ 65 → su σ1 65 w (if σ1 65 w = 5 then 0 else σ1 65 w + 1) k = σ1 k := fun k m => su_k m
    refine ⟨LT0_k h0 (fun k m => hk k ((by decide : ∀ k ∈ [49, 50], k ≠ 65) k m)), oth.su (by decide), fun k m => hk k ((by decide : ∀ k ∈ acK, k ≠ 65) k m), Or.inl ⟨ht, ⟨hk _ (by decide), hk _ (by decide)⟩, ?_, by rw [su_s], Or.inr ⟨q1, ?_⟩⟩⟩
    · rw [hk _ (by decide)]; exact ht
    · rw [ln_k (fun k m => hk k ((by decide : ∀ k ∈ [48, 44, 45, 46, 47], k ≠ 65) k m))]
theorem red_eff {σ σ' : qS} {w : Int} (hj : jobok σ) (hw : 0 ≤ w ∧ w < 6) (h0 : LT0 σ) (hr : WRd σ w) (hq : Q_M_reduces w σ σ') : ACT w σ σ' := by
  have hb := WR_b hj hr
  have a1 := hr.1
  have a3 := hr.2.2.1
  have a4 := hr.2.2.2.1
  have hpt := hj.2.2.2.2.2.1
  have L5 : ∀ k ∈ [48, 44, 45, 46, 47], k ∉ atL := by decide
  rcases hq with ⟨q1, q2⟩ | ⟨q1, q2, q3, rfl⟩ | ⟨q1, q2, q3, q4, rfl⟩ | ⟨q1, q2, q3, q4, σ1, q5, q6⟩ | ⟨q1, q2, q3⟩
  · obtain ⟨e1, e2, e3, e4, e5⟩ := tf_eff h0 q2
    exact ⟨e1, e2, fun k m => e5 k ((by decide : ∀ k ∈ acK, k ∉ dnL) k m), Or.inr (Or.inr ⟨a1.1, Or.inl ⟨q1, ⟨e5 _ (by decide), e5 _ (by decide)⟩, e3, e4⟩⟩)⟩
  · have sub : ∀ {S : List Nat}, (∀ k ∈ S, k ∉ fgL) → ∀ k ∈ S, fgt σ w k = σ k := fun hS k m => fgt_F (hS k m)
    exact ⟨LT0_k h0 (sub (by decide)), oth.fgt w σ, sub (by decide), Or.inr (Or.inr ⟨a1.1, Or.inr (Or.inl ⟨q1, q2, q3, ⟨fgt_F (by decide), fgt_F (by decide)⟩, fgt_eff, ln_k (sub (by decide))⟩)⟩)⟩
  · have hF : ∀ k, k ∉ atL → su σ 65 w (σ 65 w + 1) k = σ k := fun k m => su_k (by intro e; subst e; exact m (by decide))
    have sub : ∀ {S : List Nat}, (∀ k ∈ S, k ∉ atL) → ∀ k ∈ S, su σ 65 w (σ 65 w + 1) k = σ k := fun hS k m => hF k (hS k m)
    exact ⟨LT0_k h0 (sub (by decide)), oth.su (by decide), sub (by decide), Or.inr (Or.inr ⟨a1.1, Or.inr (Or.inr (Or.inl ⟨q1, q2, q3, q4, ⟨hF _ (by decide), hF _ (by decide)⟩, ln_k (sub (by decide)), by rw [hF _ (by decide)], by rw [hF _ (by decide)], by rw [su_k (by decide)], ps_k (sub (by decide)), by rw [su_s]⟩))⟩)⟩
  · obtain ⟨t1, ⟨kv, t2⟩, t3⟩ := tell_eff h0 q5
    have q4' : σ 65 w = 0 ∨ σ 65 w = 13 := by omega
    rcases q6 with ⟨c1, rfl⟩ | ⟨c1, σ2, c2, rfl⟩
    · have hF : ∀ k, k ∉ atL → su (su σ1 66 w (σ 66 w + 1)) 65 w 1 k = σ1 k := fun k m => by rw [su_k (by intro e; subst e; exact m (by decide)), su_k (by intro e; subst e; exact m (by decide))]
      have sub : ∀ {S : List Nat}, (∀ k ∈ S, k ∉ atL) → ∀ k ∈ S, su (su σ1 66 w (σ 66 w + 1)) 65 w 1 k = σ1 k := fun hS k m => hF k (hS k m)
      refine ⟨LT0_k t1 (sub (by decide)), ((oth.of t3 (by decide)).tr (oth.su (by decide))).tr (oth.su (by decide)), fun k m => (sub (by decide) k m).trans (t3 k ((by decide : ∀ k ∈ acK, k ∉ lcL) k m)), Or.inr (Or.inr ⟨a1.1, Or.inr (Or.inr (Or.inr (Or.inl ⟨q1, q2, q3, q4', ⟨?_, ?_⟩, ?_, ?_, ?_, by rw [su_s], Or.inl ⟨by omega, ?_, kv, ?_⟩⟩)))⟩)⟩
      · rw [hF _ (by decide), t3 _ (by decide)]
      · rw [hF _ (by decide), t3 _ (by decide)]
      · rw [hF _ (by decide), t3 _ (by decide)]
      · rw [hF _ (by decide), t3 _ (by decide)]
      · rw [ps_k (sub (by decide)), ps_k (fun k m => t3 k ((by decide : ∀ k ∈ [75, 76, 64], k ∉ lcL) k m))]
      · rw [su_k (by decide), su_s]
      · rw [ln_k (sub (by decide)), t2]; rfl
    · have hF : ∀ k, k ∉ atL → su (su σ1 65 w 0) 66 w 12 k = σ1 k := fun k m => by rw [su_k (by intro e; subst e; exact m (by decide)), su_k (by intro e; subst e; exact m (by decide))]
      have sub : ∀ {S : List Nat}, (∀ k ∈ S, k ∉ atL) → ∀ k ∈ S, su (su σ1 65 w 0) 66 w 12 k = σ1 k := fun hS k m => hF k (hS k m)
      obtain ⟨u1, ⟨kv', u2⟩, u3⟩ := tell_eff (LT0_k t1 (sub (by decide))) c2
      have hF2 : ∀ k, k ∉ atL → su (su σ2 66 w 0) 65 w 1 k = σ2 k := fun k m => by rw [su_k (by intro e; subst e; exact m (by decide)), su_k (by intro e; subst e; exact m (by decide))]
      have sub2 : ∀ {S : List Nat}, (∀ k ∈ S, k ∉ atL) → ∀ k ∈ S, su (su σ2 66 w 0) 65 w 1 k = σ2 k := fun hS k m => hF2 k (hS k m)
      have all : ∀ k, k ∉ atL → k ∉ lcL → su (su σ2 66 w 0) 65 w 1 k = σ k := fun k m1 m2 => by rw [hF2 k m1, u3 k m2, hF k m1, t3 k m2]
      have ho : oth w σ (su (su σ2 66 w 0) 65 w 1) := by
        refine (((oth.of t3 (by decide)).tr ((oth.su (by decide)).tr (oth.su (by decide)))).tr (oth.of u3 (by decide))).tr ((oth.su (by decide)).tr (oth.su (by decide)))
      refine ⟨LT0_k u1 (sub2 (by decide)), ho, fun k m => all k ((by decide : ∀ k ∈ acK, k ∉ atL) k m) ((by decide : ∀ k ∈ acK, k ∉ lcL) k m), Or.inr (Or.inr ⟨a1.1, Or.inr (Or.inr (Or.inr (Or.inl ⟨q1, q2, q3, q4', ⟨all _ (by decide) (by decide), all _ (by decide) (by decide)⟩, ?_, ?_, ?_, by rw [su_s], Or.inr ⟨by omega, ?_, kv, kv', ?_⟩⟩)))⟩)⟩
      · rw [all _ (by decide) (by decide)]
      · rw [all _ (by decide) (by decide)]
      · exact ps_k (fun k m => all k ((by decide : ∀ k ∈ [75, 76, 64], k ∉ atL) k m) ((by decide : ∀ k ∈ [75, 76, 64], k ∉ lcL) k m))
      · rw [su_k (by decide), su_s]
      · rw [ln_k (sub2 (by decide)), u2, ln_k (sub (by decide)), t2, hF 31 (by decide), t3 31 (by decide)]; rfl
  · have es : σ 64 w = spl σ := by omega
    rcases q3 with ⟨out, σ1, c1, c2, c3, c4⟩ | ⟨c1, σ1, c3, c4⟩
    · have sub : ∀ {S : List Nat}, (∀ k ∈ S, k ∉ SC ∧ k ∉ [42, 43, 41, 40]) → ∀ k ∈ S, σ1 k = σ k := fun hS k m => c3.1 k (hS k m).1 (hS k m).2
      obtain ⟨e1, e2, e3, e4, e5⟩ := tf_eff (LT0_k h0 (sub (by decide))) c4
      refine ⟨e1, (oth.k (sub (by decide))).tr e2, fun k m => (e5 k ((by decide : ∀ k ∈ acK, k ∉ dnL) k m)).trans (sub (by decide) k m), Or.inr (Or.inr ⟨a1.1, Or.inr (Or.inr (Or.inr (Or.inr ⟨q1, es, e3, ?_, Or.inl ⟨?_, fun j hj => ?_, ?_⟩⟩)))⟩)⟩
      · exact (e5 _ (by decide)).trans (c3.1 _ (by decide) (by decide))
      · rw [e5 _ (by decide), c3.2.2.2.2, if_pos rfl]
      · rw [e5 _ (by decide), c3.2.2.2.2, if_neg hj]
      · exact TL_k e4 (ln_k (sub (by decide))) (c3.1 _ (by decide) (by decide))
    · have sub : ∀ {S : List Nat}, (∀ k ∈ S, k ∉ SC ∧ k ∉ [42, 43]) → ∀ k ∈ S, σ1 k = σ k := fun hS k m => c3.1 k (hS k m).1 (hS k m).2
      obtain ⟨e1, e2, e3, e4, e5⟩ := tf_eff (LT0_k h0 (sub (by decide))) c4
      rw [c3.1 62 (by decide) (by decide)] at e4
      exact ⟨e1, (oth.k (sub (by decide))).tr e2, fun k m => (e5 k ((by decide : ∀ k ∈ acK, k ∉ dnL) k m)).trans (sub (by decide) k m), Or.inr (Or.inr ⟨a1.1, Or.inr (Or.inr (Or.inr (Or.inr ⟨q1, es, e3, (e5 _ (by decide)).trans (c3.1 _ (by decide) (by decide)), Or.inr ⟨(e5 _ (by decide)).trans (c3.1 _ (by decide) (by decide)), TL_k e4 (ln_k (sub (by decide))) (c3.1 _ (by decide) (by decide))⟩⟩)))⟩)⟩
def WTK (w : Int) (σ σ' : qS) : Prop := ∃ σ1 σ2 σ3, RD w σ σ1 ∧ RD w σ1 σ2 ∧ RD w σ2 σ3 ∧ ACT w σ3 σ' ∧ (JI False (-1) σ1 ∧ JI False (-1) σ2 ∧ JI False (-1) σ3 ∧ JI False (-1) σ') ∧ AW σ1 w ∧ AW σ2 w ∧ AW σ3 w ∧ AW σ' w
theorem wkr_eff {σ σ' : qS} {w : Int} (h : JI False (-1) σ) (hw : 0 ≤ w ∧ w < 6) (ha : AW σ w) (h0 : LT0 σ) (hq : Q_M_worker w σ σ') : WTK w σ σ' := by
  have hJ := (wkr_ok h hw).2 σ' hq
  obtain ⟨σ1, σ2, σ3, q1, q2, q3, q4⟩ := hq
  rw [wk1_id ha] at q1
  have r1 := ltr_eff h hw ha h0 q1
  obtain ⟨a1, a2⟩ := ltr_ok h hw ha q1
  have r2 := ltr_eff a1 hw a2 r1.1 q2
  obtain ⟨b1, b2⟩ := ltr_ok a1 hw a2 q2
  have r3 := ltr_eff b1 hw b2 r2.1 q3
  obtain ⟨c1, c2⟩ := ltr_ok b1 hw b2 q3
  have hW := c1.2.2.2.2.2.2.2.2.1 w hw.1 hw.2 (by omega) c2.1
  have hA : ACT w σ3 σ' := by
    rcases q4 with ⟨e, q⟩ | ⟨e1, e2, q⟩ | ⟨e, q⟩
    · exact asks_eff r3.1 e q
    · have e0 : 0 ≤ σ3 62 w := by
        rcases hW with ⟨e, -⟩ | ⟨x1, x2, x3⟩
        · omega
        · rcases x3 (c2.2.2 x1) with hm | hr
          · exact hm.1.1
          · have := hr.1; omega
      exact maps_eff c1.1 r3.1 (c1.2.2.2.1 w hw.1 hw.2 c2.2.1) (mp_P c1 hw c2 e0 e2).1 q
    · exact red_eff c1.1 hw r3.1 (rd_P2 c1 hw c2 e).1 q
  refine ⟨σ1, σ2, σ3, r1, r2, r3, hA, ⟨a1, b1, c1, hJ⟩, a2, b2, c2, ?_⟩
  have k := hA.2.2.1
  refine ⟨by rw [k 61 (by decide)]; exact c2.1, by rw [k 54 (by decide), k 31 (by decide)]; exact c2.2.1, fun ht => ?_⟩
  rw [k 63 (by decide), k 31 (by decide)]
  refine c2.2.2 (fun e => ht ?_)
  rcases hA.2.2.2 with ⟨-, -, x, -⟩ | ⟨⟨x, -⟩, -⟩ | ⟨x, -⟩
  · exact x
  · omega
  · omega

