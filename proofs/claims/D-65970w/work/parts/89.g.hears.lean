def gOk (σ : qS) (w t : Int) : Prop := isdn σ t = 0 ∧ (σ 37 t = w ∨ σ 37 t = -1 ∨ 25 < z_sub (σ 39 0) (σ 38 t))
def gNo (σ : qS) (w t : Int) : Prop := isdn σ t ≠ 0 ∨ (σ 37 t ≠ w ∧ σ 37 t ≠ -1 ∧ ¬ 25 < z_sub (σ 39 0) (σ 38 t))
def gI (σ : qS) (w : Int) (x : Int × Int × Int) : Prop := (x.1 = -1 ∨ gOk σ w x.1) ∧ (x.2.1 = -1 ∨ gOk σ w x.2.1) ∧ (x.2.2 = -1 ∨ gOk σ w x.2.2)
theorem gst_I {σ : qS} {w t : Int} {x : Int × Int × Int} (h : gI σ w x) : gI σ w (gst σ w t x) := by
  unfold gst
  split
  · exact h
  · rename_i hd
    have hd' : isdn σ t = 0 := by omega
    refine ⟨?_, ?_, ?_⟩
    · show (if σ 37 t = w ∧ x.1 = -1 then t else x.1) = -1 ∨ gOk σ w (if σ 37 t = w ∧ x.1 = -1 then t else x.1)
      split
      · rename_i c; exact Or.inr ⟨hd', Or.inl c.1⟩
      · exact h.1
    · show (if σ 37 t = -1 ∧ x.2.1 = -1 then t else x.2.1) = -1 ∨ gOk σ w (if σ 37 t = -1 ∧ x.2.1 = -1 then t else x.2.1)
      split
      · rename_i c; exact Or.inr ⟨hd', Or.inr (Or.inl c.1)⟩
      · exact h.2.1
    · show (if σ 37 t ≠ -1 ∧ 25 < z_sub (σ 39 0) (σ 38 t) ∧ (x.2.2 = -1 ∨ σ 38 t < σ 38 x.2.2) then t else x.2.2) = -1 ∨ gOk σ w (if σ 37 t ≠ -1 ∧ 25 < z_sub (σ 39 0) (σ 38 t) ∧ (x.2.2 = -1 ∨ σ 38 t < σ 38 x.2.2) then t else x.2.2)
      split
      · rename_i c; exact Or.inr ⟨hd', Or.inr (Or.inr c.2.1)⟩
      · exact h.2.2
def g3 (x : Int × Int × Int) : Prop := x.1 = -1 ∧ x.2.1 = -1 ∧ x.2.2 = -1
theorem gst_N {σ : qS} {w t : Int} (ht : 0 ≤ t) {x : Int × Int × Int} (h : g3 (gst σ w t x)) : g3 x ∧ gNo σ w t := by
  unfold gst at h
  split at h
  · rename_i hd; exact ⟨h, Or.inl hd⟩
  · rename_i hd
    obtain ⟨h1, h2, h3⟩ := h
    simp only at h1 h2 h3
    have e1 : x.1 = -1 ∧ σ 37 t ≠ w := by
      split at h1
      · omega
      · rename_i c; exact ⟨h1, fun e => c ⟨e, h1⟩⟩
    have e2 : x.2.1 = -1 ∧ σ 37 t ≠ -1 := by
      split at h2
      · omega
      · rename_i c; exact ⟨h2, fun e => c ⟨e, h2⟩⟩
    have e3 : x.2.2 = -1 ∧ ¬ 25 < z_sub (σ 39 0) (σ 38 t) := by
      split at h3
      · omega
      · rename_i c; exact ⟨h3, fun e => c ⟨e2.2, e, Or.inl h3⟩⟩
    exact ⟨⟨e1.1, e2.1, e3.1⟩, Or.inr ⟨e1.2, e2.2, e3.2⟩⟩
theorem gfl_I {σ : qS} {w : Int} : ∀ (n : Nat) (t : Int) (x : Int × Int × Int), gI σ w x → gI σ w (gfl σ w n t x)
  | 0, _, _, h => h
  | n + 1, t, x, h => gfl_I n (t + 1) _ (gst_I h)
theorem gfl_N {σ : qS} {w : Int} : ∀ (n : Nat) (t : Int) (x : Int × Int × Int), 0 ≤ t → g3 (gfl σ w n t x) → g3 x ∧ ∀ u, t ≤ u → u < t + n → gNo σ w u
  | 0, t, x, _, h => ⟨h, fun u _ _ => by omega⟩
  | n + 1, t, x, ht, h => by
    obtain ⟨h1, h2⟩ := gfl_N n (t + 1) _ (by omega) h
    obtain ⟨h3, h4⟩ := gst_N ht h1
    refine ⟨h3, fun u u0 u1 => ?_⟩
    by_cases e : u = t
    · rw [e]; exact h4
    · exact h2 u (by omega) (by omega)
theorem gch_ok {σ : qS} {w fi en : Int} (h : gch σ w fi en ≠ -1) : gOk σ w (gch σ w fi en) := by
  obtain ⟨h1, h2, h3⟩ := gfl_I (σ := σ) (w := w) (en - fi).toNat fi (-1, -1, -1) ⟨Or.inl rfl, Or.inl rfl, Or.inl rfl⟩
  revert h
  unfold gch gpk
  intro h
  split
  · rename_i c
    rcases h1 with e | e
    · exact absurd e c
    · exact e
  · rename_i c
    rw [if_neg c] at h
    split
    · rename_i c2
      rcases h2 with e | e
      · exact absurd e c2
      · exact e
    · rename_i c2
      rw [if_neg c2] at h
      rcases h3 with e | e
      · exact absurd e h
      · exact e
theorem gch_no {σ : qS} {w fi en : Int} (h0 : 0 ≤ fi) (h : gch σ w fi en = -1) : ∀ u, fi ≤ u → u < en → gNo σ w u := by
  have hg : g3 (gfl σ w (en - fi).toNat fi (-1, -1, -1)) := by
    revert h
    unfold gch gpk g3
    intro h
    split at h
    · rename_i c; exact absurd h c
    · rename_i c
      split at h
      · rename_i c2; exact absurd h c2
      · rename_i c2; exact ⟨by omega, by omega, h⟩
  intro u u0 u1
  exact (gfl_N _ _ _ h0 hg).2 u u0 (by omega)
def hrK : List Nat := [61, 62, 63, 64, 65, 66, 75, 76, 54, 56, 40, 36, 39, 31, 32, 30, 29, 10, 11, 2, 13]
def jK : List Nat := [33, 35, 37, 38]
def HR (σ σ' : qS) : Prop := LT0 σ' ∧ (∀ k ∈ hrK, σ' k = σ k) ∧
  (((ln σ).findIdx? (fun m => m.1 == 6) = none ∧ ln σ' = ln σ ∧ ∀ k ∈ jK, σ' k = σ k) ∨
   ∃ (i : Nat) (x : Ms), (ln σ).findIdx? (fun m => m.1 == 6) = some i ∧ (ln σ)[i]? = some x ∧
    ((xw x 1 ≠ σ 31 0 ∧ ln σ' = (ln σ).eraseIdx i ∧ ∀ k ∈ jK, σ' k = σ k) ∨
     (xw x 1 = σ 31 0 ∧ xw x 0 = 1 ∧ σ' 33 = σ 33 ∧ σ' 35 = σ 35 ∧ ∃ fi en : Int, ((mapd σ ∧ fi = 38 ∧ en = 38 + σ 13 (jb σ)) ∨ (¬ mapd σ ∧ fi = 0 ∧ en = spl σ)) ∧
       ((ln σ' = (ln σ).eraseIdx i ∧ σ' 37 = σ 37 ∧ σ' 38 = σ 38 ∧ ∀ u, fi ≤ u → u < en → gNo σ (xw x 2) u) ∨
        (∃ t, fi ≤ t ∧ t < en ∧ gOk σ (xw x 2) t ∧ (∀ j, σ' 37 j = if j = t then xw x 2 else σ 37 j) ∧ (∀ j, σ' 38 j = if j = t then σ 39 0 else σ 38 j) ∧ ∃ kv : List Pr, ln σ' = tl95 ((ln σ).eraseIdx i) ++ [(xw x 2, [2, σ 31 0, t, 0, 0, 0], kv)]))) ∨
     (xw x 1 = σ 31 0 ∧ xw x 0 = 3 ∧ ln σ' = (ln σ).eraseIdx i ∧ σ' 37 = σ 37 ∧ σ' 38 = σ 38 ∧
       ((xw x 3 < 38 ∧ σ' 35 = σ 35 ∧ ∀ j, σ' 33 j = if j = xw x 3 then xw x 2 else σ 33 j) ∨ (38 ≤ xw x 3 ∧ σ' 33 = σ 33 ∧ ∀ j, σ' 35 j = if j = xw x 3 - 38 then 1 else σ 35 j))) ∨
     (xw x 1 = σ 31 0 ∧ xw x 0 = 7 ∧ ln σ' = (ln σ).eraseIdx i ∧ σ' 35 = σ 35 ∧ σ' 38 = σ 38 ∧
       ((xw x 2 < 38 ∧ σ 33 (xw x 2) = xw x 3 ∧ (∀ j, σ' 33 j = if j = xw x 2 then -1 else σ 33 j) ∧ ∀ j, σ' 37 j = if j = xw x 2 then -1 else σ 37 j) ∨ (¬ (xw x 2 < 38 ∧ σ 33 (xw x 2) = xw x 3) ∧ σ' 33 = σ 33 ∧ σ' 37 = σ 37)))))
theorem su_f {σ : qS} {k : Nat} {i v : Int} (j : Int) : su σ k i v k j = if j = i then v else σ k j := by unfold su; simp
theorem mtr_eff {σ σ' : qS} (h : JI True (-1) σ) (h0 : LT0 σ) (hg : σ' 27 0 ≠ 0) (hq : Mtr σ σ') : HR σ σ' ∧ σ 27 0 ≠ 0 := by
  rcases hq with ⟨e, rfl⟩ | ⟨hg0, r, σ1, q, c⟩
  · exact absurd e hg
  refine ⟨?_, hg0⟩
  obtain ⟨o1, o2, o3⟩ := op_JI h q
  have kL : ∀ {S : List Nat}, (∀ k ∈ S, k ∉ lA) → ∀ k ∈ S, σ1 k = σ k := fun hS k m => o2 k (hS k m)
  rcases q with ⟨rfl, rfl, q1⟩ | ⟨i, x, f1, f2, f3, f4, f5, f6, f7, f8⟩
  · rcases c with ⟨-, rfl⟩ | ⟨e, -⟩
    · exact ⟨h0, fun _ _ => rfl, Or.inl ⟨q1, rfl, fun _ _ => rfl⟩⟩
    · exact absurd rfl e
  · have b0 : LT0 σ1 := LT0_k h0 (fun k m => f3 k ((by decide : ∀ k ∈ [49, 50], k ∉ [44, 45, 46, 47, 48, 51, 52, 53]) k m))
    have ex := op_x f6
    have e1 : xw x 1 = σ1 51 1 := ex 1 (by omega)
    rcases c with ⟨c0, rfl⟩ | ⟨hr, c⟩
    · refine ⟨b0, kL (by decide), Or.inr ⟨i, x, f1, f2, Or.inl ⟨?_, f5, kL (by decide)⟩⟩⟩
      rw [e1]; intro e; rw [if_pos e] at f8; omega
    · have he : xw x 1 = σ 31 0 := by
        rw [e1]
        by_cases e : σ1 51 1 = σ 31 0
        · exact e
        · rw [if_neg e] at f8; exact absurd f8 hr
      have g0 : xw x 0 = σ1 51 0 := ex 0 (by omega)
      have g2 : xw x 2 = σ1 51 2 := ex 2 (by omega)
      have g3 : xw x 3 = σ1 51 3 := ex 3 (by omega)
      obtain ⟨x', x1, x2, x3, x4⟩ := o3 hr
      have hT : σ1 51 0 = 1 ∨ σ1 51 0 = 3 ∨ σ1 51 0 = 4 ∨ σ1 51 0 = 7 := by
        obtain ⟨y0, -⟩ := x3
        rcases x2 with ⟨-, e⟩ | ⟨e, -⟩
        · rw [y0]
          rcases e with ⟨e, -⟩ | ⟨e, -⟩ | ⟨e, -⟩ | ⟨e, -⟩
          · exact Or.inl e
          · exact Or.inr (Or.inl e)
          · exact Or.inr (Or.inr (Or.inl e))
          · exact Or.inr (Or.inr (Or.inr e))
        · omega
      have eC : σ1 39 = σ 39 := o2 _ (by decide)
      have eS : σ1 33 = σ 33 := o2 _ (by decide)
      have eP : σ1 35 = σ 35 := o2 _ (by decide)
      have eG : σ1 37 = σ 37 := o2 _ (by decide)
      have eA : σ1 38 = σ 38 := o2 _ (by decide)
      have hs : stE σ σ1 := fun k m => o2 k ((by decide : ∀ k ∈ stS, k ∉ lA) k m)
      have eM : mapd σ1 ↔ mapd σ := by unfold mapd; rw [st_spl hs, eS]
      have eI : ∀ t, isdn σ1 t = isdn σ t := fun t => by unfold isdn; rw [eS, eP]
      rcases c with ⟨c0, fi, en, c1, c2⟩ | ⟨c0, c1, rfl⟩ | ⟨c0, c1, rfl⟩ | ⟨c0, c1⟩ | ⟨c0, rfl⟩ | ⟨⟨c0, c1, c2, c3⟩, rfl⟩
      · have hfe : (mapd σ ∧ fi = 38 ∧ en = 38 + σ 13 (jb σ)) ∨ (¬ mapd σ ∧ fi = 0 ∧ en = spl σ) := by
          rw [eM, st_spl hs, st_jb hs, o2 13 (by decide)] at c1; exact c1
        have hfi : 0 ≤ fi := by rcases hfe with ⟨-, e, -⟩ | ⟨-, e, -⟩ <;> omega
        rcases c2 with ⟨c2, rfl⟩ | ⟨c2, c3⟩
        · refine ⟨b0, kL (by decide), Or.inr ⟨i, x, f1, f2, Or.inr (Or.inl ⟨he, by rw [g0]; exact c0, eS, eP, fi, en, hfe, Or.inl ⟨f5, eG, eA, fun u u0 u1 => ?_⟩⟩)⟩⟩
          have := gch_no hfi c2 u u0 u1
          unfold gNo at this ⊢
          rw [eI, eG, eC, eA] at this
          rw [g2]; exact this
        · have hin := gch_in c2
          have hok := gch_ok c2
          generalize hgt : gch σ1 (σ1 51 2) fi en = t at *
          have hl0 : LT0 (su (su σ1 37 t (σ1 51 2)) 38 t (σ1 39 0)) := LT0_k b0 (fun k m => by
            rw [su_k (by revert m; revert k; decide), su_k (by revert m; revert k; decide)])
          obtain ⟨t1, ⟨kv, t2⟩, t3⟩ := tell_eff hl0 c3
          have hk : ∀ k, k ∉ lcL → k ≠ 37 → k ≠ 38 → σ' k = σ1 k := fun k m1 m2 m3 => by rw [t3 k m1, su_k m3, su_k m2]
          refine ⟨t1, fun k m => ?_, Or.inr ⟨i, x, f1, f2, Or.inr (Or.inl ⟨he, by rw [g0]; exact c0, ?_, ?_, fi, en, hfe, Or.inr ⟨t, hin.1, hin.2, ?_, fun j => ?_, fun j => ?_, kv, ?_⟩⟩)⟩⟩
          · rw [hk k ((by decide : ∀ k ∈ hrK, k ∉ lcL) k m) ((by decide : ∀ k ∈ hrK, k ≠ 37) k m) ((by decide : ∀ k ∈ hrK, k ≠ 38) k m)]
            exact kL (by decide) k m
          · rw [hk _ (by decide) (by decide) (by decide)]; exact eS
          · rw [hk _ (by decide) (by decide) (by decide)]; exact eP
          · unfold gOk at hok ⊢
            rw [eI, eG, eC, eA] at hok
            rw [g2]; exact hok
          · rw [t3 _ (by decide), su_k (by decide), su_f, eG, g2]
          · rw [t3 _ (by decide), su_f, su_k (by decide), eA, eC]
          · have eL : ln (su (su σ1 37 t (σ1 51 2)) 38 t (σ1 39 0)) = (ln σ).eraseIdx i := by
              rw [ln_k (σ := σ1) (fun k m => by rw [su_k (by revert m; revert k; decide), su_k (by revert m; revert k; decide)])]; exact f5
            rw [t2, eL, su_k (by decide), su_k (by decide), o2 31 (by decide), g2]
      · have hk : ∀ k, k ≠ 33 → k ≠ 34 → su (su σ1 33 (σ1 51 3) (σ1 51 2)) 34 (σ1 51 3) (σ1 51 4) k = σ1 k := fun k m1 m2 => by rw [su_k m2, su_k m1]
        have sub : ∀ {S : List Nat}, (∀ k ∈ S, k ≠ 33 ∧ k ≠ 34) → ∀ k ∈ S, su (su σ1 33 (σ1 51 3) (σ1 51 2)) 34 (σ1 51 3) (σ1 51 4) k = σ1 k := fun hS k m => hk k (hS k m).1 (hS k m).2
        refine ⟨LT0_k b0 (sub (by decide)), fun k m => (sub (by decide) k m).trans (kL (by decide) k m), Or.inr ⟨i, x, f1, f2, Or.inr (Or.inr (Or.inl ⟨he, by rw [g0]; exact c0, (ln_k (sub (by decide))).trans f5, (hk _ (by decide) (by decide)).trans eG, (hk _ (by decide) (by decide)).trans eA, Or.inl ⟨by rw [g3]; exact c1, (hk _ (by decide) (by decide)).trans eP, fun j => ?_⟩⟩))⟩⟩
        rw [su_k (by decide), su_f, eS, g3, g2]
      · have hk : ∀ k, k ≠ 35 → su σ1 35 (σ1 51 3 - 38) 1 k = σ1 k := fun k m1 => by rw [su_k m1]
        have sub : ∀ {S : List Nat}, (∀ k ∈ S, k ≠ 35) → ∀ k ∈ S, su σ1 35 (σ1 51 3 - 38) 1 k = σ1 k := fun hS k m => hk k (hS k m)
        refine ⟨LT0_k b0 (sub (by decide)), fun k m => (sub (by decide) k m).trans (kL (by decide) k m), Or.inr ⟨i, x, f1, f2, Or.inr (Or.inr (Or.inl ⟨he, by rw [g0]; exact c0, (ln_k (sub (by decide))).trans f5, (hk _ (by decide)).trans eG, (hk _ (by decide)).trans eA, Or.inr ⟨by rw [g3]; exact c1, (hk _ (by decide)).trans eS, fun j => ?_⟩⟩))⟩⟩
        rw [su_f, eP, g3]
      · have e : σ' = su (su σ1 28 0 (jb σ1)) 27 0 0 := c1
        rw [e, su_s] at hg
        exact absurd rfl hg
      · by_cases cc : σ1 51 2 < 38 ∧ σ1 33 (σ1 51 2) = σ1 51 3
        · rw [if_pos cc]
          have hk : ∀ k, k ≠ 33 → k ≠ 37 → su (su σ1 33 (σ1 51 2) (-1)) 37 (σ1 51 2) (-1) k = σ1 k := fun k m1 m2 => by rw [su_k m2, su_k m1]
          have sub : ∀ {S : List Nat}, (∀ k ∈ S, k ≠ 33 ∧ k ≠ 37) → ∀ k ∈ S, su (su σ1 33 (σ1 51 2) (-1)) 37 (σ1 51 2) (-1) k = σ1 k := fun hS k m => hk k (hS k m).1 (hS k m).2
          refine ⟨LT0_k b0 (sub (by decide)), fun k m => (sub (by decide) k m).trans (kL (by decide) k m), Or.inr ⟨i, x, f1, f2, Or.inr (Or.inr (Or.inr ⟨he, by rw [g0]; exact c0, (ln_k (sub (by decide))).trans f5, (hk _ (by decide) (by decide)).trans eP, (hk _ (by decide) (by decide)).trans eA, Or.inl ⟨by rw [g2]; exact cc.1, by rw [g2, g3, ← eS]; exact cc.2, fun j => ?_, fun j => ?_⟩⟩))⟩⟩
          · rw [su_k (by decide), su_f, eS, g2]
          · rw [su_f, su_k (by decide), eG, g2]
        · rw [if_neg cc]
          exact ⟨b0, kL (by decide), Or.inr ⟨i, x, f1, f2, Or.inr (Or.inr (Or.inr ⟨he, by rw [g0]; exact c0, f5, eP, eA, Or.inr ⟨by rw [g2, g3, ← eS]; exact cc, eS, eG⟩⟩))⟩⟩
      · omega

