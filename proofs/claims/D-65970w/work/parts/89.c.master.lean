def gin (lo hi : Int) (x : Int × Int × Int) : Prop := (x.1 = -1 ∨ lo ≤ x.1 ∧ x.1 < hi) ∧ (x.2.1 = -1 ∨ lo ≤ x.2.1 ∧ x.2.1 < hi) ∧ (x.2.2 = -1 ∨ lo ≤ x.2.2 ∧ x.2.2 < hi)
theorem gst_in {σ : qS} {w t lo hi : Int} {x : Int × Int × Int} (h : gin lo hi x) (h0 : lo ≤ t ∧ t < hi) : gin lo hi (gst σ w t x) := by
  obtain ⟨h1, h2, h3⟩ := h
  unfold gst
  split
  · exact ⟨h1, h2, h3⟩
  · refine ⟨?_, ?_, ?_⟩
    · show (if _ then _ else _) = -1 ∨ _
      split
      · exact Or.inr h0
      · exact h1
    · show (if _ then _ else _) = -1 ∨ _
      split
      · exact Or.inr h0
      · exact h2
    · show (if _ then _ else _) = -1 ∨ _
      split
      · exact Or.inr h0
      · exact h3
theorem gfl_in {σ : qS} {w lo hi : Int} : ∀ (n : Nat) (t : Int) (x : Int × Int × Int), gin lo hi x → lo ≤ t → t + n ≤ hi → gin lo hi (gfl σ w n t x)
  | 0, t, x, h, _, _ => h
  | n + 1, t, x, h, h0, h1 => gfl_in n (t + 1) _ (gst_in h ⟨h0, by omega⟩) (by omega) (by omega)
theorem gch_in {σ : qS} {w fi en : Int} (h : gch σ w fi en ≠ -1) : fi ≤ gch σ w fi en ∧ gch σ w fi en < en := by
  by_cases hle : fi ≤ en
  · have := gfl_in (σ := σ) (w := w) (lo := fi) (hi := en) (en - fi).toNat fi (-1, -1, -1) ⟨Or.inl rfl, Or.inl rfl, Or.inl rfl⟩ (Int.le_refl _) (by omega)
    unfold gch at h ⊢
    generalize gfl σ w (en - fi).toNat fi (-1, -1, -1) = x at *
    obtain ⟨h1, h2, h3⟩ := this
    unfold gpk at h ⊢
    split
    · rcases h1 with h1 | h1
      · exact absurd h1 (by assumption)
      · exact h1
    · rw [if_neg (by assumption)] at h
      split
      · rcases h2 with h2 | h2
        · exact absurd h2 (by assumption)
        · exact h2
      · rw [if_neg (by assumption)] at h
        rcases h3 with h3 | h3
        · exact absurd h3 h
        · exact h3
  · exfalso
    apply h
    unfold gch
    rw [show (en - fi).toNat = 0 by omega]
    rfl
theorem job_of {σ : qS} (hB : BR σ) (hc : CH σ) (h0 : 0 ≤ σ 32 0) (h1 : σ 32 0 < σ 30 0) : jobok σ ∧ POK σ := by
  obtain ⟨b1, b2, b3, b4, b5, b6⟩ := hB
  obtain ⟨c1, c2, c3⟩ := hc
  obtain ⟨-, x2, x3⟩ := c3 (σ 32 0) h0 h1
  obtain ⟨y1, y2, y3, y4⟩ := b5 _ x2.1 x2.2
  obtain ⟨⟨z1, z2, z3, z4⟩, -, -⟩ := y4 (by omega)
  refine ⟨⟨⟨h0, by omega⟩, x2, ?_, ?_, ?_, ?_, b2.1⟩, (b4 _ ?_ ?_).1, (b4 _ ?_ ?_).1, (b4 _ ?_ ?_).1⟩ <;> (unfold jb; omega)
theorem run_hd {N : Nat} {σ : qS} (hB : BR σ) (hc : CH σ) (h0 : 0 ≤ σ 32 0) (hR : RUN N σ) : RES σ = (match JOm σ with
    | none => (jb σ, fM σ)
    | some O => runF (jfD σ) (σ 110) (ordL σ (σ 32 0 + 1) (σ 30 0 - (σ 32 0 + 1)).toNat) (fun f => if f = σ 12 (jb σ) then O else fM σ f)) := by
  obtain ⟨r1, r2, r3, r4⟩ := hR
  obtain ⟨b1, b2, b3, b4, b5, b6⟩ := hB
  obtain ⟨c1, c2, c3⟩ := hc
  obtain ⟨x1, x2, x3⟩ := c3 (σ 32 0) h0 r1
  rw [← r4, show (σ 30 0 - σ 32 0).toNat = (σ 30 0 - (σ 32 0 + 1)).toNat + 1 by omega, ordL_s, runF, x1]
  have e1 : jfD σ (σ 29 (σ 32 0)) (fM σ) = JOm σ := by
    unfold JOm; rw [jf_eq b4 b5 (j := jb σ) x2.1 x2.2]; rfl
  have e2 : σ 110 (σ 29 (σ 32 0)) = σ 12 (jb σ) := (b5 _ x2.1 x2.2).2.2.1.2.2.1
  rw [e1, e2]
  cases JOm σ <;> rfl
theorem fail_ok {m : Prop} {N c : Nat} {σ σ' : qS} (h : INVr (RJm m) N c σ) (hg : σ 27 0 ≠ 0) (hJ : JOm σ = none) (hq : Q_M_fail σ σ') : ∀ m', INVr (RJm m') N c σ' ∧ σ' 27 0 = 0 := by
  intro m'
  have hq : σ' = _ := hq
  have e0 : σ' 27 0 = 0 := by rw [hq, su_s]
  have ef : σ' 28 0 = jb σ := by rw [hq, su_k (by decide), su_s]
  have hk : ∀ k, k ∉ [27, 28] → σ' k = σ k := fun k m => by
    simp only [List.mem_cons, List.not_mem_nil, or_false, not_or] at m
    rw [hq, su_k (by omega), su_k (by omega)]
  clear hq
  have sub : ∀ {S : List Nat}, (∀ k ∈ S, k ∉ [27, 28]) → ∀ k ∈ S, σ' k = σ k := fun hS k m => hk k (hS k m)
  obtain ⟨hB, he, hb, ⟨o1, o2, o3, o4⟩, hg0, hg1⟩ := h
  have hR := run_hd hB o1 o3.1 (hg1 hg).1
  rw [hJ] at hR
  simp only at hR
  obtain ⟨b1, b2, b3, b4, b5, b6⟩ := hB
  refine ⟨⟨⟨⟨⟨?_, fun _ => e0⟩, ?_⟩, B2_k b2 (sub (by decide)), B3_k b3 (sub (by decide)), B4_k b4 (sub (by decide)), B5_k b5 (sub (by decide)), B6_k b6 (sub (by decide))⟩, ?_, ?_, ⟨CH_k (sub (by decide)) o1, Or.inl e0, ?_, ?_⟩, fun _ => ?_, fun hx => absurd e0 hx⟩, e0⟩
  · rw [hk 26 (by decide)]; exact b1.1.1
  · rw [hk 26 (by decide), hk 119 (by decide)]; exact b1.2
  · rw [hk 31 (by decide)]; exact he
  · rw [hk 26 (by decide)]; exact hb
  · rw [hk 32 (by decide), hk 30 (by decide)]; exact o3
  · exact o4
  · rw [ef, RES_k (sub (by decide)), fM_k (sub (by decide)), hR]
theorem JI_up {m' : Prop} {u : Int} {σ : qS} (h : JI False u σ) : JI m' u σ := JI_j h (fun _ _ => rfl) h.2.2.2.2.1 h.2.2.2.2.2.2.1 h.2.2.2.2.2.2.2.2.2.1 (fun hm => hm.1.elim)
theorem ms1_ok {N c : Nat} {σ : qS} (h : INVr (RJm False) N c σ) (hg : σ 27 0 ≠ 0) : INVr (RJm True) N (c + 1) (ms1 σ) ∧ ms1 σ 36 0 ≠ 0 ∧ ms1 σ 27 0 ≠ 0 := by
  have hF : ∀ k, k ∉ [37, 36, 39] → ms1 σ k = σ k := fun k m => by
    simp only [List.mem_cons, List.not_mem_nil, or_false, not_or] at m
    unfold ms1 ms0
    split
    · rw [su_k (by omega), su_k (by omega), ra_k (by omega)]
    · rw [su_k (by omega)]
  have e1 : ms1 σ 39 0 = z_add (σ 39 0) 1 := by unfold ms1; rw [su_s]
  have e2 : ms1 σ 36 0 ≠ 0 := by
    unfold ms1 ms0
    split
    · rw [su_k (by decide), su_s]; decide
    · rw [su_k (by decide)]; assumption
  have hGo := h.2.2.2.2.2 hg
  have hcl := h.2.2.2.1.2.2.2
  have e3 : GVN (ms1 σ) := fun _ => trivial
  have sub : ∀ {S : List Nat}, (∀ k ∈ S, k ∉ [37, 36, 39]) → ∀ k ∈ S, ms1 σ k = σ k := fun hS k m => hF k (hS k m)
  generalize ms1 σ = ρ at *
  have hs : stE σ ρ := sub (by decide)
  have hJ : JI True (-1) ρ := by
    refine JI_j hGo.2 (fun k hk => hF k (fun e => hk ((by decide : ∀ k ∈ [37, 36, 39], k ∈ jS) k e))) (fun k k0 k1 hb => ?_) (fun p p0 p1 hb => ?_) e3 (fun hm => hm.1.elim)
    · unfold SB KPT
      rw [hF 33 (by decide)] at hb ⊢
      rw [hF 34 (by decide), hF 57 (by decide), hF 56 (by decide), hF 54 (by decide), st_era hs]
      exact hGo.2.2.2.2.2.1 k k0 k1 hb
    · rw [hF 35 (by decide)] at hb
      rw [st_pts hs, st_jb hs, hF 40 (by decide), st_era hs]
      exact hGo.2.2.2.2.2.2.2.1 p p0 p1 hb
  refine ⟨?_, e2, by rw [hF _ (by decide)]; exact hg⟩
  obtain ⟨⟨b1, b2, b3, b4, b5, b6⟩, he, hb, ⟨o1, o2, o3, o4⟩, hg0, hg1⟩ := h
  refine ⟨⟨B1_k b1 (sub (by decide)), B2_k b2 (sub (by decide)), B3_k b3 (sub (by decide)), B4_k b4 (sub (by decide)), B5_k b5 (sub (by decide)), B6_k b6 (sub (by decide))⟩, ?_, ?_, ⟨CH_k (sub (by decide)) o1, ?_, ?_, ?_⟩, fun hx => ?_, fun _ => ⟨?_, hJ⟩⟩
  · rw [hF 31 (by decide)]; exact he
  · rw [hF 26 (by decide)]; exact hb
  · rw [hF 27 (by decide)]; exact o2
  · rw [hF 32 (by decide), hF 30 (by decide)]; exact o3
  · omega
  · rw [hF 27 (by decide)] at hx; exact absurd hx hg
  · unfold RUN ordL
    rw [hF 32 (by decide), hF 30 (by decide), hF 28 (by decide), hF 31 (by decide), hF 110 (by decide), hF 112 (by decide), fM_k (sub (by decide)), RES_k (sub (by decide)), jfD_k2 (sub (by decide))]
    exact (hg1 hg).1
def MT (N c : Nat) (σ : qS) : Prop := INVr (RJm True) N c σ ∧ (σ 27 0 ≠ 0 → σ 36 0 ≠ 0)
theorem MT_J {N c : Nat} {σ : qS} (h : MT N c σ) (hg : σ 27 0 ≠ 0) : JI True (-1) σ := (h.1.2.2.2.2.2 hg).2
theorem MT_j {N c : Nat} {σ σ' : qS} (h : MT N c σ) (hk : ∀ k, k ∉ lA → k ∉ [33, 34, 35, 37, 38] → σ' k = σ k) (hJ : σ 27 0 ≠ 0 → JI True (-1) σ') : MT N c σ' := by
  refine ⟨INV_k h.1 (fun k m => hk k ((by decide : ∀ k ∈ oS, k ∉ lA) k m) ((by decide : ∀ k ∈ oS, k ∉ [33, 34, 35, 37, 38]) k m)) ?_ hJ, ?_⟩
  · unfold B7
    rw [hk 54 (by decide) (by decide), hk 76 (by decide) (by decide), hk 40 (by decide) (by decide), hk 31 (by decide) (by decide)]
    exact h.1.1.2.2.2.2.2.2
  · rw [hk 27 (by decide) (by decide), hk 36 (by decide) (by decide)]; exact h.2
theorem hr_P {N c : Nat} {σ : qS} (hN : c ≤ c) (h : MT N c σ) (hg : σ 27 0 ≠ 0) {x : Ms} (hx : x.1 = 6) (hL : LTR True σ x) (hl : σ 51 0 = xw x 0 ∧ σ 51 2 = xw x 2 ∧ σ 51 3 = xw x 3 ∧ σ 51 4 = xw x 4 ∧ σ 51 5 = xw x 5) : P_M_hears (σ 51 0) (σ 51 2) (σ 51 3) (σ 51 4) σ := by
  obtain ⟨l0, l2, l3, l4, l5⟩ := hl
  have hJ := MT_J h hg
  have hj := hJ.1
  have hpt := hj.2.2.2.2.2.1
  have hcl := h.1.2.2.2.1.2.2.2
  have hL' : ((xw x 0 = 1 ∧ 0 ≤ xw x 2 ∧ xw x 2 < 6) ∨ (xw x 0 = 3 ∧ DN σ (xw x 2) (xw x 3) (xw x 4)) ∨ (xw x 0 = 4 ∧ JOm σ = none) ∨ (xw x 0 = 7 ∧ 0 ≤ xw x 2 ∧ TOT σ)) := by
    rcases hL with ⟨-, e⟩ | ⟨e, -⟩
    · exact e
    · omega
  rw [← l0, ← l2, ← l3, ← l4] at hL'
  refine ⟨fun _ => ⟨hJ.2.2.1, hj⟩, fun e => ?_, fun _ => hj.1, fun e => ?_⟩
  · rcases hL' with ⟨e', -⟩ | ⟨-, -, d⟩ | ⟨e', -⟩ | ⟨e', -⟩
    · omega
    · rcases d with d | d <;> omega
    · omega
    · omega
  · rcases hL' with ⟨e', -⟩ | ⟨e', -⟩ | ⟨e', -⟩ | ⟨-, d, -⟩
    · omega
    · omega
    · omega
    · exact d
theorem hr_ok {N c : Nat} {σ σ' : qS} (h : MT N c σ) (hg : σ 27 0 ≠ 0) {x : Ms} (hx : x.1 = 6) (hL : LTR True σ x) (hl : σ 51 0 = xw x 0 ∧ σ 51 2 = xw x 2 ∧ σ 51 3 = xw x 3 ∧ σ 51 4 = xw x 4 ∧ σ 51 5 = xw x 5) (hq : Q_M_hears (σ 51 0) (σ 51 2) (σ 51 3) (σ 51 4) σ σ') : MT N c σ' := by
  obtain ⟨l0, l2, l3, l4, l5⟩ := hl
  have hJ := MT_J h hg
  have hJ0 := hJ
  obtain ⟨j1, j2, j3, j4, j5, j6, j7, j8, j9, j10, j11⟩ := hJ0
  have hsp := spl_b j1
  have hpt := j1.2.2.2.2.2.1
  have hcl := h.1.2.2.2.1.2.2.2
  have hL' : ((xw x 0 = 1 ∧ 0 ≤ xw x 2 ∧ xw x 2 < 6) ∨ (xw x 0 = 3 ∧ DN σ (xw x 2) (xw x 3) (xw x 4)) ∨ (xw x 0 = 4 ∧ JOm σ = none) ∨ (xw x 0 = 7 ∧ 0 ≤ xw x 2 ∧ TOT σ)) := by
    rcases hL with ⟨-, e⟩ | ⟨e, -⟩
    · exact e
    · omega
  rw [← l0, ← l2, ← l3, ← l4] at hL'
  generalize σ 51 0 = y0 at *
  generalize σ 51 2 = y2 at *
  generalize σ 51 3 = y3 at *
  generalize σ 51 4 = y4 at *
  rcases hq with ⟨q0, fi, en, q1, q2⟩ | ⟨q0, q1, rfl⟩ | ⟨q0, q1, rfl⟩ | ⟨q0, q1⟩ | ⟨q0, rfl⟩ | ⟨-, rfl⟩
  · rcases q2 with ⟨-, rfl⟩ | ⟨g0, q2⟩
    · exact h
    · have gi := gch_in g0
      generalize gch σ y2 fi en = t at *
      have t44 : 0 ≤ t ∧ t < 44 := by rcases q1 with ⟨-, a, b⟩ | ⟨-, a, b⟩ <;> omega
      have hF : ∀ k, k ∉ [37, 38] → su (su σ 37 t y2) 38 t (σ 39 0) k = σ k := fun k m => by
        simp only [List.mem_cons, List.not_mem_nil, or_false, not_or] at m
        rw [su_k (by omega), su_k (by omega)]
      have hG : GVN (su (su σ 37 t y2) 38 t (σ 39 0)) := fun _ => trivial
      have hw6 : 0 ≤ y2 ∧ y2 < 6 := by
        rcases hL' with ⟨-, d⟩ | ⟨e', -⟩ | ⟨e', -⟩ | ⟨e', -⟩
        · exact d
        · omega
        · omega
        · omega
      have sub : ∀ {S : List Nat}, (∀ k ∈ S, k ∉ [37, 38]) → ∀ k ∈ S, su (su σ 37 t y2) 38 t (σ 39 0) k = σ k := fun hS k m => hF k (hS k m)
      generalize su (su σ 37 t y2) 38 t (σ 39 0) = ρ at *
      have hs : stE σ ρ := sub (by decide)
      have hmp : mapd σ → mapd ρ := fun hm => by unfold mapd at *; rw [st_spl hs, hF 33 (by decide)]; exact hm
      have hJr : JI True (-1) ρ := by
        refine JI_j hJ (fun k hk => hF k (fun e => hk ((by decide : ∀ k ∈ [37, 38], k ∈ jS) k e))) (fun k k0 k1 hb => ?_) (fun p p0 p1 hb => ?_) hG (fun hm => Or.inr ⟨trivial, hmp hm.2⟩)
        · unfold SB KPT
          rw [hF 33 (by decide)] at hb ⊢
          rw [hF 34 (by decide), hF 57 (by decide), hF 56 (by decide), hF 54 (by decide), st_era hs]
          exact j5 k k0 k1 hb
        · rw [hF 35 (by decide)] at hb
          rw [st_pts hs, st_jb hs, hF 40 (by decide), st_era hs]
          exact j7 p p0 p1 hb
      obtain ⟨t1, t2⟩ := tell_JI hJr q2 (fun kv => Or.inr ⟨hw6, Or.inl ⟨rfl, by
        show GV True ρ t
        unfold GV
        rw [st_spl hs, st_pts hs, st_jb hs]
        rcases q1 with ⟨a, b, d⟩ | ⟨a, b, d⟩
        · exact Or.inr ⟨by omega, by omega, Or.inr ⟨trivial, hmp a⟩⟩
        · exact Or.inl ⟨by omega, by omega⟩⟩⟩)
      exact MT_j h (fun k m1 m2 => by rw [t2 k m1, hF k (fun e => m2 (by simp only [List.mem_cons, List.not_mem_nil, or_false] at e ⊢; omega))]) (fun _ => t1)
  · have hD : DN σ y2 y3 y4 := by
      rcases hL' with ⟨e', -⟩ | ⟨-, d⟩ | ⟨e', -⟩ | ⟨e', -⟩
      · omega
      · exact d
      · omega
      · omega
    obtain ⟨d1, d2⟩ := hD
    have d3 : 0 ≤ y3 ∧ KPT σ y2 y3 ∧ σ 57 (y2 * 38 + y3) = y4 := by
      rcases d2 with ⟨a, b, d, e⟩ | ⟨a, -⟩
      · exact ⟨a, d, e⟩
      · omega
    have hF : ∀ k, k ∉ [33, 34] → su (su σ 33 y3 y2) 34 y3 y4 k = σ k := fun k m => by
      simp only [List.mem_cons, List.not_mem_nil, or_false, not_or] at m
      rw [su_k (by omega), su_k (by omega)]
    have e1 : ∀ i, su (su σ 33 y3 y2) 34 y3 y4 33 i = if i = y3 then y2 else σ 33 i := fun i => by rw [su_k (by decide), su_e]
    have e2 : ∀ i, su (su σ 33 y3 y2) 34 y3 y4 34 i = if i = y3 then y4 else σ 34 i := fun i => by rw [su_e, su_k (by decide)]
    generalize su (su σ 33 y3 y2) 34 y3 y4 = ρ at *
    have hs : stE σ ρ := fun k m => hF k ((by decide : ∀ k ∈ stS, k ∉ [33, 34]) k m)
    refine MT_j h (fun k _ m2 => hF k (fun e => m2 (by simp only [List.mem_cons, List.not_mem_nil, or_false] at e ⊢; omega))) (fun _ => JI_j hJ (fun k hk => hF k (fun e => hk ((by decide : ∀ k ∈ [33, 34], k ∈ jS) k e))) (fun k k0 k1 hb => ?_) (fun p p0 p1 hb => ?_) (fun hk => ?_) (fun hm => Or.inr ⟨trivial, fun k k0 k1 => ?_⟩))
    · unfold SB KPT
      rw [hF 57 (by decide), hF 56 (by decide), hF 54 (by decide), st_era hs, e1, e2]
      rw [e1] at hb
      by_cases e : k = y3
      · subst e
        rw [if_pos rfl, if_pos rfl]
        exact ⟨d1, d3.2.1, d3.2.2⟩
      · rw [if_neg e, if_neg e]
        rw [if_neg e] at hb
        exact j5 k k0 k1 hb
    · rw [hF 35 (by decide)] at hb
      rw [st_pts hs, st_jb hs, hF 40 (by decide), st_era hs]
      exact j7 p p0 p1 hb
    · trivial
    · rw [e1]
      split
      · omega
      · exact hm.2 k k0 (by rw [st_spl hs] at k1; exact k1)
  · have hD : DN σ y2 y3 y4 := by
      rcases hL' with ⟨e', -⟩ | ⟨-, d⟩ | ⟨e', -⟩ | ⟨e', -⟩
      · omega
      · exact d
      · omega
      · omega
    obtain ⟨d1, d2⟩ := hD
    have d3 : y3 < 38 + σ 13 (jb σ) ∧ σ 40 (y3 - 38) = σ 31 0 := by
      rcases d2 with ⟨a, b, d, e⟩ | ⟨a, b, d⟩
      · omega
      · exact ⟨b, d⟩
    have hF : ∀ k, k ≠ 35 → su σ 35 (y3 - 38) 1 k = σ k := fun k m => su_k m
    have e1 : ∀ i, su σ 35 (y3 - 38) 1 35 i = if i = y3 - 38 then 1 else σ 35 i := fun i => by rw [su_e]
    generalize su σ 35 (y3 - 38) 1 = ρ at *
    have hs : stE σ ρ := fun k m => hF k ((by decide : ∀ k ∈ stS, k ≠ 35) k m)
    refine MT_j h (fun k _ m2 => hF k (fun e => m2 (by subst e; decide))) (fun _ => JI_j hJ (fun k hk => hF k (fun e => hk (by subst e; decide))) (fun k k0 k1 hb => ?_) (fun p p0 p1 hb => ?_) (fun hk => ?_) (fun hm => Or.inr ⟨trivial, ?_⟩))
    · unfold SB KPT
      rw [hF 33 (by decide)] at hb ⊢
      rw [hF 34 (by decide), hF 57 (by decide), hF 56 (by decide), hF 54 (by decide), st_era hs]
      exact j5 k k0 k1 hb
    · rw [st_pts hs, st_jb hs, hF 40 (by decide), st_era hs]
      rw [e1] at hb
      by_cases e : p = y3 - 38
      · rw [e]; exact ⟨by omega, d3.2⟩
      · rw [if_neg e] at hb; exact j7 p p0 p1 hb
    · trivial
    · unfold mapd at *; rw [st_spl hs, hF 33 (by decide)]; exact hm.2
  · have hD : JOm σ = none := by
      rcases hL' with ⟨e', -⟩ | ⟨e', -⟩ | ⟨-, d⟩ | ⟨e', -⟩
      · omega
      · omega
      · exact d
      · omega
    obtain ⟨f1, f2⟩ := fail_ok h.1 hg hD q1 True
    exact ⟨f1, fun e => absurd f2 e⟩
  · have hD : 0 ≤ y2 ∧ TOT σ := by
      rcases hL' with ⟨e', -⟩ | ⟨e', -⟩ | ⟨e', -⟩ | ⟨-, d⟩
      · omega
      · omega
      · omega
      · exact d
    split
    · have hF : ∀ k, k ∉ [33, 37] → su (su σ 33 y2 (-1)) 37 y2 (-1) k = σ k := fun k m => by
        simp only [List.mem_cons, List.not_mem_nil, or_false, not_or] at m
        rw [su_k (by omega), su_k (by omega)]
      have e1 : ∀ i, su (su σ 33 y2 (-1)) 37 y2 (-1) 33 i = if i = y2 then -1 else σ 33 i := fun i => by rw [su_k (by decide), su_e]
      have e2 : ∀ i, su (su σ 33 y2 (-1)) 37 y2 (-1) 37 i = if i = y2 then -1 else σ 37 i := fun i => by rw [su_e, su_k (by decide)]
      generalize su (su σ 33 y2 (-1)) 37 y2 (-1) = ρ at *
      have hs : stE σ ρ := fun k m => hF k ((by decide : ∀ k ∈ stS, k ∉ [33, 37]) k m)
      refine MT_j h (fun k _ m2 => hF k (fun e => m2 (by simp only [List.mem_cons, List.not_mem_nil, or_false] at e ⊢; omega))) (fun _ => JI_j hJ (fun k hk => hF k (fun e => hk ((by decide : ∀ k ∈ [33, 37], k ∈ jS) k e))) (fun k k0 k1 hb => ?_) (fun p p0 p1 hb => ?_) (fun hk => ?_) (fun hm => Or.inl hD.2))
      · unfold SB KPT
        rw [hF 57 (by decide), hF 56 (by decide), hF 54 (by decide), st_era hs, hF 34 (by decide), e1]
        rw [e1] at hb
        by_cases e : k = y2
        · rw [if_pos e] at hb; exact absurd rfl hb
        · rw [if_neg e]
          rw [if_neg e] at hb
          exact j5 k k0 k1 hb
      · rw [hF 35 (by decide)] at hb
        rw [st_pts hs, st_jb hs, hF 40 (by decide), st_era hs]
        exact j7 p p0 p1 hb
      · trivial
    · exact h
  · exact h
theorem mtr_P {N c : Nat} {σ : qS} (hN : c ≤ c) (h : MT N c σ) : Mpr σ := by
  intro hg
  have hJ := MT_J h hg
  refine ⟨hJ.2.2.1, fun r σ1 q hr => ?_⟩
  obtain ⟨o1, o2, o3⟩ := op_JI hJ q
  obtain ⟨x, x1, x2, x3, x4⟩ := o3 hr
  have h1 : MT N c σ1 := MT_j h (fun k m _ => o2 k m) (fun _ => o1)
  exact hr_P hN h1 (by rw [o2 _ (by decide)]; exact hg) x1 x2 x3
theorem mtr_ok {N c : Nat} {σ σ' : qS} (h : MT N c σ) (hq : Mtr σ σ') : MT N c σ' := by
  rcases hq with ⟨-, rfl⟩ | ⟨hg, r, σ1, q, cc⟩
  · exact h
  · have hJ := MT_J h hg
    obtain ⟨o1, o2, o3⟩ := op_JI hJ q
    have h1 : MT N c σ1 := MT_j h (fun k m _ => o2 k m) (fun _ => o1)
    rcases cc with ⟨-, rfl⟩ | ⟨hr, cc⟩
    · exact h1
    · obtain ⟨x, x1, x2, x3, x4⟩ := o3 hr
      exact hr_ok h1 (by rw [o2 _ (by decide)]; exact hg) x1 x2 x3 cc

