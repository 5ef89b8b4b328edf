theorem cn_0 {w : Int} {L : List Ms} (h : cn w L = 0) : L.findIdx? (fun m => m.1 == w) = none := by
  rw [List.findIdx?_eq_none_iff]
  intro x hx
  unfold cn at h
  rw [List.countP_eq_zero] at h
  have := h x hx
  unfold toW at this
  simpa using this
theorem cn_1 {w : Int} {L : List Ms} (h : 1 ≤ cn w L) : ∃ (i : Nat) (x : Ms), L.findIdx? (fun m => m.1 == w) = some i ∧ L[i]? = some x ∧ x.1 = w := by
  cases e : L.findIdx? (fun m => m.1 == w) with
  | none =>
    exfalso
    have hz : cn w L = 0 := by
      unfold cn
      rw [List.countP_eq_zero]
      intro x hx hp
      have := List.findIdx?_eq_none_iff.mp e x hx
      unfold toW at hp
      rw [this] at hp
      cases hp
    omega
  | some i =>
    obtain ⟨h0, h1, -⟩ := List.findIdx?_eq_some_iff_getElem.mp e
    exact ⟨i, L[i], rfl, List.getElem?_eq_getElem h0, by simpa using h1⟩
theorem RD_n {w : Int} {σ σ' : qS} (h : RD w σ σ') (hc : cn w (ln σ) = 0) : ln σ' = ln σ ∧ same w σ σ' := by
  obtain ⟨-, -, -, c⟩ := h
  rcases c with ⟨-, c2, c3⟩ | ⟨i, x, c1, -⟩
  · exact ⟨c2, c3⟩
  · rw [cn_0 hc] at c1; cases c1
theorem WTK_n {w : Int} {σ σ' : qS} (h : WTK w σ σ') (hc : cn w (ln σ) = 0) (hi : idl σ w 1) : ¬ idl σ' w 0 := by
  obtain ⟨σ1, σ2, σ3, r1, r2, r3, a, -⟩ := h
  obtain ⟨l1, s1⟩ := RD_n r1 hc
  obtain ⟨l2, s2⟩ := RD_n r2 (by rw [l1]; exact hc)
  obtain ⟨l3, s3⟩ := RD_n r3 (by rw [l2, l1]; exact hc)
  have s := (s1.tr s2).tr s3
  obtain ⟨-, -, -, c⟩ := a
  intro hz
  have t3 : σ3 62 w = -1 := s.1.trans hi.1
  have a3 : σ3 65 w = 1 := s.2.2.1.trans hi.2
  rcases c with ⟨-, -, -, c, -⟩ | ⟨c0, -⟩ | ⟨c0, -⟩
  · rw [a3, hz.2] at c
    exact absurd c (by decide)
  · omega
  · omega
theorem WTK_g {w : Int} {σ σ' : qS} (hJ : JI False (-1) σ) (hw : 0 ≤ w ∧ w < 6) (hl : (ln σ).length ≤ 95) (h : WTK w σ σ') (hE : ER σ) (hn : ∀ x ∈ ln σ, x.1 = w → xw x 0 = 2) (hi : σ 62 w = -1) (hi' : idl σ' w 1) : cn w (ln σ) = 0 := by
  apply Classical.byContradiction
  intro hc
  obtain ⟨i, x, e1, e2, e3⟩ := cn_1 (w := w) (L := ln σ) (by omega)
  have hx := List.mem_of_getElem? e2
  obtain ⟨σ1, σ2, σ3, r1, r2, r3, a, ⟨j1, j2, j3, j4⟩, -⟩ := h
  have q1 := RD_q hJ hw hl r1
  have t1 : 0 ≤ σ1 62 w := by
    obtain ⟨-, -, -, c⟩ := r1
    rcases c with ⟨c1, -⟩ | ⟨i', x', c1, c2, c⟩
    · rw [e1] at c1; cases c1
    · rw [e1] at c1
      have ei := Option.some.inj c1
      subst ei
      rw [e2] at c2
      have ex := Option.some.inj c2
      subst ex
      have h2 := hn x hx e3
      rcases c with ⟨c, -⟩ | ⟨c0, c1', -, c⟩ | ⟨-, c, -⟩ | ⟨-, c, -⟩
      · exact absurd (hE x hx) c
      · rcases c with ⟨-, c, -⟩ | ⟨c, -⟩
        · have := GV_nn hJ hw e1 e2 c0 c1'
          omega
        · exact absurd hi c
      · omega
      · omega
  have q2 := RD_q j1 hw (by have := q1.2.1; omega) r2
  have q3 := RD_q j2 hw (by have := q1.2.1; have := q2.2.1; omega) r3
  have t2 : 0 ≤ σ2 62 w := by
    rcases q2.2.2.1 with ⟨e, -⟩ | ⟨e, -⟩ <;> omega
  have t3 : 0 ≤ σ3 62 w := by
    rcases q3.2.2.1 with ⟨e, -⟩ | ⟨e, -⟩ <;> omega
  obtain ⟨-, -, -, c⟩ := a
  have fz : fgo w σ' → False := fun f => by have := f.2.2.1; have := hi'.2; omega
  have g1 := hi'.1
  rcases c with ⟨c, -⟩ | ⟨-, c⟩ | ⟨-, c⟩
  · omega
  · rcases c with ⟨-, -, f, -⟩ | ⟨-, f, -⟩ | ⟨-, -, f, -⟩ | ⟨-, -, c, -⟩
    · exact fz f
    · exact fz f
    · exact fz f
    · omega
  · rcases c with ⟨-, -, f, -⟩ | ⟨-, -, -, -, f, -⟩ | ⟨-, -, -, -, -, -, c, -⟩ | ⟨-, -, -, -, -, c, -⟩ | ⟨-, -, f, -⟩
    · exact fz f
    · exact fz f
    · omega
    · omega
    · exact fz f
theorem rd_cp {w : Int} {L L' s : List Ms} (p : Ms → Bool) (h : rdop w L L' s) : L'.countP p ≤ L.countP p + s.countP p ∧ s.length ≤ 1 := by
  rcases h with ⟨-, rfl, rfl⟩ | ⟨i, -, h⟩
  · exact ⟨by simp, by simp⟩
  · have h1 : (L.eraseIdx i).countP p ≤ L.countP p := (List.eraseIdx_sublist L i).countP_le
    rcases h with ⟨rfl, rfl⟩ | ⟨y, rfl, rfl⟩
    · exact ⟨by simp; exact h1, by simp⟩
    · have h2 := cp_tl p (L.eraseIdx i)
      refine ⟨?_, by simp⟩
      rw [List.countP_append]; omega
theorem ac_cp {L L' s : List Ms} (p : Ms → Bool) (h : acop L L' s) : L'.countP p ≤ L.countP p + s.countP p := by
  rcases h with ⟨rfl, rfl⟩ | ⟨y, rfl, rfl⟩ | ⟨y, y', rfl, rfl⟩
  · simp
  · have h2 := cp_tl p L
    rw [List.countP_append]; omega
  · have h2 := cp_tl p L
    have h3 := cp_tl p (tl95 L ++ [y])
    rw [List.countP_append] at h3
    rw [List.countP_append, show [y, y'] = [y] ++ [y'] from rfl, List.countP_append]; omega
theorem MT_v {σ σ' : qS} (h : MTK σ σ') : ∃ s : List Ms, s.length ≤ 3 ∧ ∀ p : Ms → Bool, (ln σ').countP p ≤ (ln σ).countP p + s.countP p := by
  obtain ⟨σ1, σ2, r1, r2, r3, -⟩ := h
  obtain ⟨s1, p1, -⟩ := HR_y r1
  obtain ⟨s2, p2, -⟩ := HR_y r2
  obtain ⟨s3, p3, -⟩ := HR_y r3
  rw [l_clk] at p1
  refine ⟨s1 ++ s2 ++ s3, ?_, fun p => ?_⟩
  · have a1 := (rd_cp (toW 0) p1).2
    have a2 := (rd_cp (toW 0) p2).2
    have a3 := (rd_cp (toW 0) p3).2
    rw [List.length_append, List.length_append]; omega
  · have a1 := (rd_cp p p1).1
    have a2 := (rd_cp p p2).1
    have a3 := (rd_cp p p3).1
    rw [List.countP_append, List.countP_append]; omega
theorem rd_nil {w : Int} {L L' : List Ms} (h : rdop w L L' []) : L'.Sublist L := by
  rcases h with ⟨-, rfl, -⟩ | ⟨i, -, h⟩
  · exact List.Sublist.refl _
  · rcases h with ⟨rfl, -⟩ | ⟨y, -, e⟩
    · exact List.eraseIdx_sublist L i
    · cases e
theorem WTK_v {w : Int} {σ σ' : qS} (h : WTK w σ σ') (hf : F5 (ln σ)) (hi : σ' 62 w < 38) {v : Int} (hv : v ≠ 6) : cn v (ln σ') ≤ cn v (ln σ) := by
  obtain ⟨σ1, σ2, σ3, r1, r2, r3, a, -⟩ := h
  obtain ⟨s1, p1, -, u1⟩ := RD_y r1
  obtain ⟨s2, p2, -, u2⟩ := RD_y r2
  obtain ⟨s3, p3, -, u3⟩ := RD_y r3
  obtain ⟨e1, f1⟩ := u1 hf
  obtain ⟨e2, f2⟩ := u2 f1
  obtain ⟨e3, f3⟩ := u3 f2
  subst e1; subst e2; subst e3
  have hs := ((rd_nil p3).trans ((rd_nil p2).trans (rd_nil p1)))
  have h3 := cn_sub (w := v) hs
  have nl : ln σ' = ln σ3 → cn v (ln σ') ≤ cn v (ln σ) := fun e => by rw [e]; exact h3
  have tl : ∀ {ty a b c d}, TL 6 ty a b c d σ3 σ' → cn v (ln σ') ≤ cn v (ln σ) := fun {ty a b c d} t => by
    obtain ⟨kv, t⟩ := t
    have h4 := cp_tl (toW v) (ln σ3)
    rw [t]
    unfold cn at h3 ⊢
    rw [List.countP_append, List.countP_cons, List.countP_nil]
    have : toW v ((6, [ty, σ3 31 0, a, b, c, d], kv) : Ms) = false := by
      unfold toW; exact beq_eq_false_iff_ne.mpr (fun e => hv e.symm)
    rw [this]
    simp only [Bool.false_eq_true, if_false]
    omega
  obtain ⟨-, -, -, c⟩ := a
  rcases c with ⟨-, -, -, -, c⟩ | ⟨-, c⟩ | ⟨c0, c⟩
  · rcases c with ⟨-, c⟩ | ⟨-, c⟩
    · exact tl c
    · exact nl c
  · rcases c with ⟨-, -, -, a, c⟩ | ⟨-, -, -, ⟨a, c⟩, -⟩ | ⟨-, -, -, c⟩ | ⟨-, -, -, -, -, c⟩
    · exact tl c
    · exact tl c
    · exact tl c
    · exact nl c
  · rcases c with ⟨-, -, -, c⟩ | ⟨-, -, -, -, -, c⟩ | ⟨-, -, -, -, -, c, -⟩ | ⟨-, -, -, -, -, c1, -, -, -, c⟩ | ⟨-, -, -, -, c⟩
    · exact tl c
    · exact nl c
    · exact nl c
    · omega
    · rcases c with ⟨-, -, c⟩ | ⟨-, c⟩
      · exact tl c
      · exact tl c
theorem cn_sum : ∀ s : List Ms, cn 0 s + cn 1 s + cn 2 s + cn 3 s + cn 4 s + cn 5 s ≤ s.length
  | [] => by simp [cn]
  | x :: s => by
    have ih := cn_sum s
    unfold cn at ih ⊢
    simp only [List.countP_cons, List.length_cons]
    have e : ∀ v : Int, (if toW v x = true then 1 else 0) = if x.1 = v then 1 else 0 := fun v => by
      unfold toW
      by_cases c : x.1 = v
      · rw [if_pos c, if_pos (by rw [c]; exact beq_self_eq_true v)]
      · rw [if_neg c, if_neg (fun z => c (by simpa using z))]
    rw [e, e, e, e, e, e]
    split <;> split <;> split <;> split <;> split <;> split <;> omega
theorem keep_w {L : Nat} {τ : Nat → qS} (h : RNN L τ) {r w : Nat} (hw : w < 6) : ∀ j, j ≤ w → 7 * r + j ≤ 7 * L → ∀ k ∈ wK, τ (7 * r + j) k w = τ (7 * r) k w
  | 0, _, _ => fun _ _ => rfl
  | j + 1, hj, hl => fun k m => by
    have ih := keep_w (r := r) h hw j (by omega) (by omega) k m
    have hs := h.2 (7 * r + j) (by omega)
    have := STP_w hs (w := (w : Int)) (by omega) (by omega) k m
    rw [show 7 * r + (j + 1) = 7 * r + j + 1 by omega, this, ih]
theorem keep_a {L : Nat} {τ : Nat → qS} (h : RNN L τ) {r w : Nat} (hw : w < 6) {j : Nat} (hj : w + 1 ≤ j) (hj2 : j ≤ 7) (hl : 7 * r + j ≤ 7 * L) : ∀ k ∈ wK, τ (7 * r + j) k w = τ (7 * r + w + 1) k w := fun k m => by
  have := run_w h hw (t := 7 * r + w) (by omega) (j - (w + 1)) (by omega) (by omega) k m
  rw [show 7 * r + w + 1 + (j - (w + 1)) = 7 * r + j by omega] at this
  exact this
theorem idl_k {σ σ' : qS} {v a : Int} (h1 : σ' 62 v = σ 62 v) (h2 : σ' 65 v = σ 65 v) (h : idl σ v a) : idl σ' v a := ⟨h1.trans h.1, h2.trans h.2⟩

