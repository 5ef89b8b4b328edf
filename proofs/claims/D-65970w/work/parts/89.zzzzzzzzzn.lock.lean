-- the length of the line, tick by tick, with the chosen states between the reads (gen16/g1.py from LB_w)
theorem LB_r {w : Int} {σ σ1 σ2 σ3 σ' : qS} (hw : 0 ≤ w ∧ w < 6) (hg : GR σ w) (r1 : RD w σ σ1) (r2 : RD w σ1 σ2) (r3 : RD w σ2 σ3) (a : ACT w σ3 σ') (j3 : JI False (-1) σ3) : ∃ us : Nat, (ln σ').length + (k26 w σ + k26 w σ1 + k26 w σ2) ≤ (ln σ).length + gnw σ σ' w + us ∧ us ≤ 1 ∧ (us = 1 → 1 ≤ k26 w σ + k26 w σ1 + k26 w σ2 ∧ σ3 62 w ≠ -1 ∧ ln σ' ≠ ln σ3) := by
  obtain ⟨l1, s1⟩ := RD_l r1
  obtain ⟨l2, s2⟩ := RD_l r2
  obtain ⟨l3, s3⟩ := RD_l r3
  have kk : ∀ k ∈ [33, 40, 31, 32, 29, 10, 11, 2, 13], σ3 k = σ k := fun k m => by
    have m1 : k ∈ rdK := (by decide : ∀ k ∈ [33, 40, 31, 32, 29, 10, 11, 2, 13], k ∈ rdK) k m
    rw [r3.2.2.1 k m1, r2.2.2.1 k m1, r1.2.2.1 k m1]
  have sp3 : spl σ3 = spl σ := (st_c (fun k m => kk k ((by decide : ∀ k ∈ stC, k ∈ [33, 40, 31, 32, 29, 10, 11, 2, 13]) k m))).1
  have key : same w σ σ3 ∨ 1 ≤ k26 w σ + k26 w σ1 + k26 w σ2 := by
    rcases s1 with s1 | s1
    · rcases s2 with s2 | s2
      · rcases s3 with s3 | s3
        · exact Or.inl (same_tr (same_tr s1 s2) s3)
        · exact Or.inr (by omega)
      · exact Or.inr (by omega)
    · exact Or.inr (by omega)
  have fin : (ln σ').length ≤ (ln σ3).length + gnw σ σ' w ∨ ((ln σ').length ≤ (ln σ3).length + gnw σ σ' w + 1 ∧ 1 ≤ k26 w σ + k26 w σ1 + k26 w σ2) := by
    have a' := a
    obtain ⟨-, -, -, c⟩ := a'
    have own : (ln σ').length ≤ (ln σ3).length + 1 → (same w σ σ3 → 1 ≤ gnw σ σ' w) → (ln σ').length ≤ (ln σ3).length + gnw σ σ' w ∨ ((ln σ').length ≤ (ln σ3).length + gnw σ σ' w + 1 ∧ 1 ≤ k26 w σ + k26 w σ1 + k26 w σ2) := fun e f => by
      rcases key with k | k
      · exact Or.inl (by have := f k; omega)
      · exact Or.inr ⟨by omega, k⟩
    have nl : ln σ' = ln σ3 → (ln σ').length ≤ (ln σ3).length + gnw σ σ' w ∨ ((ln σ').length ≤ (ln σ3).length + gnw σ σ' w + 1 ∧ 1 ≤ k26 w σ + k26 w σ1 + k26 w σ2) := fun e => Or.inl (by rw [e]; omega)
    have g3 : 0 ≤ σ 62 w ∧ σ 62 w < 38 → 1 ≤ gnw σ σ' w := fun e => by
      unfold gnw
      by_cases q : AK w σ'
      · rw [if_pos q]; exact Nat.le_refl _
      · rw [if_neg q, if_neg (fun z => by have := z.1; omega), if_pos e]; exact Nat.le_refl _
    have g2 : 38 ≤ σ 62 w ∧ σ 65 w = 13 → 1 ≤ gnw σ σ' w := fun e => by
      unfold gnw
      by_cases q : AK w σ'
      · rw [if_pos q]; exact Nat.le_refl _
      · rw [if_neg q, if_pos e]
        by_cases q' : LKs σ' w
        · rw [if_pos q']; omega
        · rw [if_neg q']; exact Nat.le_refl _
    rcases c with ⟨c1, -, c2, c3, c⟩ | ⟨c0, c⟩ | ⟨c0, c⟩
    · rcases c with ⟨c4, c⟩ | ⟨-, c⟩
      · have t := TL_l c
        have ak : AK w σ' := ⟨c2, by rw [c3, c4]; rfl⟩
        have e : gnw σ σ' w = 1 := by unfold gnw; exact if_pos ak
        exact Or.inl (by omega)
      · exact nl c
    · have hsp := spl_b j3.1
      have fm : same w σ σ3 → 1 ≤ gnw σ σ' w := fun s => g3 (by have := s.1; omega)
      rcases c with ⟨-, -, -, a', c⟩ | ⟨-, -, -, ⟨a', c⟩, -⟩ | ⟨-, -, -, c⟩ | ⟨-, -, -, -, -, c⟩
      · exact own (TL_l c) fm
      · exact own (TL_l c) fm
      · exact own (TL_l c) fm
      · exact nl c
    · rcases c with ⟨u0, -, -, c⟩ | ⟨-, -, -, -, -, c⟩ | ⟨-, -, -, -, -, c, -⟩ | ⟨-, -, -, u6, -, ut, -, -, u9, c⟩ | ⟨-, u, -, -, c⟩
      · refine own (TL_l c) (fun s => ?_)
        exfalso
        have g := (hg (by have := s.1; omega)).2.2
        rw [s.1, kk 40 (by decide), kk 31 (by decide)] at u0
        exact g u0
      · exact nl c
      · exact nl c
      · have ag : same w σ σ3 → 38 ≤ σ 62 w ∧ σ 65 w = 13 := fun s => by
          have e1 := s.1
          have e2 := s.2.2.1
          have g := (hg (by omega)).1
          omega
        rcases c with ⟨-, -, c⟩ | ⟨u7, u8, kv, kv', c⟩
        · exact own (TL_l c) (fun s => g2 (ag s))
        · have t1 := (tl_len (ln σ3)).1
          have t2 := (tl_len (tl95 (ln σ3) ++ [((σ3 33 (σ3 64 w), [5, σ3 31 0, σ3 64 w, σ3 62 w - 38, ps σ3 w, w], kv) : Ms)])).1
          have t3 : (ln σ').length ≤ (ln σ3).length + 2 := by
            rw [c, List.length_append]
            rw [List.length_append] at t2
            simp only [List.length_cons, List.length_nil] at t2 ⊢
            omega
          rcases key with s | k
          · have e := ag s
            left
            have na : ¬ AK w σ' := fun z => by have := z.1; omega
            have lk : LKs σ' w := ⟨by omega, u9, u8⟩
            have g : gnw σ σ' w = 2 := by unfold gnw; rw [if_neg na, if_pos e, if_pos lk]
            omega
          · by_cases e : 38 ≤ σ 62 w ∧ σ 65 w = 13
            · right
              have := g2 e
              exact ⟨by omega, k⟩
            · exfalso
              have tr : ∀ {τ1 τ2 : qS}, RD w τ1 τ2 → same w τ1 τ2 ∨ τ2 66 w = 0 := fun r => by
                obtain ⟨-, -, -, q⟩ := r
                rcases q with ⟨-, -, q⟩ | ⟨i, x, -, -, q⟩
                · exact Or.inl q
                · rcases q with ⟨-, -, q⟩ | ⟨-, -, -, q⟩ | ⟨-, -, q, -⟩ | ⟨-, -, -, q⟩
                  · exact Or.inl q
                  · rcases q with ⟨-, -, -, -, q, -⟩ | ⟨-, q⟩
                    · exact Or.inr q
                    · exact Or.inl q
                  · exact Or.inl q
                  · rcases q with ⟨-, q⟩ | ⟨-, -, -, q, -⟩
                    · exact Or.inl q
                    · exact Or.inr q
              have t0 : ∀ {τ1 τ2 : qS}, RD w τ1 τ2 → τ1 66 w = 0 → τ2 66 w = 0 := fun r z => by
                rcases tr r with q | q
                · rw [q.2.2.2.1]; exact z
                · exact q
              rcases tr r1 with q1 | q1
              · rcases tr r2 with q2 | q2
                · rcases tr r3 with q3 | q3
                  · have s := same_tr (same_tr q1 q2) q3
                    exact e (ag s)
                  · omega
                · have := t0 r3 q2; omega
              · have := t0 r3 (t0 r2 q1); omega
      · refine own ?_ (fun s => ?_)
        · rcases c with ⟨-, -, c⟩ | ⟨-, c⟩
          · exact TL_l c
          · exact TL_l c
        · exfalso
          have g := (hg (by have := s.1; omega)).2.1
          have e := s.2.1
          omega
  have idl : σ3 62 w = -1 → (ln σ').length ≤ (ln σ3).length + gnw σ σ' w := fun e => by
    have a' := a
    obtain ⟨-, -, -, c⟩ := a'
    rcases c with ⟨c1, -, c2, c3, c⟩ | ⟨c0, c⟩ | ⟨c0, c⟩
    · rcases c with ⟨c4, c⟩ | ⟨-, c⟩
      · have t := TL_l c
        have ak : AK w σ' := ⟨c2, by rw [c3, c4]; rfl⟩
        have e : gnw σ σ' w = 1 := by unfold gnw; exact if_pos ak
        omega
      · rw [c]; omega
    · omega
    · omega
  by_cases e : σ3 62 w = -1
  · have := idl e
    exact ⟨0, by omega, by omega, fun e => by omega⟩
  · by_cases e2 : ln σ' = ln σ3
    · exact ⟨0, by rw [e2]; omega, by omega, fun e => by omega⟩
    · rcases fin with f | ⟨f, k⟩
      · exact ⟨0, by omega, by omega, fun e => by omega⟩
      · exact ⟨1, by omega, Nat.le_refl _, fun _ => ⟨k, e, e2⟩⟩
-- GIVE and PAIRS letters read in a tick; growth of a tick; ticks in which a task is held after the reads
noncomputable def kqr (τ : Nat → qS) (ρ : Nat → qS × qS × qS) (t : Nat) : Nat := if t % 7 < 6 then k26 ((t % 7 : Nat) : Int) (τ t) + k26 ((t % 7 : Nat) : Int) (ρ t).1 + k26 ((t % 7 : Nat) : Int) (ρ t).2.1 else 0
noncomputable def grq (τ : Nat → qS) (t : Nat) : Nat := if t % 7 < 6 then gnw (τ t) (τ (t + 1)) ((t % 7 : Nat) : Int) else 0
-- letters wasted in a tick: all but one, or all if no task is held after the reads or the rest of the tick is silent
noncomputable def wsq (τ : Nat → qS) (ρ : Nat → qS × qS × qS) (t : Nat) : Nat := @ite Nat ((ρ t).2.2 62 ((t % 7 : Nat) : Int) = -1 ∨ ln (τ (t + 1)) = ln (ρ t).2.2) (Classical.propDecidable _) (kqr τ ρ t) (kqr τ ρ t - 1)
theorem LQ_t {L s0 : Nat} {τ : Nat → qS} (hR : RNN L τ) (hs : ∀ t, t ≤ 7 * L → psame (τ 0) (τ t)) {A : Nat → List (Ms × Nat × Nat)} {ρ : Nat → qS × qS × qS} {B : Nat → List (Ms × Nat × Nat) × List (Ms × Nat × Nat) × List (Ms × Nat × Nat)} (h : ANC L s0 τ A ρ B) (h7 : 7 ≤ s0) {t : Nat} (h1 : s0 ≤ t) (h2 : t < 7 * L) : (ln (τ (t + 1))).length + wsq τ ρ t ≤ (ln (τ t)).length + grq τ t := by
  by_cases h6 : t % 7 < 6
  · obtain ⟨⟨r1, r2, r3, a, ⟨-, -, j3, -⟩, -⟩, -⟩ := h.2 t h1 h2 h6
    obtain ⟨us, u1, u2, u3⟩ := LB_r (w := ((t % 7 : Nat) : Int)) (by omega) (run_GR hR hs h6 (by omega) (by omega)) r1 r2 r3 a j3
    unfold wsq grq kqr
    rw [if_pos h6, if_pos h6]
    by_cases e : (ρ t).2.2 62 ((t % 7 : Nat) : Int) = -1 ∨ ln (τ (t + 1)) = ln (ρ t).2.2
    · rw [if_pos e]
      have : us = 0 := by
        apply Classical.byContradiction
        intro n
        rcases e with e | e
        · exact (u3 (by omega)).2.1 e
        · exact (u3 (by omega)).2.2 e
      omega
    · rw [if_neg e]
      by_cases z : us = 1
      · have := (u3 z).1
        omega
      · omega
  · have st := hR.2 t h2
    rw [show t % 7 = 6 by omega] at st
    have m : (ln (τ (t + 1))).length ≤ (ln (τ t)).length := by
      rcases st with ⟨⟨-, q⟩, -⟩ | ⟨-, st⟩
      · omega
      · exact M_l st
    unfold wsq grq kqr
    rw [if_neg h6, if_neg h6]
    split <;> omega
theorem LQ_s {L s0 : Nat} {τ : Nat → qS} (hR : RNN L τ) (hs : ∀ t, t ≤ 7 * L → psame (τ 0) (τ t)) {A : Nat → List (Ms × Nat × Nat)} {ρ : Nat → qS × qS × qS} {B : Nat → List (Ms × Nat × Nat) × List (Ms × Nat × Nat) × List (Ms × Nat × Nat)} (h : ANC L s0 τ A ρ B) (h7 : 7 ≤ s0) {s : Nat} (h1 : s0 ≤ s) : ∀ k, s + k ≤ 7 * L → (ln (τ (s + k))).length + smq (wsq τ ρ) s k ≤ (ln (τ s)).length + smq (grq τ) s k
  | 0, _ => by simp [smq]
  | k + 1, hk => by
    have ih := LQ_s hR hs h h7 h1 k (by omega)
    have st := LQ_t hR hs h h7 (t := s + k) (by omega) (by omega)
    rw [show s + (k + 1) = s + k + 1 by omega]
    simp only [smq]
    omega
-- LOCK: up to a time at which the line is full nothing is wasted beyond the growth
def A13 (τ : Nat → qS) (t : Nat) : Prop := t % 7 < 6 ∧ 38 ≤ τ t 62 ((t % 7 : Nat) : Int) ∧ τ t 65 ((t % 7 : Nat) : Int) = 13
def MPk (τ : Nat → qS) (t : Nat) : Prop := t % 7 < 6 ∧ 0 ≤ τ t 62 ((t % 7 : Nat) : Int) ∧ τ t 62 ((t % 7 : Nat) : Int) < 38
theorem grq_s {τ : Nat → qS} {s : Nat} : ∀ k, smq (grq τ) s k ≤ ctq (ASKt τ) s k + ctq (A13 τ) s k + ctq (LKt τ) s k + ctq (MPk τ) s k
  | 0 => by simp [smq, ctq]
  | k + 1 => by
    have ih := grq_s (τ := τ) (s := s) k
    simp only [smq, ctq]
    have g : grq τ (s + k) ≤ @ite Nat (ASKt τ (s + k)) (Classical.propDecidable _) 1 0 + @ite Nat (A13 τ (s + k)) (Classical.propDecidable _) 1 0 + @ite Nat (LKt τ (s + k)) (Classical.propDecidable _) 1 0 + @ite Nat (MPk τ (s + k)) (Classical.propDecidable _) 1 0 := by
      unfold grq
      by_cases h6 : (s + k) % 7 < 6
      · rw [if_pos h6]
        unfold gnw
        by_cases e1 : AK (((s + k) % 7 : Nat) : Int) (τ (s + k + 1))
        · rw [if_pos e1, if_pos (show ASKt τ (s + k) from ⟨h6, e1⟩)]
          omega
        · rw [if_neg e1]
          by_cases e2 : 38 ≤ τ (s + k) 62 (((s + k) % 7 : Nat) : Int) ∧ τ (s + k) 65 (((s + k) % 7 : Nat) : Int) = 13
          · rw [if_pos e2, if_pos (show A13 τ (s + k) from ⟨h6, e2⟩)]
            by_cases e3 : LKs (τ (s + k + 1)) (((s + k) % 7 : Nat) : Int)
            · rw [if_pos e3, if_pos (show LKt τ (s + k) from ⟨h6, e3⟩)]
              omega
            · rw [if_neg e3]
              omega
          · rw [if_neg e2]
            by_cases e4 : 0 ≤ τ (s + k) 62 (((s + k) % 7 : Nat) : Int) ∧ τ (s + k) 62 (((s + k) % 7 : Nat) : Int) < 38
            · rw [if_pos e4, if_pos (show MPk τ (s + k) from ⟨h6, e4⟩)]
              omega
            · rw [if_neg e4]
              exact Nat.zero_le _
      · rw [if_neg h6]
        exact Nat.zero_le _
    omega
theorem LOCK {L s0 : Nat} {τ : Nat → qS} (hR : RNN L τ) (hs : ∀ t, t ≤ 7 * L → psame (τ 0) (τ t)) {A : Nat → List (Ms × Nat × Nat)} {ρ : Nat → qS × qS × qS} {B : Nat → List (Ms × Nat × Nat) × List (Ms × Nat × Nat) × List (Ms × Nat × Nat)} (h : ANC L s0 τ A ρ B) (h7 : 7 ≤ s0) {s y : Nat} (h1 : s0 ≤ s) (h2 : s ≤ y) (hy : y ≤ 7 * L) (hf : 95 ≤ (ln (τ y)).length) : smq (wsq τ ρ) s (y - s) ≤ ctq (ASKt τ) s (y - s) + ctq (A13 τ) s (y - s) + ctq (LKt τ) s (y - s) + ctq (MPk τ) s (y - s) := by
  have a := LQ_s hR hs h h7 h1 (y - s) (by omega)
  rw [show s + (y - s) = y by omega] at a
  have b := run_95 hR (t := s) (by omega) (by omega)
  have c := grq_s (τ := τ) (s := s) (y - s)
  omega

