-- a TRAP that is not heard: it is still on the line, or every letter of the line is younger
def TQz (g : Nat) (e : Int) (A : List (Ms × Nat × Nat)) : Prop := (∃ x ∈ A, x.1.1 = 6 ∧ xw x.1 0 = 4 ∧ xw x.1 1 = e ∧ x.2.1 = g) ∨ ∀ x ∈ A, g ≤ x.2.1
theorem TQ_tl {g T : Nat} {e : Int} {A : List (Ms × Nat × Nat)} (hs : SRT T A) (h : TQz g e A) : TQz g e (tlA A) := by
  unfold tlA
  by_cases c : 95 ≤ A.length
  · rw [if_pos c]
    cases A with
    | nil => simp at c
    | cons a R =>
      simp only [List.eraseIdx_cons_zero]
      rcases h with ⟨x, hx, x1, x2, x3, x4⟩ | h
      · rcases List.mem_cons.mp hx with q | q
        · right
          intro z hz
          have := (List.pairwise_cons.mp hs.1).1 z hz
          rw [← q] at this
          omega
        · exact Or.inl ⟨x, q, x1, x2, x3, x4⟩
      · exact Or.inr (fun z hz => h z (List.mem_cons_of_mem _ hz))
  · rw [if_neg c]
    exact h
theorem TQ_ap {g s b : Nat} {e : Int} {z : Ms} {A : List (Ms × Nat × Nat)} (hg : g ≤ s) (h : TQz g e A) : TQz g e (A ++ [(z, s, b)]) := by
  rcases h with ⟨x, hx, q⟩ | h
  · exact Or.inl ⟨x, List.mem_append_left _ hx, q⟩
  · right
    intro y hy
    rcases List.mem_append.mp hy with q | q
    · exact h y q
    · rw [List.mem_singleton] at q
      subst q
      exact hg
theorem TQ_er {g i : Nat} {e : Int} {y : Ms × Nat × Nat} {A : List (Ms × Nat × Nat)} (hy : A[i]? = some y) (hn : ¬ (y.1.1 = 6 ∧ xw y.1 0 = 4 ∧ xw y.1 1 = e)) (h : TQz g e A) : TQz g e (A.eraseIdx i) := by
  rcases h with ⟨x, hx, x1, x2, x3, x4⟩ | h
  · refine Or.inl ⟨x, ?_, x1, x2, x3, x4⟩
    apply Classical.byContradiction
    intro n
    have := mem_er hy hx n
    subst this
    exact hn ⟨x1, x2, x3⟩
  · exact Or.inr (fun z hz => h z ((List.eraseIdx_sublist _ i).subset hz))
theorem hd_to {w : Int} {A : List (Ms × Nat × Nat)} {i : Nat} {y : Ms × Nat × Nat} (h1 : (prA A).findIdx? (fun m => m.1 == w) = some i) (h2 : A[i]? = some y) : y.1.1 = w := by
  obtain ⟨g0, g1, -⟩ := List.findIdx?_eq_some_iff_getElem.mp h1
  have hi : i < A.length := by rw [pr_len] at g0; exact g0
  have ey : A[i] = y := by rw [List.getElem?_eq_getElem hi] at h2; exact Option.some.inj h2
  have : (prA A)[i] = y.1 := by rw [pr_gi A i g0 hi, ey]
  rw [this] at g1
  simpa using g1
theorem TQ_RD {w e e' : Int} {t g T : Nat} {A A' : List (Ms × Nat × Nat)} (h : RDn w e t A A') (hw : w ≠ 6) (hg : g ≤ t + 1) (hs : SRT T A) (hq : TQz g e' A) : TQz g e' A' := by
  rcases h with ⟨-, e⟩ | ⟨i, y, c1, c2, c⟩
  · rw [e]; exact hq
  · have q := TQ_er c2 (fun z => hw ((hd_to c1 c2).symm.trans z.1)) hq
    rcases c with ⟨-, e⟩ | ⟨-, -, z, -, -, -, -, -, -, e⟩
    · rw [e]; exact q
    · rw [e]
      exact TQ_ap hg (TQ_tl (SRT_sub hs (List.eraseIdx_sublist _ i)) q)
theorem TQ_AC {t g : Nat} {e : Int} {A A' : List (Ms × Nat × Nat)} {s : List Ms} (h : ACn t A A' s) (hg : g ≤ t + 1) (hs : SRT (t + 1) A) (hq : TQz g e A) : TQz g e A' := by
  rcases h with ⟨e, -⟩ | ⟨z, e, -⟩ | ⟨z, z', e, -⟩
  · rw [e]; exact hq
  · rw [e]; exact TQ_ap hg (TQ_tl hs hq)
  · rw [e]
    have s1 : SRT (t + 1) (tlA A ++ [(z, t + 1, t + 1)]) := ACn_srt (s := [z]) (Or.inr (Or.inl ⟨z, rfl, rfl⟩)) hs
    exact TQ_ap hg (TQ_tl s1 (TQ_ap hg (TQ_tl hs hq)))
theorem HR_4 {σ σ' : qS} (h : HR σ σ') {i : Nat} {x : Ms} (c1 : (ln σ).findIdx? (fun m => m.1 == 6) = some i) (c2 : (ln σ)[i]? = some x) (he : xw x 1 = σ 31 0) : xw x 0 ≠ 4 := by
  obtain ⟨-, -, c⟩ := h
  rcases c with ⟨d, -, -⟩ | ⟨j, y, d1, d2, c⟩
  · rw [c1] at d; cases d
  · rw [c1] at d1
    have ej := Option.some.inj d1
    subst ej
    rw [c2] at d2
    have ex := Option.some.inj d2
    subst ex
    rcases c with ⟨d0, -⟩ | ⟨-, k, -⟩ | ⟨-, k, -⟩ | ⟨-, k, -⟩
    · exact absurd he d0
    · omega
    · omega
    · omega
theorem TQ_HR {σ σ' : qS} (hr : HR σ σ') {t g : Nat} {A A' : List (Ms × Nat × Nat)} (hA : prA A = ln σ) (h : HRn t A A') (hg : g ≤ t + 1) (hs : SRT (t + 1) A) (hq : TQz g (σ 31 0) A) : TQz g (σ 31 0) A' := by
  rcases h with ⟨-, e⟩ | ⟨i, y, c1, c2, c⟩
  · rw [e]; exact hq
  · have n4 : ¬ (y.1.1 = 6 ∧ xw y.1 0 = 4 ∧ xw y.1 1 = σ 31 0) := fun z => by
      have g : (ln σ)[i]? = some y.1 := by
        rw [← hA]
        unfold prA
        rw [List.getElem?_map, c2]
        rfl
      rw [hA] at c1
      exact HR_4 hr c1 g z.2.2 z.2.1
    have q := TQ_er c2 n4 hq
    rcases c with e | ⟨z, -, e⟩
    · rw [e]; exact q
    · rw [e]
      exact TQ_ap hg (TQ_tl (SRT_sub hs (List.eraseIdx_sublist _ i)) q)
theorem TQ_t {L s0 : Nat} {τ : Nat → qS} (hR : RNN L τ) {A : Nat → List (Ms × Nat × Nat)} {ρ : Nat → qS × qS × qS} {B : Nat → List (Ms × Nat × Nat) × List (Ms × Nat × Nat) × List (Ms × Nat × Nat)} (h : ANC L s0 τ A ρ B) {g t : Nat} (h1 : s0 ≤ t) (h2 : t < 7 * L) (hg : g ≤ t + 1) (hq : TQz g (τ 0 31 0) (A t)) : TQz g (τ 0 31 0) (A (t + 1)) := by
  have k := ANR_srt h.1 (t - s0) (by omega)
  rw [show s0 + (t - s0) = t by omega] at k
  have k1 : SRT (t + 1) (A t) := ⟨k.1, fun y hy => Nat.le_succ_of_le (k.2 y hy)⟩
  by_cases h6 : t % 7 < 6
  · obtain ⟨-, -, r1, r2, r3, s, a, -⟩ := h.2 t h1 h2 h6
    have w6 : ((t % 7 : Nat) : Int) ≠ 6 := by omega
    have s1 := RDn_srt r1 k1
    have s2 := RDn_srt r2 s1
    have s3 := RDn_srt r3 s2
    exact TQ_AC a hg s3 (TQ_RD r3 w6 hg s2 (TQ_RD r2 w6 hg s1 (TQ_RD r1 w6 hg k1 hq)))
  · rcases h.1.2.2 t h1 h2 with ⟨e, -⟩ | ⟨-, σ1, σ2, A1, A2, r1, r2, r3, ⟨p0, p1, p2, -⟩, n1, n2, n3⟩
    · omega
    · have e0 : (clk (τ t)) 31 0 = τ 0 31 0 := by
        rw [(clk_x (τ t)).2.1, run_era hR (by omega)]
      have e1 : σ1 31 0 = τ 0 31 0 := by rw [r1.2.1 31 (by decide)]; exact e0
      have e2 : σ2 31 0 = τ 0 31 0 := by rw [r2.2.1 31 (by decide)]; exact e1
      have s1 := HRn_srt n1 k1
      have s2 := HRn_srt n2 s1
      have q1 := TQ_HR r1 (by rw [(clk_x (τ t)).1]; exact p0) n1 hg k1 (by rw [e0]; exact hq)
      rw [e0, ← e1] at q1
      have q2 := TQ_HR r2 p1 n2 hg s1 q1
      rw [e1, ← e2] at q2
      have q3 := TQ_HR r3 p2 n3 hg s2 q2
      rw [e2] at q3
      exact q3
-- TRP: from the tick of a TRAP on it lies on the line, or all letters are younger
theorem TRP {L s0 : Nat} {τ : Nat → qS} (hR : RNN L τ) {A : Nat → List (Ms × Nat × Nat)} {ρ : Nat → qS × qS × qS} {B : Nat → List (Ms × Nat × Nat) × List (Ms × Nat × Nat) × List (Ms × Nat × Nat)} (h : ANC L s0 τ A ρ B) {g : Nat} (h1 : s0 ≤ g) (hq : TQz g (τ 0 31 0) (A g)) : ∀ k, g + k ≤ 7 * L → TQz g (τ 0 31 0) (A (g + k))
  | 0, _ => hq
  | k + 1, hl => by
    have ih := TRP hR h h1 hq k (by omega)
    exact TQ_t hR h (t := g + k) (by omega) (by omega) (by omega) ih
-- once a younger letter for the master is the first one, all letters are younger than the TRAP
theorem TQ_fst {g T : Nat} {e : Int} {A : List (Ms × Nat × Nat)} (hs : SRT T A) (h : TQz g e A) {y : Ms × Nat × Nat} (hy : hdA 6 A y) (hg : g < y.2.1) : ∀ x ∈ A, g ≤ x.2.1 := by
  rcases h with ⟨x, hx, x1, x2, x3, x4⟩ | h
  · exfalso
    obtain ⟨i, c1, c2⟩ := hy
    obtain ⟨j, hj, ej⟩ := List.mem_iff_getElem.mp hx
    obtain ⟨g0, -, g2⟩ := List.findIdx?_eq_some_iff_getElem.mp c1
    have hi : i < A.length := by rw [pr_len] at g0; exact g0
    have ey : A[i] = y := by rw [List.getElem?_eq_getElem hi] at c2; exact Option.some.inj c2
    rcases Nat.lt_trichotomy j i with q | q | q
    · have := g2 j q
      have pj : (prA A)[j]'(by rw [pr_len]; exact hj) = x.1 := by rw [pr_gi A j (by rw [pr_len]; exact hj) hj, ej]
      rw [pj, x1] at this
      exact this rfl
    · subst q
      rw [ej] at ey
      rw [← ey] at hg
      omega
    · have := List.pairwise_iff_getElem.mp hs.1 i j hi hj q
      rw [ey, ej] at this
      omega
  · exact h

