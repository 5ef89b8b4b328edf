theorem RD_gS {w : Int} {σ σ' : qS} (h : RD w σ σ') (h0 : σ 62 w = -1) (h1 : σ' 62 w ≠ -1) (h2 : σ' 62 w < 38) : nkS w σ = 1 := by
  obtain ⟨-, -, -, c⟩ := h
  rcases c with ⟨-, -, c⟩ | ⟨i, x, c1, c2, c⟩
  · exact absurd (c.1.trans h0) h1
  · rcases c with ⟨-, -, c⟩ | ⟨d0, d1, -, c⟩ | ⟨-, -, c, -⟩ | ⟨-, -, -, c⟩
    · exact absurd (c.1.trans h0) h1
    · rcases c with ⟨-, c, -⟩ | ⟨-, c⟩
      · unfold nkS
        exact if_pos ⟨i, x, c1, c2, d0, d1, by omega⟩
      · exact absurd (c.1.trans h0) h1
    · exact absurd (c.1.trans h0) h1
    · rcases c with ⟨-, c⟩ | ⟨f, -⟩
      · exact absurd (c.1.trans h0) h1
      · have := f.1; omega
-- an idle worker is given a split
def gdS (τ : Nat → qS) (ρ : Nat → qS × qS × qS) (t : Nat) : Nat := if t % 7 < 6 ∧ τ t 62 ((t % 7 : Nat) : Int) = -1 ∧ (ρ t).2.2 62 ((t % 7 : Nat) : Int) ≠ -1 ∧ (ρ t).2.2 62 ((t % 7 : Nat) : Int) < 38 then 1 else 0
theorem gS_rs {L s0 : Nat} {τ : Nat → qS} (hR : RNN L τ) {A : Nat → List (Ms × Nat × Nat)} {ρ : Nat → qS × qS × qS} {B : Nat → List (Ms × Nat × Nat) × List (Ms × Nat × Nat) × List (Ms × Nat × Nat)} (h : ANC L s0 τ A ρ B) {t : Nat} (h1 : s0 ≤ t) (h2 : t < 7 * L) : gdS τ ρ t ≤ rsq τ ρ t := by
  unfold gdS
  split
  · rename_i c
    obtain ⟨h6, c0, c3, c4⟩ := c
    obtain ⟨⟨r1, r2, r3, -⟩, -⟩ := h.2 t h1 h2 h6
    unfold rsq
    rw [if_pos h6]
    by_cases c1 : (ρ t).1 62 ((t % 7 : Nat) : Int) = -1
    · by_cases c2 : (ρ t).2.1 62 ((t % 7 : Nat) : Int) = -1
      · have := RD_gS r3 c2 c3 c4; omega
      · have e := RD_tk r3 c2
        have := RD_gS r2 c1 c2 (by omega); omega
    · have e1 := RD_tk r2 c1
      have e2 := RD_tk r3 (by omega)
      have := RD_gS r1 c0 c1 (by omega); omega
  · exact Nat.zero_le _
-- GIVEs of splits that are read by a worker that is not idle
noncomputable def jsq (τ : Nat → qS) (ρ : Nat → qS × qS × qS) (t : Nat) : Nat := rsq τ ρ t - gdS τ ρ t
theorem js_s {L s0 : Nat} {τ : Nat → qS} (hR : RNN L τ) {A : Nat → List (Ms × Nat × Nat)} {ρ : Nat → qS × qS × qS} {B : Nat → List (Ms × Nat × Nat) × List (Ms × Nat × Nat) × List (Ms × Nat × Nat)} (h : ANC L s0 τ A ρ B) {s : Nat} (h1 : s0 ≤ s) : ∀ k, s + k ≤ 7 * L → smq (gdS τ ρ) s k + smq (jsq τ ρ) s k = smq (rsq τ ρ) s k
  | 0, _ => by simp [smq]
  | k + 1, hl => by
    have ih := js_s hR h h1 k (by omega)
    have b := gS_rs hR h (t := s + k) (by omega) (by omega)
    have c : jsq τ ρ (s + k) = rsq τ ρ (s + k) - gdS τ ρ (s + k) := rfl
    simp only [smq]
    omega
def bmp (σ : qS) (v : Int) : Nat := if σ 62 v ≠ -1 ∧ σ 62 v < 38 then 1 else 0
theorem bmp_b (σ : qS) (v : Int) : bmp σ v ≤ 1 := by unfold bmp; split <;> omega
theorem bms_b (σ : qS) : sx6 (bmp σ) ≤ 6 := by
  unfold sx6
  have := bmp_b σ 0
  have := bmp_b σ 1
  have := bmp_b σ 2
  have := bmp_b σ 3
  have := bmp_b σ 4
  have := bmp_b σ 5
  omega
theorem bm_t {L s0 : Nat} {τ : Nat → qS} (hR : RNN L τ) {A : Nat → List (Ms × Nat × Nat)} {ρ : Nat → qS × qS × qS} {B : Nat → List (Ms × Nat × Nat) × List (Ms × Nat × Nat) × List (Ms × Nat × Nat)} (h : ANC L s0 τ A ρ B) {t : Nat} (h1 : s0 ≤ t) (h2 : t < 7 * L) : sx6 (bmp (τ t)) + gdS τ ρ t ≤ sx6 (bmp (τ (t + 1))) + (@ite Nat (DNt τ ρ t) (Classical.propDecidable _) 1 0) := by
  have o : ∀ v : Int, ((t % 7 : Nat) : Int) ≠ v → 0 ≤ v ∧ v < 6 → bmp (τ t) v = bmp (τ (t + 1)) v := fun v hv hw => by
    unfold bmp
    rw [STP_w (hR.2 t h2) hv hw 62 (by decide)]
  by_cases h6 : t % 7 < 6
  · refine sx6_w h6 ?_ o
    obtain ⟨⟨r1, r2, r3, a, ⟨j1, j2, j3, -⟩, -⟩, -⟩ := h.2 t h1 h2 h6
    have up : τ t 62 ((t % 7 : Nat) : Int) ≠ -1 → (ρ t).2.2 62 ((t % 7 : Nat) : Int) = τ t 62 ((t % 7 : Nat) : Int) := fun n => by
      have e1 := RD_tk r1 n
      have e2 := RD_tk r2 (by omega)
      have e3 := RD_tk r3 (by omega)
      omega
    have b2 : (ρ t).2.2 62 ((t % 7 : Nat) : Int) ≠ -1 → (ρ t).2.2 62 ((t % 7 : Nat) : Int) < 38 → τ t 62 ((t % 7 : Nat) : Int) < 38 → τ (t + 1) 62 ((t % 7 : Nat) : Int) = (ρ t).2.2 62 ((t % 7 : Nat) : Int) ∨ DNt τ ρ t := fun n n38 n0 => by
      have dn : τ (t + 1) 62 ((t % 7 : Nat) : Int) = -1 → DNt τ ρ t := fun e => ⟨⟨h6, n, e⟩, fun q => by have := q.2.2.1; omega⟩
      obtain ⟨-, -, -, z⟩ := a
      rcases z with ⟨z, -⟩ | ⟨z0, z⟩ | ⟨z0, z⟩
      · exact absurd z n
      · rcases z with ⟨-, -, f, -⟩ | ⟨-, f, -⟩ | ⟨-, -, f, -⟩ | ⟨-, -, f, -⟩
        · exact Or.inr (dn f.1)
        · exact Or.inr (dn f.1)
        · exact Or.inr (dn f.1)
        · exact Or.inl f
      · omega
    have fin : ∀ x : Nat, x ≤ 1 → (ρ t).2.2 62 ((t % 7 : Nat) : Int) ≠ -1 → (ρ t).2.2 62 ((t % 7 : Nat) : Int) < 38 → τ t 62 ((t % 7 : Nat) : Int) < 38 → x ≤ bmp (τ (t + 1)) ((t % 7 : Nat) : Int) + (@ite Nat (DNt τ ρ t) (Classical.propDecidable _) 1 0) := fun x hx n n38 n0 => by
      rcases b2 n n38 n0 with q | q
      · have : bmp (τ (t + 1)) ((t % 7 : Nat) : Int) = 1 := by unfold bmp; rw [q]; exact if_pos ⟨n, n38⟩
        omega
      · rw [if_pos q]
        omega
    by_cases c : τ t 62 ((t % 7 : Nat) : Int) = -1
    · have e0 : bmp (τ t) ((t % 7 : Nat) : Int) = 0 := by unfold bmp; exact if_neg (fun q => q.1 c)
      rw [e0]
      by_cases d : (ρ t).2.2 62 ((t % 7 : Nat) : Int) ≠ -1 ∧ (ρ t).2.2 62 ((t % 7 : Nat) : Int) < 38
      · have : gdS τ ρ t ≤ 1 := by unfold gdS; split <;> omega
        have f := fin (gdS τ ρ t) this d.1 d.2 (by omega)
        omega
      · have : gdS τ ρ t = 0 := by unfold gdS; exact if_neg (fun q => d ⟨q.2.2.1, q.2.2.2⟩)
        rw [this]
        exact Nat.zero_le _
    · have g0 : gdS τ ρ t = 0 := by unfold gdS; exact if_neg (fun q => c q.2.1)
      rw [g0]
      by_cases d : τ t 62 ((t % 7 : Nat) : Int) < 38
      · have u := up c
        have f := fin (bmp (τ t) ((t % 7 : Nat) : Int)) (bmp_b _ _) (by omega) (by omega) d
        omega
      · have : bmp (τ t) ((t % 7 : Nat) : Int) = 0 := by unfold bmp; exact if_neg (fun q => d q.2)
        rw [this]
        exact Nat.zero_le _
  · have o0 := o 0 (by omega) (by decide)
    have o1 := o 1 (by omega) (by decide)
    have o2 := o 2 (by omega) (by decide)
    have o3 := o 3 (by omega) (by decide)
    have o4 := o 4 (by omega) (by decide)
    have o5 := o 5 (by omega) (by decide)
    have g0 : gdS τ ρ t = 0 := by unfold gdS; exact if_neg (fun q => h6 q.1)
    unfold sx6
    omega
theorem BMk {L s0 : Nat} {τ : Nat → qS} (hR : RNN L τ) {A : Nat → List (Ms × Nat × Nat)} {ρ : Nat → qS × qS × qS} {B : Nat → List (Ms × Nat × Nat) × List (Ms × Nat × Nat) × List (Ms × Nat × Nat)} (h : ANC L s0 τ A ρ B) {s : Nat} (h1 : s0 ≤ s) : ∀ k, s + k ≤ 7 * L → sx6 (bmp (τ s)) + smq (gdS τ ρ) s k ≤ sx6 (bmp (τ (s + k))) + ctq (DNt τ ρ) s k
  | 0, _ => by simp [smq, ctq]
  | k + 1, hl => by
    have ih := BMk hR h h1 k (by omega)
    have b := bm_t hR h (t := s + k) (by omega) (by omega)
    rw [show s + (k + 1) = s + k + 1 by omega]
    simp only [ctq, smq]
    omega
-- GA = ASKs that are sent while a split is undone and no DONE of it is on the line: they are refused or answered by a split
theorem IDX3 {L s0 : Nat} {τ : Nat → qS} (hR : RNN L τ) {A : Nat → List (Ms × Nat × Nat)} {ρ : Nat → qS × qS × qS} {B : Nat → List (Ms × Nat × Nat) × List (Ms × Nat × Nat) × List (Ms × Nat × Nat)} (h : ANC L s0 τ A ρ B) {s k : Nat} (h7 : 7 ≤ s) (h1 : s0 + 7 ≤ s) (h2 : s + k ≤ 7 * L) : 2 * smq (gsq τ) s k + 6 * smq (jkq τ ρ) s k + 6 * ctq (GAt τ) s k ≤ smq (idq τ) s k + 4 * ctq (DNt τ ρ) s k + 6 * smq (jsq τ ρ) s k + 2000 := by
  have si := SI5 hR h h1 h2
  have as := ctq_b7 (P := ASKt τ) (Q := fun t => FZt τ ρ t ∨ SIa τ ρ 5 t) (s := s) (k := k) h7 (fun t t1 t2 q => ask_pv hR h (by omega) (by omega) q)
  have as2 := ctq_or (P := fun t => FZt τ ρ t ∨ SIa τ ρ 5 t) (Q := FZt τ ρ) (R := SIa τ ρ 5) (s := s) k (fun t _ _ q => q)
  have g := VSs hR h (s := s) (by omega) k h2
  have g1 := (vs_b (run_95 hR (by omega) h7 (by omega : s ≤ 7 * L))).1
  have g2 := (vs_b (run_95 hR (by omega) (by omega : 7 ≤ s + k) h2)).2
  have js := js_s hR h (s := s) (by omega) k h2
  have bm := BMk hR h (s := s) (by omega) k h2
  have bm6 := bms_b (τ (s + k))
  have jk := jk_s hR h (s := s) (by omega) k h2
  have bz := BZk hR h (s := s) (by omega) k h2
  have b6 := sx6_b (τ s)
  have kl := KLA hR (s := s) k h2
  have e6 : rrs (τ (s + k)) ≤ 6 := by
    unfold rrs
    have := rr_b (τ (s + k)) 0
    have := rr_b (τ (s + k)) 1
    have := rr_b (τ (s + k)) 2
    have := rr_b (τ (s + k)) 3
    have := rr_b (τ (s + k)) 4
    have := rr_b (τ (s + k)) 5
    omega
  have kd := ctq_2 (P := KAt τ) (Q := DNt τ ρ) (R := FZt τ ρ) (s := s) k (fun t t1 t2 => ⟨fun q => KA_fz hR h (by omega) (by omega) q, fun q => q.1, fun q => q.2.2 q.1⟩)
  have i1 := ctq_2 (P := FZt τ ρ) (Q := ASKt τ) (R := fun t => FZt τ ρ t ∨ ASKt τ t) (s := s) k (fun t t1 t2 => ⟨Or.inl, Or.inr, fun q => by
    obtain ⟨f, h6, k1, k2⟩ := q
    rcases id_cs hR h (t := t) (by omega) (by omega) h6 k1 with ⟨-, c⟩ | ⟨c, -⟩
    · omega
    · exact f.2.1 c⟩)
  have i2 := ctq_2 (P := fun t => FZt τ ρ t ∨ ASKt τ t) (Q := SIt τ ρ) (R := fun t => idq τ t = 1) (s := s) k (fun t t1 t2 => by
    have id : t % 7 < 6 → τ (t + 1) 62 ((t % 7 : Nat) : Int) = -1 → idq τ t = 1 := fun h6 e => by
      unfold idq
      rw [if_pos h6, if_neg (by omega)]
    have sx : SIt τ ρ t → ∃ a : Int, 1 ≤ a ∧ SIa τ ρ a t := fun q => by
      rcases q with q | q | q | q | q
      · exact ⟨1, by decide, q⟩
      · exact ⟨2, by decide, q⟩
      · exact ⟨3, by decide, q⟩
      · exact ⟨4, by decide, q⟩
      · exact ⟨5, by decide, q⟩
    refine ⟨fun q => ?_, fun q => ?_, fun q => ?_⟩
    · rcases q with q | q
      · exact id q.1 q.2.2
      · exact id q.1 q.2.1
    · obtain ⟨a, -, q⟩ := sx q
      exact id q.1 q.2.2.2.2
    · obtain ⟨q1, q2⟩ := q
      obtain ⟨a, a1, q2⟩ := sx q2
      rcases q1 with q | q
      · exact q.2.1 q2.2.1
      · rcases id_cs hR h (t := t) (by omega) (by omega) q.1 q.2.1 with ⟨c, -⟩ | ⟨-, -, c⟩
        · exact c.2.1 q2.2.1
        · have e1 := q.2.2
          rw [q2.2.2.2.1] at c
          split at c <;> omega)
  have i3 := ctq_sm' (P := fun t => idq τ t = 1) (f := idq τ) (s := s) k (fun t _ _ e => by omega)
  omega

-- STAR9: as STAR8, with doomed ASKs in place of refused ones
theorem STAR9 {L s0 : Nat} {τ : Nat → qS} (hR : RNN L τ) (hs : ∀ t, t ≤ 7 * L → psame (τ 0) (τ t)) (hJ : ∀ t, t ≤ 7 * L → JOm (τ t) ≠ none) {A : Nat → List (Ms × Nat × Nat)} {ρ : Nat → qS × qS × qS} {B : Nat → List (Ms × Nat × Nat) × List (Ms × Nat × Nat) × List (Ms × Nat × Nat)} (h : ANC L s0 τ A ρ B) (h7 : 224 ≤ s0) {ch : Nat → Nat} {r0 n : Nat} (h1 : s0 + 900 ≤ 7 * r0) (h2 : r0 + n ≤ L) (hc : ∀ r, ch r < 6) (ht : ∀ r, r0 ≤ r → r < r0 + n → T1t A (7 * r + ch r)) (X : Nat → Prop) :
    7 * smq (gtq τ) (7 * r0) (7 * n) + 3 * ctq (AXk τ A ρ B) (7 * r0) (7 * n) + 3 * smq (jkq τ ρ) (7 * r0) (7 * n) + 6 * ctq (GAt τ) (7 * r0) (7 * n) + 6 * ctq (fun b => (gq τ (b - 1) = 1 ∧ NAb L s0 τ A ρ B b) ∧ X b) (7 * r0 - 448) (7 * n + 448) + 124 * lkc τ (7 * r0 - 217)
    ≤ 124 * lkc τ (7 * r0 + 7 * n) + 3 * smq (gsq τ) (7 * r0) (7 * n) + 4 * ctq (DNt τ ρ) (7 * r0) (7 * n) + 6 * smq (jsq τ ρ) (7 * r0) (7 * n) + 2 * ctq (fun u => gtq τ u = 1 ∧ OWb L s0 τ A ρ B (u - 90)) (7 * r0) (7 * n) + 2 * ctq (fun b => PNb L s0 τ A ρ B b ∧ ∃ t i, 7 * r0 ≤ t ∧ t < 7 * r0 + 7 * n ∧ i < 3 ∧ CHd L s0 τ A B ch t ∧ rdk τ A ρ B 5 t i b) (7 * r0 - 448) (7 * n + 448)
      + (ctq (fun b => (NAb L s0 τ A ρ B b ∧ X b) ∧ ∃ t i, 7 * r0 ≤ t ∧ t < 7 * r0 + 7 * n ∧ i < 3 ∧ CHc ch t ∧ rdk τ A ρ B 6 t i b) (7 * r0 - 448) (7 * n + 448) + ctq (fun b => (NAb L s0 τ A ρ B b ∧ X b) ∧ ∃ t i, 7 * r0 ≤ t ∧ t < 7 * r0 + 7 * n ∧ i < 3 ∧ CHc ch t ∧ rdk τ A ρ B 5 t i b) (7 * r0 - 448) (7 * n + 448)) + 2 * (ctq (fun b => (NAb L s0 τ A ρ B b ∧ X b) ∧ ∃ t i, 7 * r0 ≤ t ∧ t < 7 * r0 + 7 * n ∧ i < 3 ∧ CHd L s0 τ A B ch t ∧ rdk τ A ρ B 6 t i b) (7 * r0 - 448) (7 * n + 448) + ctq (fun b => (NAb L s0 τ A ρ B b ∧ X b) ∧ ∃ t i, 7 * r0 ≤ t ∧ t < 7 * r0 + 7 * n ∧ i < 3 ∧ CHd L s0 τ A B ch t ∧ rdk τ A ρ B 5 t i b) (7 * r0 - 448) (7 * n + 448)) + 22000 := by
  have x := STAR3 hR hs hJ h h7 h1 h2 hc ht
  have gc := GCz hR h (s := 7 * r0) (k := 7 * n) (by omega) (by omega) (CHc ch)
  have gd := GCz hR h (s := 7 * r0) (k := 7 * n) (by omega) (by omega) (CHd L s0 τ A B ch)
  have ix := IDX3 hR h (s := 7 * r0) (k := 7 * n) (by omega) (by omega) (by omega)
  have ax := ctq_2 (P := AXs τ A ρ B) (Q := AXk τ A ρ B) (R := AXt τ A ρ B) (s := 7 * r0) (7 * n) (fun t _ _ => ⟨fun q => q.1, fun q => q.1, fun q => q.2.2 q.1.2⟩)
  have e := T3 h (n := 7 * n) h1
  have f := gq_sum τ (7 * r0) (7 * n)
  have d := T4x hR h h7 h1 (by omega : 7 * r0 + 7 * n ≤ 7 * L) (fun _ => False)
  have z0 : ctq (fun t => False ∧ ∃ b, ACC τ A ρ B t b) (7 * r0) (7 * n) = 0 := ctq_off _ (fun t _ _ q => q.1)
  have dj := ctq_2 (P := fun b => (gq τ (b - 1) = 1 ∧ NAb L s0 τ A ρ B b) ∧ X b) (Q := fun b => (gq τ (b - 1) = 1 ∧ NAb L s0 τ A ρ B b) ∧ ¬ X b) (R := fun b => gq τ (b - 1) = 1 ∧ NAb L s0 τ A ρ B b) (s := 7 * r0 - 448) (7 * n + 448) (fun b _ _ => ⟨fun q => q.1, fun q => q.1, fun q => q.2.2 q.1.2⟩)
  have sp := ctq_add (P := fun b => gq τ (b - 1) = 1 ∧ NAb L s0 τ A ρ B b) (Q := X) (s := 7 * r0 - 448) (7 * n + 448)
  have mm : ∀ (P : Nat → Prop) (k : Int), (k = 5 ∨ k = 6) → ctq (fun b => NAb L s0 τ A ρ B b ∧ ∃ t i, 7 * r0 ≤ t ∧ t < 7 * r0 + 7 * n ∧ i < 3 ∧ P t ∧ rdk τ A ρ B k t i b) (7 * r0 - 448) (7 * n + 448) ≤ ctq (fun b => (NAb L s0 τ A ρ B b ∧ X b) ∧ ∃ t i, 7 * r0 ≤ t ∧ t < 7 * r0 + 7 * n ∧ i < 3 ∧ P t ∧ rdk τ A ρ B k t i b) (7 * r0 - 448) (7 * n + 448) + ctq (fun b => (gq τ (b - 1) = 1 ∧ NAb L s0 τ A ρ B b) ∧ ¬ X b) (7 * r0 - 448) (7 * n + 448) := fun P k hk => ctq_or _ (fun b b1 b2 q => by
    obtain ⟨na, t, i, t1, t2, hi, hp, hr⟩ := q
    by_cases c : X b
    · exact Or.inl ⟨⟨na, c⟩, t, i, t1, t2, hi, hp, hr⟩
    · exact Or.inr ⟨⟨rd_g h hk (by omega) (by omega) hi (by omega) hr, na⟩, c⟩)
  have m1 := mm (CHc ch) 5 (Or.inl rfl)
  have m2 := mm (CHc ch) 6 (Or.inr rfl)
  have m3 := mm (CHd L s0 τ A B ch) 5 (Or.inl rfl)
  have m4 := mm (CHd L s0 τ A B ch) 6 (Or.inr rfl)
  omega

