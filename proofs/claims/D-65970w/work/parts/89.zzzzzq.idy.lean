def sx6 (f : Int → Nat) : Nat := f 0 + f 1 + f 2 + f 3 + f 4 + f 5
theorem sx6_w {f g : Int → Nat} {w a b : Nat} (hw : w < 6) (h : g (w : Int) + a ≤ f (w : Int) + b) (o : ∀ v : Int, (w : Int) ≠ v → 0 ≤ v ∧ v < 6 → g v = f v) : sx6 g + a ≤ sx6 f + b := by
  unfold sx6
  rcases (by omega : w = 0 ∨ w = 1 ∨ w = 2 ∨ w = 3 ∨ w = 4 ∨ w = 5) with e | e | e | e | e | e <;> subst e
  · have h' : g 0 + a ≤ f 0 + b := h
    have o1 := o 1 (by decide) (by decide)
    have o2 := o 2 (by decide) (by decide)
    have o3 := o 3 (by decide) (by decide)
    have o4 := o 4 (by decide) (by decide)
    have o5 := o 5 (by decide) (by decide)
    omega
  · have h' : g 1 + a ≤ f 1 + b := h
    have o0 := o 0 (by decide) (by decide)
    have o2 := o 2 (by decide) (by decide)
    have o3 := o 3 (by decide) (by decide)
    have o4 := o 4 (by decide) (by decide)
    have o5 := o 5 (by decide) (by decide)
    omega
  · have h' : g 2 + a ≤ f 2 + b := h
    have o0 := o 0 (by decide) (by decide)
    have o1 := o 1 (by decide) (by decide)
    have o3 := o 3 (by decide) (by decide)
    have o4 := o 4 (by decide) (by decide)
    have o5 := o 5 (by decide) (by decide)
    omega
  · have h' : g 3 + a ≤ f 3 + b := h
    have o0 := o 0 (by decide) (by decide)
    have o1 := o 1 (by decide) (by decide)
    have o2 := o 2 (by decide) (by decide)
    have o4 := o 4 (by decide) (by decide)
    have o5 := o 5 (by decide) (by decide)
    omega
  · have h' : g 4 + a ≤ f 4 + b := h
    have o0 := o 0 (by decide) (by decide)
    have o1 := o 1 (by decide) (by decide)
    have o2 := o 2 (by decide) (by decide)
    have o3 := o 3 (by decide) (by decide)
    have o5 := o 5 (by decide) (by decide)
    omega
  · have h' : g 5 + a ≤ f 5 + b := h
    have o0 := o 0 (by decide) (by decide)
    have o1 := o 1 (by decide) (by decide)
    have o2 := o 2 (by decide) (by decide)
    have o3 := o 3 (by decide) (by decide)
    have o4 := o 4 (by decide) (by decide)
    omega
def bzy (σ : qS) (v : Int) : Nat := if σ 62 v = -1 then 0 else 1
theorem bzy_b (σ : qS) (v : Int) : bzy σ v ≤ 1 := by unfold bzy; split <;> omega
theorem bz_t {L s0 : Nat} {τ : Nat → qS} (hR : RNN L τ) {A : Nat → List (Ms × Nat × Nat)} {ρ : Nat → qS × qS × qS} {B : Nat → List (Ms × Nat × Nat) × List (Ms × Nat × Nat) × List (Ms × Nat × Nat)} (h : ANC L s0 τ A ρ B) {t : Nat} (h1 : s0 ≤ t) (h2 : t < 7 * L) : sx6 (bzy (τ (t + 1))) + (@ite Nat (FZt τ ρ t) (Classical.propDecidable _) 1 0) ≤ sx6 (bzy (τ t)) + gdq τ ρ t := by
  have o : ∀ v : Int, ((t % 7 : Nat) : Int) ≠ v → 0 ≤ v ∧ v < 6 → bzy (τ (t + 1)) v = bzy (τ t) v := fun v hv hw => by
    unfold bzy
    rw [STP_w (hR.2 t h2) hv hw 62 (by decide)]
  by_cases h6 : t % 7 < 6
  · refine sx6_w h6 ?_ o
    obtain ⟨⟨r1, r2, r3, a, ⟨j1, j2, -, -⟩, -⟩, -⟩ := h.2 t h1 h2 h6
    have up : τ t 62 ((t % 7 : Nat) : Int) ≠ -1 → (ρ t).2.2 62 ((t % 7 : Nat) : Int) ≠ -1 := fun n e => by
      obtain ⟨c2, -⟩ := RD_id r3 j2 e
      obtain ⟨c1, -⟩ := RD_id r2 j1 c2
      obtain ⟨c0, -⟩ := RD_id r1 (hR.1 t (by omega)).1 c1
      exact n c0
    have dn : (ρ t).2.2 62 ((t % 7 : Nat) : Int) = -1 → τ (t + 1) 62 ((t % 7 : Nat) : Int) = -1 := fun e => by
      obtain ⟨-, -, -, z⟩ := a
      rcases z with ⟨-, -, z, -⟩ | ⟨z, -⟩ | ⟨z, -⟩
      · exact z
      · omega
      · omega
    by_cases c : τ t 62 ((t % 7 : Nat) : Int) = -1
    · by_cases d : (ρ t).2.2 62 ((t % 7 : Nat) : Int) = -1
      · have b0 : bzy (τ (t + 1)) ((t % 7 : Nat) : Int) = 0 := by unfold bzy; exact if_pos (dn d)
        rw [b0, if_neg (fun q => q.2.1 d)]
        exact Nat.zero_le _
      · have g1 : gdq τ ρ t = 1 := by unfold gdq; exact if_pos ⟨h6, c, d⟩
        have b0 := bzy_b (τ (t + 1)) ((t % 7 : Nat) : Int)
        by_cases f : FZt τ ρ t
        · have b1 : bzy (τ (t + 1)) ((t % 7 : Nat) : Int) = 0 := by unfold bzy; exact if_pos f.2.2
          rw [if_pos f, b1, g1]
          omega
        · rw [if_neg f, g1]
          omega
    · have b1 : bzy (τ t) ((t % 7 : Nat) : Int) = 1 := by unfold bzy; exact if_neg c
      have b0 := bzy_b (τ (t + 1)) ((t % 7 : Nat) : Int)
      by_cases f : FZt τ ρ t
      · have b2 : bzy (τ (t + 1)) ((t % 7 : Nat) : Int) = 0 := by unfold bzy; exact if_pos f.2.2
        rw [if_pos f, b2, b1]
        omega
      · rw [if_neg f, b1]
        omega
  · have o0 := o 0 (by omega) (by decide)
    have o1 := o 1 (by omega) (by decide)
    have o2 := o 2 (by omega) (by decide)
    have o3 := o 3 (by omega) (by decide)
    have o4 := o 4 (by omega) (by decide)
    have o5 := o 5 (by omega) (by decide)
    rw [if_neg (fun q => h6 q.1)]
    unfold sx6
    omega
theorem BZk {L s0 : Nat} {τ : Nat → qS} (hR : RNN L τ) {A : Nat → List (Ms × Nat × Nat)} {ρ : Nat → qS × qS × qS} {B : Nat → List (Ms × Nat × Nat) × List (Ms × Nat × Nat) × List (Ms × Nat × Nat)} (h : ANC L s0 τ A ρ B) {s : Nat} (h1 : s0 ≤ s) : ∀ k, s + k ≤ 7 * L → sx6 (bzy (τ (s + k))) + ctq (FZt τ ρ) s k ≤ sx6 (bzy (τ s)) + smq (gdq τ ρ) s k
  | 0, _ => by simp [smq, ctq]
  | k + 1, hl => by
    have ih := BZk hR h h1 k (by omega)
    have b := bz_t hR h (t := s + k) (by omega) (by omega)
    rw [show s + (k + 1) = s + k + 1 by omega]
    simp only [ctq, smq]
    omega
theorem sx6_b (σ : qS) : sx6 (bzy σ) ≤ 6 := by
  unfold sx6
  have := bzy_b σ 0
  have := bzy_b σ 1
  have := bzy_b σ 2
  have := bzy_b σ 3
  have := bzy_b σ 4
  have := bzy_b σ 5
  omega
theorem gd_gv {L s0 : Nat} {τ : Nat → qS} (hR : RNN L τ) {A : Nat → List (Ms × Nat × Nat)} {ρ : Nat → qS × qS × qS} {B : Nat → List (Ms × Nat × Nat) × List (Ms × Nat × Nat) × List (Ms × Nat × Nat)} (h : ANC L s0 τ A ρ B) {t : Nat} (h1 : s0 ≤ t) (h2 : t < 7 * L) : gdq τ ρ t ≤ gvq τ ρ t := by
  unfold gdq
  split
  · rename_i c
    obtain ⟨h6, c0, c3⟩ := c
    obtain ⟨⟨r1, r2, r3, -⟩, -⟩ := h.2 t h1 h2 h6
    unfold gvq
    rw [if_pos h6]
    by_cases c1 : (ρ t).1 62 ((t % 7 : Nat) : Int) = -1
    · by_cases c2 : (ρ t).2.1 62 ((t % 7 : Nat) : Int) = -1
      · have := RD_gd r3 c2 c3; omega
      · have := RD_gd r2 c1 c2; omega
    · have := RD_gd r1 c0 c1; omega
  · exact Nat.zero_le _
-- GIVEs read by a worker that is not idle
noncomputable def jkq (τ : Nat → qS) (ρ : Nat → qS × qS × qS) (t : Nat) : Nat := gvq τ ρ t - gdq τ ρ t
theorem jk_s {L s0 : Nat} {τ : Nat → qS} (hR : RNN L τ) {A : Nat → List (Ms × Nat × Nat)} {ρ : Nat → qS × qS × qS} {B : Nat → List (Ms × Nat × Nat) × List (Ms × Nat × Nat) × List (Ms × Nat × Nat)} (h : ANC L s0 τ A ρ B) {s : Nat} (h1 : s0 ≤ s) : ∀ k, s + k ≤ 7 * L → smq (gdq τ ρ) s k + smq (jkq τ ρ) s k = smq (gvq τ ρ) s k
  | 0, _ => by simp [smq]
  | k + 1, hl => by
    have ih := jk_s hR h h1 k (by omega)
    have b := gd_gv hR h (t := s + k) (by omega) (by omega)
    have c : jkq τ ρ (s + k) = gvq τ ρ (s + k) - gdq τ ρ (s + k) := rfl
    simp only [smq]
    omega
-- ends of tasks that are no kills (DONEs)
def DNt (τ : Nat → qS) (ρ : Nat → qS × qS × qS) (t : Nat) : Prop := FZt τ ρ t ∧ ¬ KAt τ t
theorem KA_fz {L s0 : Nat} {τ : Nat → qS} (hR : RNN L τ) {A : Nat → List (Ms × Nat × Nat)} {ρ : Nat → qS × qS × qS} {B : Nat → List (Ms × Nat × Nat) × List (Ms × Nat × Nat) × List (Ms × Nat × Nat)} (h : ANC L s0 τ A ρ B) {t : Nat} (h1 : s0 ≤ t) (h2 : t < 7 * L) (hk : KAt τ t) : FZt τ ρ t := by
  obtain ⟨h6, -, k2, k3⟩ := hk
  obtain ⟨⟨r1, r2, r3, a, ⟨-, -, j3, -⟩, -⟩, -⟩ := h.2 t h1 h2 h6
  have e1 := RD_tk r1 (by omega)
  have e2 := RD_tk r2 (by omega)
  have e3 := RD_tk r3 (by omega)
  have sb := (spl_b j3.1).2
  refine ⟨h6, by omega, ?_⟩
  obtain ⟨-, -, -, z⟩ := a
  rcases z with ⟨z, -⟩ | ⟨z0, z⟩ | ⟨z0, z⟩
  · omega
  · omega
  · rcases z with ⟨-, -, f, -⟩ | ⟨-, -, -, -, f, -⟩ | ⟨-, -, -, -, -, -, f, -⟩ | ⟨-, -, -, -, -, f, -⟩ | ⟨-, -, f, -⟩
    · exact f.1
    · exact f.1
    · omega
    · omega
    · exact f.1
theorem IDX {L s0 : Nat} {τ : Nat → qS} (hR : RNN L τ) {A : Nat → List (Ms × Nat × Nat)} {ρ : Nat → qS × qS × qS} {B : Nat → List (Ms × Nat × Nat) × List (Ms × Nat × Nat) × List (Ms × Nat × Nat)} (h : ANC L s0 τ A ρ B) {s k : Nat} (h7 : 7 ≤ s) (h1 : s0 + 7 ≤ s) (h2 : s + k ≤ 7 * L) : 2 * smq (gsq τ) s k + 2 * ctq (DNt τ ρ) s k + 6 * smq (jkq τ ρ) s k ≤ smq (idq τ) s k + 800 := by
  have si := SI5 hR h h1 h2
  have as := ctq_b7 (P := ASKt τ) (Q := fun t => FZt τ ρ t ∨ SIa τ ρ 5 t) (s := s) (k := k) h7 (fun t t1 t2 q => ask_pv hR h (by omega) (by omega) q)
  have as2 := ctq_or (P := fun t => FZt τ ρ t ∨ SIa τ ρ 5 t) (Q := FZt τ ρ) (R := SIa τ ρ 5) (s := s) k (fun t _ _ q => q)
  have g := GVB hR h (s := s) (by omega) k h2
  have g0 : qAG (τ s) ≤ 95 := by
    have l := run_95 hR (by omega) h7 (by omega : s ≤ 7 * L)
    have : qAG (τ s) ≤ (ln (τ s)).length := List.countP_le_length
    omega
  have jk := jk_s hR h (s := s) (by omega) k h2
  have bz := BZk hR h (s := s) (by omega) k h2
  have b6 := sx6_b (τ s)
  have kl := KLA hR (s := s) k h2
  have e6 : rrs (τ (s + k)) ≤ 6 := by
    unfold rrs
    have := rr_b (τ (s + k)) 0
    have := rr_b (τ (s + k)) 1
    have := rr_b (τ (s + k)) 2
    have := rr_b (τ (s + k)) 3
    have := rr_b (τ (s + k)) 4
    have := rr_b (τ (s + k)) 5
    omega
  have kd := ctq_2 (P := KAt τ) (Q := DNt τ ρ) (R := FZt τ ρ) (s := s) k (fun t t1 t2 => ⟨fun q => KA_fz hR h (by omega) (by omega) q, fun q => q.1, fun q => q.2.2 q.1⟩)
  have i1 := ctq_2 (P := FZt τ ρ) (Q := ASKt τ) (R := fun t => FZt τ ρ t ∨ ASKt τ t) (s := s) k (fun t t1 t2 => ⟨Or.inl, Or.inr, fun q => by
    obtain ⟨f, h6, k1, k2⟩ := q
    rcases id_cs hR h (t := t) (by omega) (by omega) h6 k1 with ⟨-, c⟩ | ⟨c, -⟩
    · omega
    · exact f.2.1 c⟩)
  have i2 := ctq_2 (P := fun t => FZt τ ρ t ∨ ASKt τ t) (Q := SIt τ ρ) (R := fun t => idq τ t = 1) (s := s) k (fun t t1 t2 => by
    have id : t % 7 < 6 → τ (t + 1) 62 ((t % 7 : Nat) : Int) = -1 → idq τ t = 1 := fun h6 e => by
      unfold idq
      rw [if_pos h6, if_neg (by omega)]
    have sx : SIt τ ρ t → ∃ a : Int, 1 ≤ a ∧ SIa τ ρ a t := fun q => by
      rcases q with q | q | q | q | q
      · exact ⟨1, by decide, q⟩
      · exact ⟨2, by decide, q⟩
      · exact ⟨3, by decide, q⟩
      · exact ⟨4, by decide, q⟩
      · exact ⟨5, by decide, q⟩
    refine ⟨fun q => ?_, fun q => ?_, fun q => ?_⟩
    · rcases q with q | q
      · exact id q.1 q.2.2
      · exact id q.1 q.2.1
    · obtain ⟨a, -, q⟩ := sx q
      exact id q.1 q.2.2.2.2
    · obtain ⟨q1, q2⟩ := q
      obtain ⟨a, a1, q2⟩ := sx q2
      rcases q1 with q | q
      · exact q.2.1 q2.2.1
      · rcases id_cs hR h (t := t) (by omega) (by omega) q.1 q.2.1 with ⟨c, -⟩ | ⟨-, -, c⟩
        · exact c.2.1 q2.2.1
        · have e1 := q.2.2
          rw [q2.2.2.2.1] at c
          split at c <;> omega)
  have i3 := ctq_sm' (P := fun t => idq τ t = 1) (f := idq τ) (s := s) k (fun t _ _ e => by omega)
  omega

