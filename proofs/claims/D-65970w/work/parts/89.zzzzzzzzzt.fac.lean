-- FAC: names born by g and accepted by v from T on were tokens of v on the line at T
theorem tb_bk {L s0 : Nat} {τ : Nat → qS} (hR : RNN L τ) {A : Nat → List (Ms × Nat × Nat)} {ρ : Nat → qS × qS × qS} {B : Nat → List (Ms × Nat × Nat) × List (Ms × Nat × Nat) × List (Ms × Nat × Nat)} (h : ANC2 L s0 τ A ρ B) {T b : Nat} (T0 : s0 ≤ T) (hb : b ≤ T) (h0 : tbc b (A T) = 0) : ∀ k, T + k ≤ 7 * L → tbc b (A (T + k)) = 0
  | 0, _ => h0
  | k + 1, hl => tb_dn hR h (T := T + k) (by omega) (by omega) (by omega) (tb_bk hR h T0 hb h0 k (by omega))
theorem FAC {L s0 : Nat} {τ : Nat → qS} (hR : RNN L τ) {A : Nat → List (Ms × Nat × Nat)} {ρ : Nat → qS × qS × qS} {B : Nat → List (Ms × Nat × Nat) × List (Ms × Nat × Nat) × List (Ms × Nat × Nat)} (h : ANC2 L s0 τ A ρ B) (h7 : 224 ≤ s0) {v : Nat} (hv : v < 6) {T g k : Nat} (hT : s0 + 448 < T) (hg : g ≤ T) (hl : T + k ≤ 7 * L) : ctq (fun u => u % 7 = v ∧ ∃ b, s0 < b ∧ b ≤ g ∧ ACC τ A ρ B u b) T k ≤ kvg v g (A T) := by
  have tk := ANR_tk h.1.1 (T - s0) (by omega)
  rw [show s0 + (T - s0) = T by omega] at tk
  have pick : ∀ u, ∃ b, (u % 7 = v ∧ ∃ b, s0 < b ∧ b ≤ g ∧ ACC τ A ρ B u b) → (s0 < b ∧ b ≤ g ∧ ACC τ A ρ B u b) := fun u => by
    by_cases c : u % 7 = v ∧ ∃ b, s0 < b ∧ b ≤ g ∧ ACC τ A ρ B u b
    · obtain ⟨-, b, q⟩ := c
      exact ⟨b, fun _ => q⟩
    · exact ⟨0, fun q => absurd q c⟩
  have on : ∀ u, T ≤ u → u < T + k → (u % 7 = v ∧ ∃ b, s0 < b ∧ b ≤ g ∧ ACC τ A ρ B u b) → 1 ≤ tbc (Classical.choose (pick u)) (A T) ∧ T < Classical.choose (pick u) + 448 := fun u u1 u2 q => by
    obtain ⟨q1, q2, q3⟩ := Classical.choose_spec (pick u) q
    have o := ANC_once h.1 q1 (by omega) (by omega) q3
    have t1 : 1 ≤ tbc (Classical.choose (pick u)) (A T) := by
      apply Classical.byContradiction
      intro n
      have z := tb_bk hR h (T := T) (by omega) (by omega : Classical.choose (pick u) ≤ T) (by omega) (u - T) (by omega)
      rw [show T + (u - T) = u by omega] at z
      omega
    refine ⟨t1, ?_⟩
    obtain ⟨z, hz, pz⟩ := List.countP_pos_iff.mp (by unfold tbc at t1; omega : 0 < (A T).countP (fun x => tokb x && decide (x.2.2 = Classical.choose (pick u))))
    rw [Bool.and_eq_true] at pz
    have zb := of_decide_eq_true pz.2
    have l := LIFE64 hR h.1.1 h7 (t := T) (by omega) (by omega) hz pz.1
    omega
  have i := ctq_inj (P := fun u => u % 7 = v ∧ ∃ b, s0 < b ∧ b ≤ g ∧ ACC τ A ρ B u b) (f := fun u => Classical.choose (pick u)) (s := T) (a := T - 447) (m := 448) k (fun b => b ≤ g ∧ (b - 1) % 7 = v ∧ 1 ≤ tbc b (A T)) (fun u u1 u2 q => by
    obtain ⟨q1, q2, q3⟩ := Classical.choose_spec (pick u) q
    obtain ⟨o1, o2⟩ := on u u1 u2 q
    obtain ⟨w, w6, w2, w3, -⟩ := ACC_tk h.1 q1 (by omega) (by omega) q3
    exact ⟨by omega, by omega, q2, by omega, o1⟩) (fun u u' u1 u2 u1' u2' q q' e => by
    obtain ⟨q1, q2, q3⟩ := Classical.choose_spec (pick u) q
    obtain ⟨r1, r2, r3⟩ := Classical.choose_spec (pick u') q'
    have e : Classical.choose (pick u) = Classical.choose (pick u') := e
    rw [← e] at r3
    have o := ANC_once h.1 q1 (by omega) (by omega) q3
    have o' := ANC_once h.1 q1 (by omega) (by omega) r3
    rcases Nat.lt_trichotomy u u' with c | c | c
    · have := o.2.2 u' c (by omega)
      omega
    · exact c
    · have := o'.2.2 u c (by omega)
      omega)
  have a := ctq_sm' (P := fun b => b ≤ g ∧ (b - 1) % 7 = v ∧ 1 ≤ tbc b (A T)) (f := fun b => (A T).countP (fun z => decide (tokb z = true ∧ asr z.1 = v ∧ z.2.2 ≤ g) && decide (z.2.2 = b))) (s := T - 447) 448 (fun b b1 b2 q => by
    obtain ⟨bg, e, t1⟩ := q
    obtain ⟨z, hz, pz⟩ := List.countP_pos_iff.mp (by unfold tbc at t1; omega : 0 < (A T).countP (fun x => tokb x && decide (x.2.2 = b)))
    rw [Bool.and_eq_true] at pz
    have zb := of_decide_eq_true pz.2
    obtain ⟨-, -, -, u, u6, u2, u3, -⟩ := tk z hz pz.1 (by omega)
    rw [zb] at u2
    have uv : u = v := by omega
    subst uv
    exact List.countP_pos_iff.mpr ⟨z, hz, by rw [decide_eq_true (⟨pz.1, u3, by omega⟩ : tokb z = true ∧ asr z.1 = u ∧ z.2.2 ≤ g), decide_eq_true zb]; rfl⟩)
  have b := cp_smq (fun z => decide (tokb z = true ∧ asr z.1 = v ∧ z.2.2 ≤ g)) (s := T - 447) (A T) 448
  have c : (A T).countP (fun y => decide (tokb y = true ∧ asr y.1 = v ∧ y.2.2 ≤ g) && decide (y.2.2 < T - 447 + 448)) ≤ kvg v g (A T) := by
    unfold kvg
    refine List.countP_mono_left (fun y _ hh => ?_)
    rw [Bool.and_eq_true] at hh
    exact hh.1
  omega

