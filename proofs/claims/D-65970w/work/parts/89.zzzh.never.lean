theorem ACC_tk {L s0 : Nat} {τ : Nat → qS} {A : Nat → List (Ms × Nat × Nat)} {ρ : Nat → qS × qS × qS} {B : Nat → List (Ms × Nat × Nat) × List (Ms × Nat × Nat) × List (Ms × Nat × Nat)} (h : ANC L s0 τ A ρ B) {b : Nat} (hb : s0 < b) {t : Nat} (h1 : s0 ≤ t) (h2 : t < 7 * L) (ha : ACC τ A ρ B t b) : ∃ v : Nat, v < 6 ∧ (b - 1) % 7 = v ∧ t % 7 = v ∧ fe (τ b) v = 1 ∧ b ≤ t ∧ ∃ σ : qS, (σ = τ t ∨ σ = (ρ t).1 ∨ σ = (ρ t).2.1) ∧ 38 ≤ σ 62 v ∧ plc σ v = plc (τ b) v := by
  obtain ⟨h6, y, yb, c⟩ := ha
  obtain ⟨-, -, r1, r2, r3, -⟩ := h.2 t h1 h2 h6
  have k0 := ANR_tk h.1 (t - s0) (by omega)
  rw [show s0 + (t - s0) = t by omega] at k0
  have k1 := RDn_tk r1 k0
  have k2 := RDn_tk r2 k1
  have fin : ∀ (σ : qS) (C : List (Ms × Nat × Nat)), TKa s0 τ t C → acy ((t % 7 : Nat) : Int) σ C y → (σ = τ t ∨ σ = (ρ t).1 ∨ σ = (ρ t).2.1) → ∃ v : Nat, v < 6 ∧ (b - 1) % 7 = v ∧ t % 7 = v ∧ fe (τ b) v = 1 ∧ b ≤ t ∧ ∃ σ : qS, (σ = τ t ∨ σ = (ρ t).1 ∨ σ = (ρ t).2.1) ∧ 38 ≤ σ 62 v ∧ plc σ v = plc (τ b) v := fun σ C hC hac hσ => by
    obtain ⟨⟨i, a1, a2⟩, -, a6, f1, f2, f3, f4⟩ := hac
    have my := List.mem_of_getElem? a2
    obtain ⟨e1, -, -, v, v1, v2, v3, v4, v5⟩ := hC y my ((tokb_i y).mpr (Or.inr a6)) (by omega)
    have n5 : ¬ xw y.1 0 = 5 := by omega
    have ea : asr y.1 = y.1.1 := by unfold asr; exact if_neg n5
    obtain ⟨g0, g1, -⟩ := List.findIdx?_eq_some_iff_getElem.mp a1
    have hi : i < C.length := by rw [pr_len] at g0; exact g0
    have ey : C[i] = y := by rw [List.getElem?_eq_getElem hi] at a2; exact Option.some.inj a2
    have wy : y.1.1 = ((t % 7 : Nat) : Int) := by
      have : (prA C)[i] = y.1 := by rw [pr_gi C i g0 hi, ey]
      rw [this] at g1
      simpa using g1
    have tv : t % 7 = v := by
      rw [ea, wy] at v3
      omega
    have tp : tpl y.1 = (xw y.1 5, xw y.1 2, xw y.1 3) := by unfold tpl; exact if_neg n5
    rw [tv] at f1 f2 f3 f4
    refine ⟨v, v1, by rw [← yb]; exact v2, tv, by rw [← yb]; exact v5, by omega, σ, hσ, f1, ?_⟩
    rw [← yb, ← v4, tp]
    unfold plc
    rw [f2, f3, f4]
  rcases c with c | c | c
  · exact fin _ _ k0 c (Or.inl rfl)
  · exact fin _ _ k1 c (Or.inr (Or.inl rfl))
  · exact fin _ _ k2 c (Or.inr (Or.inr rfl))
theorem ctq_2 {P Q R : Nat → Prop} {s : Nat} : ∀ k, (∀ t, s ≤ t → t < s + k → (P t → R t) ∧ (Q t → R t) ∧ ¬ (P t ∧ Q t)) → ctq P s k + ctq Q s k ≤ ctq R s k
  | 0, _ => by simp [ctq]
  | k + 1, h => by
    have a := ctq_2 k (fun t h1 h2 => h t h1 (by omega))
    obtain ⟨b1, b2, b3⟩ := h (s + k) (by omega) (by omega)
    simp only [ctq]
    by_cases p : P (s + k)
    · have q : ¬ Q (s + k) := fun q => b3 ⟨p, q⟩
      rw [if_pos p, if_neg q, if_pos (b1 p)]; omega
    · rw [if_neg p]
      by_cases q : Q (s + k)
      · rw [if_pos q, if_pos (b2 q)]; omega
      · rw [if_neg q]; omega
theorem NA_2 {L s0 : Nat} {τ : Nat → qS} (hR : RNN L τ) {A : Nat → List (Ms × Nat × Nat)} {ρ : Nat → qS × qS × qS} {B : Nat → List (Ms × Nat × Nat) × List (Ms × Nat × Nat) × List (Ms × Nat × Nat)} (h : ANC L s0 τ A ρ B) (h7 : 7 ≤ s0) {k : Nat} (hk : s0 + k ≤ 7 * L) : ctq (fun u => gq τ u = 1 ∧ ¬ ∃ t, s0 ≤ t ∧ t < s0 + k ∧ ACC τ A ρ B t (u + 1)) s0 k ≤ 95 + smq (gsq τ) s0 k + smq (gtq τ) s0 k := by
  have a := NA_1 hR h h7 hk
  have b := ctq_2 (P := fun u => gq τ u = 1 ∧ ¬ ∃ t, s0 ≤ t ∧ t < s0 + k ∧ ACC τ A ρ B t (u + 1)) (Q := fun u => ∃ t, s0 ≤ t ∧ t < s0 + k ∧ ACC τ A ρ B t (u + 1)) (R := fun u => gq τ u = 1) (s := s0) k (fun u h1 h2 => by
    refine ⟨fun e => e.1, fun e => ?_, fun e => e.1.2 e.2⟩
    obtain ⟨t, q1, q2, q3⟩ := e
    obtain ⟨v, v1, v2, -, v4, -⟩ := ACC_tk h (by omega) q1 (by omega) q3
    have eu : u % 7 = v := by omega
    unfold gq
    rw [if_pos (by omega), eu]
    exact v4)
  have c := ctq_sm' (P := fun u => gq τ u = 1) (f := gq τ) (s := s0) k (fun t _ _ e => by omega)
  have d : smq (gq τ) s0 k = smq (ffq τ) s0 k + smq (gsq τ) s0 k + smq (gtq τ) s0 k := by
    have e : gq τ = fun t => (ffq τ t + gsq τ t) + gtq τ t := funext (fun t => by
      have := gsq_b τ t
      unfold ffq; omega)
    have f := smq_add (f := fun t => ffq τ t + gsq τ t) (g := gtq τ) (s := s0) k
    have f' := smq_add (f := ffq τ) (g := gsq τ) (s := s0) k
    rw [← e] at f
    omega
  omega

