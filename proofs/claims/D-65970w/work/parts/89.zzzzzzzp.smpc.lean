-- covered rounds
def CVr (A : Nat → List (Ms × Nat × Nat)) (r : Nat) : Prop := ∃ v, v < 6 ∧ T1t A (7 * r + v)
theorem SMPr {L s0 : Nat} {τ : Nat → qS} (hR : RNN L τ) {A : Nat → List (Ms × Nat × Nat)} {ρ : Nat → qS × qS × qS} {B : Nat → List (Ms × Nat × Nat) × List (Ms × Nat × Nat) × List (Ms × Nat × Nat)} (h : ANC2 L s0 τ A ρ B) (h7 : 224 ≤ s0) {w : Nat} (hw : w < 6) {t : Nat} (ht : t % 7 = w) (h1 : 7 * 145 ≤ t) (h2 : t + 1 ≤ 7 * L) (hl : LKs (τ (t + 1)) w) {j : Nat} (j1 : 1 ≤ j) (j2 : j ≤ 143) {s : Nat} (es : s = t + 1 - 7 * j) (js : s0 < s) (ha : τ s 65 (w : Int) = 1) {n K : Nat} (eK : K = 7 * n + 6) (hK : s + K ≤ t + 1) (hF : zF (τ s) + osm false τ s K ≤ 93) {q : Nat} (eq : q = s / 7) : ∃ r1, ∀ r, q + 3 ≤ r → r ≤ q + n → (r < r1 ∨ r1 + 3 ≤ r) → CVr A r := by
  obtain ⟨b, k0, b6, -, c1, c2⟩ := SMP hR h h7 hw ht h1 h2 hl j1 j2 es js ha hK hF
  have e7 : s % 7 = w + 1 := by omega
  refine ⟨(s + k0) / 7, fun r r1 r2 r3 => ?_⟩
  rcases r3 with r3 | r3
  · obtain ⟨k, ek⟩ : ∃ k, s + k = 7 * r + b := ⟨7 * r + b - s, by omega⟩
    exact ⟨b, b6, by rw [← ek]; exact c1 k (by omega) (by omega) (by omega) (by omega)⟩
  · obtain ⟨k, ek⟩ : ∃ k, s + k = 7 * r + w := ⟨7 * r + w - s, by omega⟩
    exact ⟨w, hw, by rw [← ek]; exact c2 k (by omega) (by omega) (by omega)⟩
theorem ctq_gap {P : Nat → Prop} {q n r1 : Nat} (h : ∀ r, q + 3 ≤ r → r ≤ q + n → (r < r1 ∨ r1 + 3 ≤ r) → P r) : n ≤ ctq P (q + 1) n + 5 := by
  have a := ctq_all (P := fun _ => True) (s := q + 1) n (fun _ _ _ => trivial)
  have b := ctq_or (P := fun _ => True) (Q := P) (R := fun r => r = q + 1 ∨ r = q + 2 ∨ (r1 ≤ r ∧ r < r1 + 3)) (s := q + 1) n (fun r h1 h2 _ => by
    by_cases c : r = q + 1 ∨ r = q + 2 ∨ (r1 ≤ r ∧ r < r1 + 3)
    · exact Or.inr c
    · exact Or.inl (h r (by omega) (by omega) (by omega)))
  have c := ctq_or (P := fun r => r = q + 1 ∨ r = q + 2 ∨ (r1 ≤ r ∧ r < r1 + 3)) (Q := fun r => r = q + 1) (R := fun r => r = q + 2 ∨ (r1 ≤ r ∧ r < r1 + 3)) (s := q + 1) n (fun r _ _ p => p)
  have d := ctq_or (P := fun r => r = q + 2 ∨ (r1 ≤ r ∧ r < r1 + 3)) (Q := fun r => r = q + 2) (R := fun r => (r1 ≤ r ∧ r < r1 + 3)) (s := q + 1) n (fun r _ _ p => p)
  have e := ctq_or (P := fun r => (r1 ≤ r ∧ r < r1 + 3)) (Q := fun r => r = r1) (R := fun r => r = r1 + 1 ∨ r = r1 + 2) (s := q + 1) n (fun r _ _ p => by omega)
  have f := ctq_or (P := fun r => r = r1 + 1 ∨ r = r1 + 2) (Q := fun r => r = r1 + 1) (R := fun r => r = r1 + 2) (s := q + 1) n (fun r _ _ p => p)
  have o : ∀ x, ctq (fun r => r = x) (q + 1) n ≤ 1 := fun x => ctq_one n (fun t t' _ _ _ _ p p' => by omega)
  have o1 := o (q + 1)
  have o2 := o (q + 2)
  have o3 := o r1
  have o4 := o (r1 + 1)
  have o5 := o (r1 + 2)
  omega
-- a sample covers all rounds but five, as long as the line cannot drop its token
theorem SMPc {L s0 : Nat} {τ : Nat → qS} (hR : RNN L τ) {A : Nat → List (Ms × Nat × Nat)} {ρ : Nat → qS × qS × qS} {B : Nat → List (Ms × Nat × Nat) × List (Ms × Nat × Nat) × List (Ms × Nat × Nat)} (h : ANC2 L s0 τ A ρ B) (h7 : 224 ≤ s0) {w : Nat} (hw : w < 6) {t : Nat} (ht : t % 7 = w) (h1 : 7 * 145 ≤ t) (h2 : t + 1 ≤ 7 * L) (hl : LKs (τ (t + 1)) w) {j : Nat} (j1 : 1 ≤ j) (j2 : j ≤ 143) {s : Nat} (es : s = t + 1 - 7 * j) (js : s0 < s) (ha : τ s 65 (w : Int) = 1) {n K : Nat} (eK : K = 7 * n + 6) (hK : s + K ≤ t + 1) (hF : zF (τ s) + osm false τ s K ≤ 93) : n ≤ ctq (CVr A) (s / 7 + 1) n + 5 := by
  obtain ⟨r1, c⟩ := SMPr hR h h7 hw ht h1 h2 hl j1 j2 es js ha eK hK hF rfl
  exact ctq_gap c
-- the ticks at which a LACKS wait sends its FETCHes
theorem lk_age {L : Nat} {τ : Nat → qS} (hR : RNN L τ) {w : Nat} (hw : w < 6) {t : Nat} (ht : t % 7 = w) (h1 : 7 * 145 ≤ t) (h2 : t + 1 ≤ 7 * L) (hl : LKs (τ (t + 1)) w) {i : Nat} (i1 : 1 ≤ i) (i2 : i ≤ 11) : τ (t + 1 - 91 * i) 65 (w : Int) = 1 := by
  obtain ⟨-, v1, v2, v3, v4, v5, v6, v7, v8⟩ := lk_wait hR hw ht h1 h2 hl (13 * i - 1) (by omega)
  rw [show 13 * i - 1 + 1 = 13 * i by omega, show t + 1 - 7 * (13 * i) = t + 1 - 91 * i by omega] at v5 v6 v7
  unfold wtg at v5
  omega

