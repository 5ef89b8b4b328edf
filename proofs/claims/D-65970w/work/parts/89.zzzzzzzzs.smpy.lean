-- the waiter itself is silent after its sample, the others send at most one letter a round
theorem own_5 {L : Nat} {τ : Nat → qS} (hR : RNN L τ) {w : Nat} (hw : w < 6) {t : Nat} (ht : t % 7 = w) (h1 : 7 * 145 ≤ t) (h2 : t + 1 ≤ 7 * L) (hl : LKs (τ (t + 1)) w) {i s m : Nat} (i1 : 1 ≤ i) (i2 : i ≤ 10) (es : s = t + 1 - 91 * i) (hm : m ≤ 12) : ctq (OWv τ 0) s (7 * m) + ctq (OWv τ 1) s (7 * m) + ctq (OWv τ 2) s (7 * m) + ctq (OWv τ 3) s (7 * m) + ctq (OWv τ 4) s (7 * m) + ctq (OWv τ 5) s (7 * m) ≤ 5 * m := by
  have z := sil_0 hR hw ht h1 h2 hl i1 i2 es (k := 7 * m) (by omega)
  have a0 := own_n (τ := τ) (v := 0) (s := s) (by omega) m
  have a1 := own_n (τ := τ) (v := 1) (s := s) (by omega) m
  have a2 := own_n (τ := τ) (v := 2) (s := s) (by omega) m
  have a3 := own_n (τ := τ) (v := 3) (s := s) (by omega) m
  have a4 := own_n (τ := τ) (v := 4) (s := s) (by omega) m
  have a5 := own_n (τ := τ) (v := 5) (s := s) (by omega) m
  rcases (by omega : w = 0 ∨ w = 1 ∨ w = 2 ∨ w = 3 ∨ w = 4 ∨ w = 5) with e | e | e | e | e | e <;> subst e <;> omega
-- a sample in dead rounds, without any hypothesis on the other workers: 6 of the next 7 rounds have an XK tick, or 23 names are lost (or pending, or a LACKS is near)
theorem SMPy {L s0 : Nat} {τ : Nat → qS} (hR : RNN L τ) (hs : ∀ t, t ≤ 7 * L → psame (τ 0) (τ t)) {A : Nat → List (Ms × Nat × Nat)} {ρ : Nat → qS × qS × qS} {B : Nat → List (Ms × Nat × Nat) × List (Ms × Nat × Nat) × List (Ms × Nat × Nat)} (h : ANC2 L s0 τ A ρ B) (h7 : 224 ≤ s0) {w : Nat} (hw : w < 6) {t : Nat} (ht : t % 7 = w) (h1 : 7 * 145 ≤ t) (h2 : t + 300 ≤ 7 * L) (hl : LKs (τ (t + 1)) w) {i s : Nat} (i1 : 1 ≤ i) (i2 : i ≤ 10) (es : s = t + 1 - 91 * i) (js : s0 + 900 ≤ s) (hd : ∀ φ, s ≤ φ → φ < s + 56 → ¬ FRk L s0 τ A B φ) : (∃ T, 6 ≤ ctq (CXr A B s T) (s / 7 + 1) 7) ∨ 23 ≤ ctq (fun b => NAb L s0 τ A ρ B b ∧ F5b A s b) (s - 223) 224 + ctq (fun b => PNk L s0 τ A ρ B b ∧ F5b A s b) (s - 223) 224 + ctq (LKt τ) s 56 := by
  have o := own_5 hR hw ht h1 (by omega) hl i1 i2 es (m := 8) (by omega)
  rcases SMPz hR hs h h7 hw ht h1 h2 hl i1 (by omega) es js (n := 7) (m := 8) rfl (by omega) hd with ⟨T, a⟩ | a
  · exact Or.inl ⟨T, by omega⟩
  · right
    have e : 7 * 8 = 56 := rfl
    rw [e] at a o
    omega

