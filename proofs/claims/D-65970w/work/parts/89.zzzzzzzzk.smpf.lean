-- ASK letters are letters for the master
theorem lt1_b {L : Nat} {τ : Nat → qS} (hR : RNN L τ) {t : Nat} (h0 : 224 ≤ t) (h2 : t ≤ 7 * L) {x : Ms} (hx : x ∈ ln (τ t)) (x1 : xw x 0 = 1) : x.1 = 6 := by
  have gs := hR.1 t h2
  have er := run_ER hR h0 h2
  have hL := (gs.1.2.2.2.2.2.2.2.1 _ hx).2 (er x hx)
  rcases hL with ⟨g, -⟩ | ⟨-, g⟩
  · exact g
  · exfalso
    rcases g with ⟨g, -⟩ | ⟨g, -⟩ | ⟨g, -⟩ <;> omega
theorem zA_m {L s0 : Nat} {τ : Nat → qS} (hR : RNN L τ) {A : Nat → List (Ms × Nat × Nat)} {ρ : Nat → qS × qS × qS} {B : Nat → List (Ms × Nat × Nat) × List (Ms × Nat × Nat) × List (Ms × Nat × Nat)} (h : ANC2 L s0 τ A ρ B) {t : Nat} (h0 : 224 ≤ t) (h1 : s0 ≤ t) (h2 : t ≤ 7 * L) : zA (τ t) ≤ mqc (A t) := by
  have e0 := h.1.1.2.1 t h1 h2
  have e : mqc (A t) = cn 6 (ln (τ t)) := by
    rw [← e0]
    unfold mqc cn prA
    rw [List.countP_map]
    congr 1
  rw [e]
  unfold zA cn
  refine List.countP_mono_left (fun x hx q => ?_)
  have x1 : xw x 0 = 1 := by unfold t1 at q; simpa using q
  have := lt1_b hR h0 h2 hx x1
  unfold toW
  rw [this]
  rfl
-- own letters of a sample: the waiter itself sends nothing
theorem SMPf {L s0 : Nat} {τ : Nat → qS} (hR : RNN L τ) {A : Nat → List (Ms × Nat × Nat)} {ρ : Nat → qS × qS × qS} {B : Nat → List (Ms × Nat × Nat) × List (Ms × Nat × Nat) × List (Ms × Nat × Nat)} (h : ANC2 L s0 τ A ρ B) (h7 : 224 ≤ s0) {w : Nat} (hw : w < 6) {t : Nat} (ht : t % 7 = w) (h1 : 7 * 145 ≤ t) (h2 : t + 7 ≤ 7 * L) (hl : LKs (τ (t + 1)) w) {i s : Nat} (i1 : 1 ≤ i) (i2 : i ≤ 11) (es : s = t + 1 - 91 * i) (js : s0 + 231 ≤ s) {n m : Nat} (em : m = n + 1) (hn : n ≤ 12) : CVr A (s / 7) ∨ n ≤ ctq (CVr A) (s / 7 + 1) n + 5 ∨ 58 ≤ min (3 * m) (mqc (A s)) + (ctq (OWv τ 0) s (7 * m) + ctq (OWv τ 1) s (7 * m) + ctq (OWv τ 2) s (7 * m) + ctq (OWv τ 3) s (7 * m) + ctq (OWv τ 4) s (7 * m) + ctq (OWv τ 5) s (7 * m)) + ctq (LKt τ) s (7 * m) + ctq (LKt τ) (7 * (s / 7)) 6 := by
  have z := zA_m hR h (t := s) (by omega) (by omega) (by omega)
  rcases SMPe hR h h7 hw ht h1 h2 hl i1 i2 es js em hn with a | a | a
  · exact Or.inl a
  · exact Or.inr (Or.inl a)
  · right; right
    omega

