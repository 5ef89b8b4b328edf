theorem hd_rdX {w : Int} {A : List (Ms × Nat × Nat)} {L : List Ms} (hA : prA A = L) {y : Ms × Nat × Nat} (h : hdA w A y) : rdX w y.1 L := by
  have m := hd_mem h
  obtain ⟨i, a, b⟩ := h
  refine ⟨m.2, i, by rw [← hA]; exact a, ?_⟩
  rw [← hA]
  unfold prA
  rw [List.getElem?_map, b]
  rfl
theorem nof_acc {L s0 : Nat} {τ : Nat → qS} {A : Nat → List (Ms × Nat × Nat)} {ρ : Nat → qS × qS × qS} {B : Nat → List (Ms × Nat × Nat) × List (Ms × Nat × Nat) × List (Ms × Nat × Nat)} (h : ANC L s0 τ A ρ B) {t : Nat} (h1 : s0 ≤ t) (h2 : t < 7 * L) (hn : nof ((t % 7 : Nat) : Int) (τ t) (τ (t + 1))) (b : Nat) : ¬ ACC τ A ρ B t b := fun ha => by
  obtain ⟨h6, y, -, c⟩ := ha
  obtain ⟨wd, ⟨p0, p1, p2, -, -⟩, -⟩ := h.2 t h1 h2 h6
  obtain ⟨-, -, -, n1, n2, n3⟩ := hn _ _ _ wd
  rcases c with ⟨c, e, k, f⟩ | ⟨c, e, k, f⟩ | ⟨c, e, k, f⟩
  · exact n1 y.1 (hd_rdX p0 c) e k f
  · exact n2 y.1 (hd_rdX p1 c) e k f
  · exact n3 y.1 (hd_rdX p2 c) e k f
theorem LK_na {L s0 : Nat} {τ : Nat → qS} (hR : RNN L τ) {A : Nat → List (Ms × Nat × Nat)} {ρ : Nat → qS × qS × qS} {B : Nat → List (Ms × Nat × Nat) × List (Ms × Nat × Nat) × List (Ms × Nat × Nat)} (h : ANC L s0 τ A ρ B) {w : Nat} (hw : w < 6) {t : Nat} (ht : t % 7 = w) (h1 : 7 * 145 ≤ t) (h2 : t + 1 ≤ 7 * L) (hl : LKs (τ (t + 1)) w) {u : Nat} (hu : u % 7 = w) (u0 : s0 ≤ u) (u1 : u ≤ t) (u2 : t ≤ u + 7 * 142) (b : Nat) : ¬ ACC τ A ρ B u b := by
  obtain ⟨j, ej⟩ : ∃ j, t = u + 7 * j := ⟨(t - u) / 7, by omega⟩
  have n := (lk_wait hR hw ht h1 h2 hl j (by omega)).1
  rw [show t - 7 * j = u by omega] at n
  refine nof_acc h u0 (by omega) ?_ b
  rw [hu]
  exact n

