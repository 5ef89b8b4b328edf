-- the names of the twelve FETCHes of a LACKS wait
def XNz (τ : Nat → qS) (E m b : Nat) : Prop := ∃ j, j < m ∧ LKt τ (b + 91 * j - 1) ∧ b + 91 * j - 1 < E
theorem XNd {L : Nat} {τ : Nat → qS} (hR : RNN L τ) {s k : Nat} (h1 : 7 * 145 + 1 ≤ s) (h2 : s + 1001 + k ≤ 7 * L) : ∀ m, m ≤ 12 → m * ctq (LKt τ) (s + 1001) k ≤ ctq (XNz τ (s + 1001 + k) m) s (k + 1002)
  | 0, _ => by rw [Nat.zero_mul]; exact Nat.zero_le _
  | m + 1, hm => by
    have ih := XNd hR (s := s) (k := k) h1 h2 m (by omega)
    have a := ctq_inj (P := LKt τ) (f := fun t => t + 1 - 91 * m) (s := s + 1001) (a := s) (m := k + 1002) k (fun b => (1 ≤ b ∧ LKt τ (b + 91 * m - 1) ∧ b + 91 * m - 1 < s + 1001 + k)) (fun t t1 t2 ht => by
      refine ⟨by omega, by omega, by omega, ?_, by omega⟩
      rw [show t + 1 - 91 * m + 91 * m - 1 = t by omega]
      exact ht) (fun t t' t1 t2 t1' t2' _ _ e => by
      have e' : t + 1 - 91 * m = t' + 1 - 91 * m := e
      omega)
    have b := ctq_2 (P := XNz τ (s + 1001 + k) m) (Q := fun b => 1 ≤ b ∧ LKt τ (b + 91 * m - 1) ∧ b + 91 * m - 1 < s + 1001 + k) (R := XNz τ (s + 1001 + k) (m + 1)) (s := s) (k + 1002) (fun u q1 q2 => ⟨fun ⟨j, j1, j2⟩ => ⟨j, by omega, j2⟩, fun q => ⟨m, by omega, q.2⟩, fun ⟨⟨j, j1, j2, _⟩, q0, q3, q4⟩ => by
      have sp := LK_sp hR (t := u + 91 * j - 1) (t' := u + 91 * m - 1) (by omega) (by omega) j2 q3 (by omega) (by omega)
      have e0 : j = 0 := by omega
      have e1 : m = 11 := by omega
      subst e0
      subst e1
      have w := (lk_wait hR (w := (u + 91 * 11 - 1) % 7) q3.1 rfl (by omega) (by omega) q3.2 142 (by omega)).2.2.2.2.2.2.2.2
      rw [show u + 91 * 11 - 1 + 1 - 7 * (142 + 1) = u + 91 * 0 - 1 + 1 by omega, show (u + 91 * 11 - 1) % 7 = (u + 91 * 0 - 1) % 7 by omega] at w
      have := j2.2.2.2
      omega⟩)
    rw [Nat.succ_mul]
    omega
theorem XNg {L s0 : Nat} {τ : Nat → qS} (hR : RNN L τ) {A : Nat → List (Ms × Nat × Nat)} {ρ : Nat → qS × qS × qS} {B : Nat → List (Ms × Nat × Nat) × List (Ms × Nat × Nat) × List (Ms × Nat × Nat)} (h : ANC L s0 τ A ρ B) (h7 : 224 ≤ s0) {E b : Nat} (h1 : s0 + 1500 ≤ b) (hE : E < 7 * L) (hx : XNz τ E 12 b) : gq τ (b - 1) = 1 := by
  obtain ⟨j, j1, j2, j3⟩ := hx
  by_cases c : j = 0
  · subst c
    obtain ⟨w6, lk⟩ := j2
    rw [show b + 91 * 0 - 1 = b - 1 by omega] at w6 lk
    unfold gq
    rw [if_pos w6]
    unfold fe
    exact if_pos ⟨lk.1, lk.2.1⟩
  · have := (XN1 hR h h7 (t := b + 91 * j - 1) (j := j) (by omega) (by omega) j2 (by omega) (by omega)).1
    rw [show b + 91 * j - 1 - 91 * j = b - 1 by omega] at this
    exact this
-- starts of a worker within 64 rounds after a LACKS of its own
def SLx (τ : Nat → qS) (A : Nat → List (Ms × Nat × Nat)) (ρ : Nat → qS × qS × qS) (B : Nat → List (Ms × Nat × Nat) × List (Ms × Nat × Nat) × List (Ms × Nat × Nat)) (x : Nat) : Prop := x % 7 < 6 ∧ τ x 62 ((x % 7 : Nat) : Int) < 38 ∧ (38 ≤ τ (x + 1) 62 ((x % 7 : Nat) : Int) ∨ ∃ b, ACC τ A ρ B x b) ∧ ∃ l, LKt τ l ∧ l % 7 = x % 7 ∧ l < x ∧ x ≤ l + 449
theorem dn_l {f : Nat → Int} {b : Nat} : ∀ d, (∃ u, b ≤ u ∧ u ≤ b + d ∧ f u < 38) → ∃ x, b ≤ x ∧ x ≤ b + d ∧ f x < 38 ∧ ∀ u, x < u → u ≤ b + d → 38 ≤ f u
  | 0, ⟨u, u1, u2, u3⟩ => ⟨u, u1, u2, u3, fun w w1 w2 => by omega⟩
  | d + 1, ⟨u, u1, u2, u3⟩ => by
    by_cases c : f (b + (d + 1)) < 38
    · exact ⟨b + (d + 1), by omega, by omega, c, fun w w1 w2 => by omega⟩
    · obtain ⟨x, x1, x2, x3, x4⟩ := dn_l (f := f) (b := b) d ⟨u, u1, by
        by_cases e : u = b + (d + 1)
        · rw [e] at u3; exact absurd u3 c
        · omega, u3⟩
      refine ⟨x, x1, by omega, x3, fun w w1 w2 => ?_⟩
      by_cases e : w = b + (d + 1)
      · rw [e]; omega
      · exact x4 w w1 (by omega)
theorem Xac {L s0 : Nat} {τ : Nat → qS} (hR : RNN L τ) {A : Nat → List (Ms × Nat × Nat)} {ρ : Nat → qS × qS × qS} {B : Nat → List (Ms × Nat × Nat) × List (Ms × Nat × Nat) × List (Ms × Nat × Nat)} (h : ANC L s0 τ A ρ B) (h7 : 224 ≤ s0) {l j t : Nat} (h1 : s0 + 1500 ≤ l) (h2 : l + 1 ≤ 7 * L) (hl : LKt τ l) (j2 : j ≤ 11) (t1 : s0 ≤ t) (t2 : t < 7 * L) (ha : ACC τ A ρ B t (l + 1 - 91 * j)) (no : ¬ OWb L s0 τ A ρ B (l + 1 - 91 * j)) : t % 7 = l % 7 ∧ ∃ x, SLx τ A ρ B x ∧ x % 7 = l % 7 ∧ l < x ∧ x ≤ t ∧ x ≤ l + 449 ∧ ∀ u, x < u → u ≤ t → 38 ≤ τ u 62 ((l % 7 : Nat) : Int) := by
  have bi : s0 < l + 1 - 91 * j := by omega
  obtain ⟨v, v6, v2, v3, -, v5, -⟩ := ACC_tk h bi t1 t2 ha
  have e1 : t % 7 = l % 7 := by omega
  refine ⟨e1, ?_⟩
  have n1 : l < t := by
    apply Classical.byContradiction
    intro n
    exact LK_na hR h hl.1 rfl (by omega) h2 hl.2 (u := t) e1 t1 (by omega) (by omega) _ ha
  have l64 := (ACC_64 hR h h7 (by omega) t2 ha).1
  have ex : ∃ u, l + 1 - 91 * j ≤ u ∧ u ≤ l + 1 - 91 * j + (t - (l + 1 - 91 * j)) ∧ τ u 62 ((l % 7 : Nat) : Int) < 38 := by
    apply Classical.byContradiction
    intro n
    refine no ⟨t, t1, t2, ha, fun u u1 u2 => ?_⟩
    rw [e1]
    apply Classical.byContradiction
    intro c
    exact n ⟨u, u1, u2, by omega⟩
  obtain ⟨x, x1, x2, x3, x4⟩ := dn_l (f := fun u => τ u 62 ((l % 7 : Nat) : Int)) (b := l + 1 - 91 * j) (t - (l + 1 - 91 * j)) ex
  have xl : l < x := by
    apply Classical.byContradiction
    intro n
    have sg := lk_wait hR (w := l % 7) hl.1 rfl (by omega) h2 hl.2
    -- x lies in the wait: reduce there
    obtain ⟨q, q1, q2⟩ : ∃ q, x ≤ l + 1 - 7 * q ∧ l + 1 - 7 * q ≤ x + 6 ∧ q ≤ 143 := ⟨(l + 1 - x) / 7, by omega, by omega, by omega⟩
    have r : 38 ≤ τ (l + 1 - 7 * q) 62 ((l % 7 : Nat) : Int) := by
      by_cases c : q = 0
      · subst c; exact hl.2.1
      · have := (sg (q - 1) (by omega)).2.1
        rw [show q - 1 + 1 = q by omega] at this
        exact this
    have r2 : 38 ≤ τ (l + 1 - 7 * (q + 1)) 62 ((l % 7 : Nat) : Int) ∨ x = l + 1 - 7 * q := by
      by_cases c : q + 1 ≤ 143
      · left
        have := (sg q (by omega)).2.1
        exact this
      · right; omega
    by_cases c : x = l + 1 - 7 * q
    · rw [c] at x3
      have x3' : τ (l + 1 - 7 * q) 62 ((l % 7 : Nat) : Int) < 38 := x3
      omega
    · rcases r2 with r2 | r2
      · have eq : (l + 1 - 7 * (q + 1) - 1) % 7 = l % 7 := by omega
        have k := run_w hR hl.1 (t := l + 1 - 7 * (q + 1) - 1) eq (x - (l + 1 - 7 * (q + 1))) (by omega) (by omega) 62 (by decide)
        rw [show l + 1 - 7 * (q + 1) - 1 + 1 + (x - (l + 1 - 7 * (q + 1))) = x by omega, show l + 1 - 7 * (q + 1) - 1 + 1 = l + 1 - 7 * (q + 1) by omega] at k
        have x3' : τ x 62 ((l % 7 : Nat) : Int) < 38 := x3
        rw [k] at x3'
        omega
      · exact c r2
  have xm : x % 7 = l % 7 := by
    by_cases c : x = t
    · rw [c]; exact e1
    · apply Classical.byContradiction
      intro n
      have k := STP_w (hR.2 x (by omega)) (w := ((l % 7 : Nat) : Int)) (by omega) (by have := hl.1; omega) 62 (by decide)
      have up := x4 (x + 1) (by omega) (by omega)
      have x3' : τ x 62 ((l % 7 : Nat) : Int) < 38 := x3
      have up' : 38 ≤ τ (x + 1) 62 ((l % 7 : Nat) : Int) := up
      omega
  refine ⟨x, ⟨by have := hl.1; omega, by rw [xm]; exact x3, ?_, l, hl, xm.symm, xl, by omega⟩, xm, xl, by omega, by omega, fun u u1 u2 => x4 u u1 (by omega)⟩
  by_cases c : x = t
  · right; rw [c]; exact ⟨_, ha⟩
  · left; rw [xm]; exact x4 (x + 1) (by omega) (by omega)

