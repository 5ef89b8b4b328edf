-- the places of the FETCHes of a LACKS wait
theorem X_pl {L : Nat} {τ : Nat → qS} (hR : RNN L τ) {l j : Nat} (h1 : 7 * 145 ≤ l) (h2 : l + 1 ≤ 7 * L) (hl : LKt τ l) (j2 : j ≤ 11) : plc (τ (l + 1 - 91 * j)) ((l % 7 : Nat) : Int) = plc (τ (l + 1)) ((l % 7 : Nat) : Int) := by
  obtain ⟨w6, lk⟩ := hl
  by_cases c : j = 0
  · subst c; rfl
  · obtain ⟨-, a1, a2, a3, a4, -⟩ := lk_wait hR (w := l % 7) w6 rfl h1 h2 lk (13 * j - 1) (by omega)
    rw [show 13 * j - 1 + 1 = 13 * j by omega, show l + 1 - 7 * (13 * j) = l + 1 - 91 * j by omega] at a2 a3 a4
    unfold plc
    rw [a2, a3, a4]
-- at most one FETCH of a LACKS wait is accepted in its own incarnation
theorem OWX {L s0 : Nat} {τ : Nat → qS} (hR : RNN L τ) {A : Nat → List (Ms × Nat × Nat)} {ρ : Nat → qS × qS × qS} {B : Nat → List (Ms × Nat × Nat) × List (Ms × Nat × Nat) × List (Ms × Nat × Nat)} (h : ANC L s0 τ A ρ B) (h7 : 224 ≤ s0) {l i j : Nat} (h1 : s0 + 1500 ≤ l) (h2 : l + 1 ≤ 7 * L) (hl : LKt τ l) (i2 : i ≤ 11) (j2 : j ≤ 11) (oi : OWb L s0 τ A ρ B (l + 1 - 91 * i)) (oj : OWb L s0 τ A ρ B (l + 1 - 91 * j)) : i = j := by
  obtain ⟨t, p1, p2, p3, p4⟩ := oi
  obtain ⟨t', q1, q2, q3, q4⟩ := oj
  have bi : s0 < l + 1 - 91 * i := by omega
  have bj : s0 < l + 1 - 91 * j := by omega
  obtain ⟨v, -, v2, v3, -, v5, -⟩ := ACC_tk h bi p1 p2 p3
  obtain ⟨v', -, v2', v3', -, v5', -⟩ := ACC_tk h bj q1 q2 q3
  have e1 : t % 7 = l % 7 := by omega
  have e2 : t' % 7 = l % 7 := by omega
  have n1 : l < t := by
    apply Classical.byContradiction
    intro n
    exact LK_na hR h hl.1 rfl (by omega) h2 hl.2 (u := t) e1 p1 (by omega) (by omega) _ p3
  have n2 : l < t' := by
    apply Classical.byContradiction
    intro n
    exact LK_na hR h hl.1 rfl (by omega) h2 hl.2 (u := t') e2 q1 (by omega) (by omega) _ q3
  have pi := X_pl hR (by omega) h2 hl i2
  have pj := X_pl hR (by omega) h2 hl j2
  have pp : plc (τ (l + 1 - 91 * i)) ((l % 7 : Nat) : Int) = plc (τ (l + 1 - 91 * j)) ((l % 7 : Nat) : Int) := by rw [pi, pj]
  rcases Nat.lt_trichotomy t t' with c | c | c
  · refine absurd ?_ (ACC_2 hR h bi bj p1 q2 (by omega) (by rw [e2]; exact pp) p3 q3 c)
    intro u u1 u2
    exact q4 u (by omega) (by omega)
  · subst c
    have := ACC_1 hR h bi bj p1 p2 (by rw [e1]; exact pp) p3 q3
    omega
  · refine absurd ?_ (ACC_2 hR h bj bi q1 p2 (by omega) (by rw [e1]; exact pp.symm) q3 p3 c)
    intro u u1 u2
    exact p4 u (by omega) (by omega)
-- time-outs that follow an own token: ten of each LACKS wait do not
theorem TOo2 {L s0 : Nat} {τ : Nat → qS} (hR : RNN L τ) {A : Nat → List (Ms × Nat × Nat)} {ρ : Nat → qS × qS × qS} {B : Nat → List (Ms × Nat × Nat) × List (Ms × Nat × Nat) × List (Ms × Nat × Nat)} (h : ANC L s0 τ A ρ B) (h7 : 224 ≤ s0) {s k : Nat} (h1 : s0 + 2600 ≤ s) (h2 : s + 1001 + k ≤ 7 * L) : ctq (fun u => gtq τ u = 1 ∧ OWb L s0 τ A ρ B (u - 90)) s (k + 1001) + 10 * ctq (LKt τ) (s + 1001) k ≤ smq (gtq τ) s (k + 1001) + 1001 := by
  have a := XTc hR (s := s) (k := k) (by omega) h2 11 (Nat.le_refl _)
  have sp := ctq_add (P := fun u => gtq τ u = 1 ∧ OWb L s0 τ A ρ B (u - 90)) (Q := XTm τ (s + 1001 + k) 11) (s := s) (k + 1001)
  have dj := ctq_2 (P := fun u => (gtq τ u = 1 ∧ OWb L s0 τ A ρ B (u - 90)) ∧ ¬ XTm τ (s + 1001 + k) 11 u) (Q := XTm τ (s + 1001 + k) 11) (R := fun u => gtq τ u = 1) (s := s) (k + 1001) (fun u u1 u2 => ⟨fun q => q.1.1, fun ⟨j, j1, j2, j3⟩ => by
    have := XT1 hR (t := u + 91 * j) (j := j) (by omega) (by omega) j2 (by omega)
    rw [show u + 91 * j - 91 * j = u by omega] at this
    exact this, fun q => q.1.2 q.2⟩)
  have b := ctq_sm' (P := fun u => gtq τ u = 1) (f := gtq τ) (s := s) (k + 1001) (fun t _ _ e => by omega)
  have pick : ∀ u, ∃ l, XTm τ (s + 1001 + k) 11 u → LKt τ l ∧ l < s + 1001 + k ∧ ∃ j, j < 11 ∧ l = u + 91 * j := fun u => by
    by_cases c : XTm τ (s + 1001 + k) 11 u
    · obtain ⟨j, j1, j2, j3⟩ := c
      exact ⟨u + 91 * j, fun _ => ⟨j2, j3, j, j1, rfl⟩⟩
    · exact ⟨0, fun q => absurd q c⟩
  obtain ⟨f, hf⟩ : ∃ f : Nat → Nat, ∀ u, XTm τ (s + 1001 + k) 11 u → LKt τ (f u) ∧ f u < s + 1001 + k ∧ ∃ j, j < 11 ∧ f u = u + 91 * j := ⟨fun u => Classical.choose (pick u), fun u => Classical.choose_spec (pick u)⟩
  have i := ctq_inj (P := fun u => (gtq τ u = 1 ∧ OWb L s0 τ A ρ B (u - 90)) ∧ XTm τ (s + 1001 + k) 11 u) (f := f) (s := s) (a := s) (m := k + 1001) (k + 1001) (LKt τ) (fun u u1 u2 q => by
    obtain ⟨f1, f2, j, j1, j2⟩ := hf u q.2
    exact ⟨by omega, by omega, f1⟩) (fun u u' u1 u2 u1' u2' q q' e => by
    obtain ⟨f1, f2, j, j1, j2⟩ := hf u q.2
    obtain ⟨-, -, j', j1', j2'⟩ := hf u' q'.2
    have o : OWb L s0 τ A ρ B (f u + 1 - 91 * (j + 1)) := by
      rw [show f u + 1 - 91 * (j + 1) = u - 90 by omega]
      exact q.1.2
    have o' : OWb L s0 τ A ρ B (f u + 1 - 91 * (j' + 1)) := by
      rw [show f u + 1 - 91 * (j' + 1) = u' - 90 by omega]
      exact q'.1.2
    have := OWX hR h h7 (l := f u) (i := j + 1) (j := j' + 1) (by omega) (by omega) f1 (by omega) (by omega) o o'
    omega)
  have j1 := ctq_jn (P := LKt τ) (s := s) 1001 k
  have j2 := ctq_le (P := LKt τ) (s := s) 1001
  rw [show 1001 + k = k + 1001 by omega] at j1
  omega

