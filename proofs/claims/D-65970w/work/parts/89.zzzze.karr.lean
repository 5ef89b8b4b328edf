def AAl (τ : Nat → qS) (A : Nat → List (Ms × Nat × Nat)) (v y a : Nat) : Prop := ATk τ v a ∧ 1 ≤ tbc a (A y) ∧ ¬ STY τ v a y
def RTq (τ : Nat → qS) (A : Nat → List (Ms × Nat × Nat)) (ρ : Nat → qS × qS × qS) (B : Nat → List (Ms × Nat × Nat) × List (Ms × Nat × Nat) × List (Ms × Nat × Nat)) (v s1 t : Nat) : Prop := t % 7 = v ∧ 38 ≤ τ t 62 (v : Int) ∧ RTt τ A ρ B v s1 t
theorem KAR1 {L s0 : Nat} {τ : Nat → qS} (hR : RNN L τ) {A : Nat → List (Ms × Nat × Nat)} {ρ : Nat → qS × qS × qS} {B : Nat → List (Ms × Nat × Nat) × List (Ms × Nat × Nat) × List (Ms × Nat × Nat)} (h : ANC L s0 τ A ρ B) {v : Nat} (hv : v < 6) {s1 Λ y : Nat} (hs : s0 ≤ s1) (hy : RUNL L τ v y) (hL : ∀ t b, s1 < b → t < 7 * L → t % 7 = v → ACC τ A ρ B t b → t ≤ b + Λ) {a : Nat} (h1 : s1 < a) (h2 : a ≤ y) (ha : AAl τ A v y a) : ∃ r t, s1 < r ∧ r ≤ a ∧ ATk τ v r ∧ PThh τ A ρ B v r a ∧ a ≤ r + Λ * ctq (SPk τ v) r (a - r) ∧ r ≤ t ∧ t < y ∧ STY τ v r t ∧ RTq τ A ρ B v s1 t := by
  obtain ⟨ha1, ha2, ha3⟩ := ha
  obtain ⟨r, r1, r2, r3, r4, r5, r6⟩ := ROOT2 hR h hv hs hy hL a h1 h2 ha1
  have yl := hy.1
  have nos : ¬ STY τ v r y := fun st => by
    by_cases e : r = a
    · subst e; exact ha3 st
    · exact sty_1 ha1 st (by omega) h2
  have hn : ∀ t, r ≤ t → t < y → STY τ v r t → ¬ ACC τ A ρ B t r := fun t t1 t2 t3 t4 => by
    by_cases e : r = a
    · subst e
      have := (ANC_once h (by omega) (by omega) (by omega) t4).2.2 y t2 (by omega)
      omega
    · obtain ⟨n, f, f0, fn, fs⟩ := r4
      have n0 : 0 < n := by
        apply Classical.byContradiction
        intro q
        have : n = 0 := by omega
        subst this
        rw [f0] at fn
        exact e fn
      have ed := fs 0 n0
      rw [f0, show 0 + 1 = 1 from rfl] at ed
      have le := PThh_le fs (n - 1) 1 (by omega)
      rw [show 1 + (n - 1) = n by omega, fn] at le
      obtain ⟨rc, cc, u, u1, u2, u3, u4, -⟩ := ed
      have ul := hy.2 _ u (by omega) cc u3
      have q := acc_1 h (by omega) (by omega) (by omega) (by omega) ul t4 u4
      subst q
      exact sty_1 cc t3 rc u2
  rcases RTY hR h hv hs r1 (by omega : r ≤ y) (by omega) r3 r5 hn with q | ⟨t, t1, t2, t3, t4, t5, t6⟩
  · exact absurd q nos
  · exact ⟨r, t, r1, r2, r3, r4, r6, t1, t2, t4, t3, t5, t6⟩
theorem KARR {L s0 : Nat} {τ : Nat → qS} (hR : RNN L τ) {A : Nat → List (Ms × Nat × Nat)} {ρ : Nat → qS × qS × qS} {B : Nat → List (Ms × Nat × Nat) × List (Ms × Nat × Nat) × List (Ms × Nat × Nat)} (h : ANC L s0 τ A ρ B) {v : Nat} (hv : v < 6) {s1 Λ y s2 R0 : Nat} (hs : s0 ≤ s1) (hs2 : s1 < s2) (s2y : s2 ≤ y) (hy : RUNL L τ v y) (hL : ∀ t b, s1 < b → t < 7 * L → t % 7 = v → ACC τ A ρ B t b → t ≤ b + Λ) (hR0 : ∀ r a, s1 < r → r ≤ a → s2 ≤ a → a ≤ y → a ≤ r + Λ * ctq (SPk τ v) r (a - r) → R0 ≤ r) (hRy : R0 ≤ y) : ctq (AAl τ A v y) s2 (y + 1 - s2) ≤ ctq (RTq τ A ρ B v s1) R0 (y - R0) := by
  have ex : ∀ a, ∃ t, s2 ≤ a → a ≤ y → AAl τ A v y a → ∃ r, s1 < r ∧ r ≤ a ∧ ATk τ v r ∧ PThh τ A ρ B v r a ∧ a ≤ r + Λ * ctq (SPk τ v) r (a - r) ∧ r ≤ t ∧ t < y ∧ STY τ v r t ∧ RTq τ A ρ B v s1 t := fun a => by
    by_cases c : s2 ≤ a ∧ a ≤ y ∧ AAl τ A v y a
    · obtain ⟨r, t, q⟩ := KAR1 hR h hv hs hy hL (by omega) c.2.1 c.2.2
      exact ⟨t, fun _ _ _ => ⟨r, q⟩⟩
    · exact ⟨0, fun c1 c2 c3 => absurd ⟨c1, c2, c3⟩ c⟩
  refine ctq_inj (f := fun a => Classical.choose (ex a)) (y + 1 - s2) (RTq τ A ρ B v s1) (fun a a1 a2 ha => ?_) (fun a a' a1 a2 a1' a2' ha ha' e => ?_)
  · obtain ⟨r, r1, r2, -, -, r5, r6, r7, -, r9⟩ := Classical.choose_spec (ex a) a1 (by omega) ha
    have := hR0 r a r1 r2 a1 (by omega) r5
    refine ⟨?_, ?_, r9⟩
    · show R0 ≤ Classical.choose (ex a); omega
    · show Classical.choose (ex a) < R0 + (y - R0); omega
  · have e' : Classical.choose (ex a) = Classical.choose (ex a') := e
    obtain ⟨r, r1, r2, r3, r4, r5, r6, r7, r8, r9⟩ := Classical.choose_spec (ex a) a1 (by omega) ha
    obtain ⟨r', q1, q2, q3, q4, q5, q6, q7, q8, q9⟩ := Classical.choose_spec (ex a') a1' (by omega) ha'
    rw [← e'] at q6 q7 q8 q9
    have er := sty_2 r3 q3 r8 q8 r6 q6
    subst er
    rcases PThh_u h (by omega) hy (by omega) (by omega) r4 q4 with z | ⟨c, c1, c2⟩ | ⟨c, c1, c2⟩
    · exact z
    · exfalso
      have st := ALV_e h (by omega) hy (by omega) ha.2.1 c2
      by_cases cz : c = a'
      · subst cz; exact ha'.2.2 st
      · exact sty_1 ha'.1 st (by omega) (by omega)
    · exfalso
      have st := ALV_e h (by omega) hy (by omega) ha'.2.1 c2
      by_cases cz : c = a
      · subst cz; exact ha.2.2 st
      · exact sty_1 ha.1 st (by omega) (by omega)

