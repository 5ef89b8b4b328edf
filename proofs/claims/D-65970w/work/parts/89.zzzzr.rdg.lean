theorem RDG {L s0 : Nat} {τ : Nat → qS} (hR : RNN L τ) {A : Nat → List (Ms × Nat × Nat)} {ρ : Nat → qS × qS × qS} {B : Nat → List (Ms × Nat × Nat) × List (Ms × Nat × Nat) × List (Ms × Nat × Nat)} (h : ANC L s0 τ A ρ B) (h7 : 224 ≤ s0) {D : Nat → Prop} {s n : Nat} (h1 : s0 + 900 ≤ s) (h2 : s + n ≤ 7 * L) (hD : ∀ t, s ≤ t → t < s + n → D t → t % 7 < 6 ∧ 3 ≤ cn ((t % 7 : Nat) : Int) (ln (τ t))) : 3 * ctq D s n ≤ ctq (RK τ A ρ B D (fun _ _ => True) 2 0) s n + ctq (RK τ A ρ B D (fun _ _ => True) 2 1) s n + ctq (RK τ A ρ B D (fun _ _ => True) 2 2) s n + ctq (fun b => ∃ t, s ≤ t ∧ t < s + n ∧ D t ∧ ACC τ A ρ B t b) (s - 448) (n + 448) + ctq (fun b => NAb L s0 τ A ρ B b ∧ ∃ t i, s ≤ t ∧ t < s + n ∧ i < 3 ∧ D t ∧ rdk τ A ρ B 6 t i b) (s - 448) (n + 448) + ctq (fun b => NAb L s0 τ A ρ B b ∧ ∃ t i, s ≤ t ∧ t < s + n ∧ i < 3 ∧ D t ∧ rdk τ A ρ B 5 t i b) (s - 448) (n + 448) + ctq (fun b => ¬ NAb L s0 τ A ρ B b ∧ ∃ t i, s ≤ t ∧ t < s + n ∧ i < 3 ∧ D t ∧ rdk τ A ρ B 5 t i b) (s - 448) (n + 448) := by
  have per : ∀ i, i < 3 → ctq D s n ≤ ctq (RK τ A ρ B D (fun _ _ => True) 2 i) s n + (ctq (RK τ A ρ B D (fun t b => ACC τ A ρ B t b) 6 i) s n + ctq (RK τ A ρ B D (fun t b => ¬ ACC τ A ρ B t b) 6 i) s n + (ctq (RK τ A ρ B D (fun _ b => NAb L s0 τ A ρ B b) 5 i) s n + ctq (RK τ A ρ B D (fun _ b => ¬ NAb L s0 τ A ρ B b) 5 i) s n)) := fun i hi => by
    have c1 : ctq D s n ≤ ctq (RK τ A ρ B D (fun _ _ => True) 2 i) s n + ctq (fun t => D t ∧ ∃ b, rdk τ A ρ B 5 t i b ∨ rdk τ A ρ B 6 t i b) s n := ctq_or n (fun t t1 t2 hd => by
      obtain ⟨q1, q2⟩ := hD t t1 t2 hd
      obtain ⟨b, hb⟩ := FULL3 hR h (by omega) (by omega) (by omega) q1 q2 hi
      rcases hb with hb | hb
      · exact Or.inl ⟨hd, b, hb, trivial⟩
      · exact Or.inr ⟨hd, b, hb⟩)
    have c2 : ctq (fun t => D t ∧ ∃ b, rdk τ A ρ B 5 t i b ∨ rdk τ A ρ B 6 t i b) s n ≤ ctq (fun t => D t ∧ ∃ b, rdk τ A ρ B 6 t i b) s n + ctq (fun t => D t ∧ ∃ b, rdk τ A ρ B 5 t i b) s n := ctq_or n (fun t _ _ ⟨hd, b, hb⟩ => by
      rcases hb with hb | hb
      · exact Or.inr ⟨hd, b, hb⟩
      · exact Or.inl ⟨hd, b, hb⟩)
    have c3 : ctq (fun t => D t ∧ ∃ b, rdk τ A ρ B 6 t i b) s n ≤ ctq (RK τ A ρ B D (fun t b => ACC τ A ρ B t b) 6 i) s n + ctq (RK τ A ρ B D (fun t b => ¬ ACC τ A ρ B t b) 6 i) s n := ctq_or n (fun t _ _ ⟨hd, b, hb⟩ => by
      by_cases c : ACC τ A ρ B t b
      · exact Or.inl ⟨hd, b, hb, c⟩
      · exact Or.inr ⟨hd, b, hb, c⟩)
    have c4 : ctq (fun t => D t ∧ ∃ b, rdk τ A ρ B 5 t i b) s n ≤ ctq (RK τ A ρ B D (fun _ b => NAb L s0 τ A ρ B b) 5 i) s n + ctq (RK τ A ρ B D (fun _ b => ¬ NAb L s0 τ A ρ B b) 5 i) s n := ctq_or n (fun t _ _ ⟨hd, b, hb⟩ => by
      by_cases c : NAb L s0 τ A ρ B b
      · exact Or.inl ⟨hd, b, hb, c⟩
      · exact Or.inr ⟨hd, b, hb, c⟩)
    omega
  have p0 := per 0 (by omega)
  have p1 := per 1 (by omega)
  have p2 := per 2 (by omega)
  have a1 := RKn h (d := D) (P := fun t b => ACC τ A ρ B t b) (Q := fun b => ∃ t, s ≤ t ∧ t < s + n ∧ D t ∧ ACC τ A ρ B t b) (k := 6) (Or.inr rfl) (s := s) (n := n) (a := s - 448) (m := n + 448) (by omega) h2 (fun t i b t1 t2 hi hd hr hp => by
    have q := rd6_b hR h h7 (by omega) (by omega) hi hr
    exact ⟨by omega, by omega, by omega, t, t1, t2, hd, hp⟩)
  have a2 := RKn h (d := D) (P := fun t b => ¬ ACC τ A ρ B t b) (Q := fun b => NAb L s0 τ A ρ B b ∧ ∃ t i, s ≤ t ∧ t < s + n ∧ i < 3 ∧ D t ∧ rdk τ A ρ B 6 t i b) (k := 6) (Or.inr rfl) (s := s) (n := n) (a := s - 448) (m := n + 448) (by omega) h2 (fun t i b t1 t2 hi hd hr hp => by
    have q := rd6_b hR h h7 (by omega) (by omega) hi hr
    refine ⟨by omega, by omega, by omega, fun t' t1' t2' ha => ?_, t, i, t1, t2, hi, hd, hr⟩
    obtain ⟨i', hi', hr'⟩ := ACC_rd ha
    have e := (rd_once h (by omega) (Or.inr rfl) (by omega) (by omega) t1' t2' hi hi' hr hr').1
    subst e
    exact hp ha)
  have a3 := RKn h (d := D) (P := fun _ b => NAb L s0 τ A ρ B b) (Q := fun b => NAb L s0 τ A ρ B b ∧ ∃ t i, s ≤ t ∧ t < s + n ∧ i < 3 ∧ D t ∧ rdk τ A ρ B 5 t i b) (k := 5) (Or.inl rfl) (s := s) (n := n) (a := s - 448) (m := n + 448) (by omega) h2 (fun t i b t1 t2 hi hd hr hp => by
    have q := rd5_b hR h h7 (by omega) (by omega) hi hr
    exact ⟨by omega, by omega, by omega, hp, t, i, t1, t2, hi, hd, hr⟩)
  have a4 := RKn h (d := D) (P := fun _ b => ¬ NAb L s0 τ A ρ B b) (Q := fun b => ¬ NAb L s0 τ A ρ B b ∧ ∃ t i, s ≤ t ∧ t < s + n ∧ i < 3 ∧ D t ∧ rdk τ A ρ B 5 t i b) (k := 5) (Or.inl rfl) (s := s) (n := n) (a := s - 448) (m := n + 448) (by omega) h2 (fun t i b t1 t2 hi hd hr hp => by
    have q := rd5_b hR h h7 (by omega) (by omega) hi hr
    exact ⟨by omega, by omega, by omega, hp, t, i, t1, t2, hi, hd, hr⟩)
  omega
-- each tick of a worker: idle or map, FETCH tick (after an acceptance, start, time-out), or silent
def slq (τ : Nat → qS) (t : Nat) : Nat := if t % 7 < 6 then (if 38 ≤ τ (t + 1) 62 ((t % 7 : Nat) : Int) ∧ fe (τ (t + 1)) ((t % 7 : Nat) : Int) = 0 then 1 else 0) else 0
theorem tk_all (τ : Nat → qS) (t : Nat) (h6 : t % 7 < 6) : idq τ t + slq τ t + gq τ t = 1 := by
  unfold idq slq gq
  rw [if_pos h6, if_pos h6, if_pos h6]
  by_cases c : 38 ≤ τ (t + 1) 62 ((t % 7 : Nat) : Int)
  · rw [if_pos c]
    by_cases d : fe (τ (t + 1)) ((t % 7 : Nat) : Int) = 0
    · rw [if_pos ⟨c, d⟩, d]
    · rw [if_neg (fun q => d q.2)]
      have : fe (τ (t + 1)) ((t % 7 : Nat) : Int) ≤ 1 := by unfold fe; split <;> omega
      omega
  · rw [if_neg c, if_neg (fun q => c q.1)]
    unfold fe
    rw [if_neg (fun q => c q.1)]
theorem tk_6 (τ : Nat → qS) (t : Nat) (h6 : ¬ t % 7 < 6) : idq τ t = 0 ∧ slq τ t = 0 ∧ gq τ t = 0 := by
  unfold idq slq gq
  rw [if_neg h6, if_neg h6, if_neg h6]
  exact ⟨rfl, rfl, rfl⟩
theorem LEDX (τ : Nat → qS) {r0 : Nat} : ∀ n, smq (idq τ) (7 * r0) (7 * n) + smq (slq τ) (7 * r0) (7 * n) + smq (gq τ) (7 * r0) (7 * n) = 6 * n
  | 0 => rfl
  | n + 1 => by
    have ih := LEDX τ (r0 := r0) n
    rw [show 7 * (n + 1) = 7 * n + 7 by omega]
    have a : ∀ j, j < 6 → idq τ (7 * r0 + (7 * n + j)) + slq τ (7 * r0 + (7 * n + j)) + gq τ (7 * r0 + (7 * n + j)) = 1 := fun j hj => tk_all τ _ (by omega)
    have b := tk_6 τ (7 * r0 + (7 * n + 6)) (by omega)
    have a0 := a 0 (by omega)
    have a1 := a 1 (by omega)
    have a2 := a 2 (by omega)
    have a3 := a 3 (by omega)
    have a4 := a 4 (by omega)
    have a5 := a 5 (by omega)
    have ex : ∀ f : Nat → Nat, smq f (7 * r0) (7 * n + 7) = smq f (7 * r0) (7 * n) + f (7 * r0 + (7 * n + 0)) + f (7 * r0 + (7 * n + 1)) + f (7 * r0 + (7 * n + 2)) + f (7 * r0 + (7 * n + 3)) + f (7 * r0 + (7 * n + 4)) + f (7 * r0 + (7 * n + 5)) + f (7 * r0 + (7 * n + 6)) := fun f => rfl
    rw [ex, ex, ex]
    omega

