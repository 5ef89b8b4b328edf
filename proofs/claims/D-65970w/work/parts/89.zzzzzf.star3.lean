-- one chosen tick for each round
def CHc (ch : Nat → Nat) (t : Nat) : Prop := t = 7 * (t / 7) + ch (t / 7)
def CHd (L s0 : Nat) (τ : Nat → qS) (A : Nat → List (Ms × Nat × Nat)) (B : Nat → List (Ms × Nat × Nat) × List (Ms × Nat × Nat) × List (Ms × Nat × Nat)) (ch : Nat → Nat) (t : Nat) : Prop := CHc ch t ∧ ¬ NDr L s0 τ A B (t / 7)
theorem CH_n {ch : Nat → Nat} (hc : ∀ r, ch r < 6) {P : Nat → Prop} {r0 n : Nat} : ctq P r0 n ≤ ctq (fun t => CHc ch t ∧ P (t / 7)) (7 * r0) (7 * n) := ctq_inj (P := P) (f := fun r => 7 * r + ch r) (s := r0) (a := 7 * r0) (m := 7 * n) n (fun t => CHc ch t ∧ P (t / 7)) (fun r r1 r2 hp => by
  have c := hc r
  have e : (7 * r + ch r) / 7 = r := by omega
  refine ⟨by omega, by omega, ?_, ?_⟩
  · show 7 * r + ch r = 7 * ((7 * r + ch r) / 7) + ch ((7 * r + ch r) / 7)
    rw [e]
  · rw [e]; exact hp) (fun r r' _ _ _ _ _ _ e => by
  have c := hc r
  have c' := hc r'
  have e' : 7 * r + ch r = 7 * r' + ch r' := e
  omega)
theorem ctq_all {P : Nat → Prop} {s : Nat} : ∀ k, (∀ t, s ≤ t → t < s + k → P t) → ctq P s k = k
  | 0, _ => rfl
  | k + 1, h => by
    simp only [ctq]
    rw [ctq_all k (fun t t1 t2 => h t t1 (by omega)), if_pos (h (s + k) (by omega) (by omega))]
-- STAR3: the sum of all counts; the number of rounds has cancelled
theorem STAR3 {L s0 : Nat} {τ : Nat → qS} (hR : RNN L τ) (hs : ∀ t, t ≤ 7 * L → psame (τ 0) (τ t)) (hJ : ∀ t, t ≤ 7 * L → JOm (τ t) ≠ none) {A : Nat → List (Ms × Nat × Nat)} {ρ : Nat → qS × qS × qS} {B : Nat → List (Ms × Nat × Nat) × List (Ms × Nat × Nat) × List (Ms × Nat × Nat)} (h : ANC L s0 τ A ρ B) (h7 : 224 ≤ s0) {ch : Nat → Nat} {r0 n : Nat} (h1 : s0 + 900 ≤ 7 * r0) (h2 : r0 + n ≤ L) (hc : ∀ r, ch r < 6) (ht : ∀ r, r0 ≤ r → r < r0 + n → T1t A (7 * r + ch r)) :
    ctq (fun t => CHc ch t ∧ ¬ ∃ b, ACC τ A ρ B t b) (7 * r0) (7 * n) + 2 * ctq (fun t => CHd L s0 τ A B ch t ∧ ¬ ∃ b, ACC τ A ρ B t b) (7 * r0) (7 * n) + smq (idq τ) (7 * r0) (7 * n) + 9 * smq (gtq τ) (7 * r0) (7 * n) + ctq (AXt τ A ρ B) (7 * r0) (7 * n) + 4 * ctq (fun b => gq τ (b - 1) = 1 ∧ NAb L s0 τ A ρ B b) (7 * r0 - 448) (7 * n + 448) + 124 * lkc τ (7 * r0 - 217)
    ≤ 124 * lkc τ (7 * r0 + 7 * n) + 3 * smq (gsq τ) (7 * r0) (7 * n) + 2 * ctq (fun u => gtq τ u = 1 ∧ OWb L s0 τ A ρ B (u - 90)) (7 * r0) (7 * n)
      + (ctq (RK τ A ρ B (CHc ch) (fun _ _ => True) 2 0) (7 * r0) (7 * n) + ctq (RK τ A ρ B (CHc ch) (fun _ _ => True) 2 1) (7 * r0) (7 * n) + ctq (RK τ A ρ B (CHc ch) (fun _ _ => True) 2 2) (7 * r0) (7 * n))
      + 2 * (ctq (RK τ A ρ B (CHd L s0 τ A B ch) (fun _ _ => True) 2 0) (7 * r0) (7 * n) + ctq (RK τ A ρ B (CHd L s0 τ A B ch) (fun _ _ => True) 2 1) (7 * r0) (7 * n) + ctq (RK τ A ρ B (CHd L s0 τ A B ch) (fun _ _ => True) 2 2) (7 * r0) (7 * n))
      + (ctq (fun b => NAb L s0 τ A ρ B b ∧ ∃ t i, 7 * r0 ≤ t ∧ t < 7 * r0 + 7 * n ∧ i < 3 ∧ CHc ch t ∧ rdk τ A ρ B 6 t i b) (7 * r0 - 448) (7 * n + 448) + ctq (fun b => NAb L s0 τ A ρ B b ∧ ∃ t i, 7 * r0 ≤ t ∧ t < 7 * r0 + 7 * n ∧ i < 3 ∧ CHc ch t ∧ rdk τ A ρ B 5 t i b) (7 * r0 - 448) (7 * n + 448))
      + 2 * (ctq (fun b => NAb L s0 τ A ρ B b ∧ ∃ t i, 7 * r0 ≤ t ∧ t < 7 * r0 + 7 * n ∧ i < 3 ∧ CHd L s0 τ A B ch t ∧ rdk τ A ρ B 6 t i b) (7 * r0 - 448) (7 * n + 448) + ctq (fun b => NAb L s0 τ A ρ B b ∧ ∃ t i, 7 * r0 ≤ t ∧ t < 7 * r0 + 7 * n ∧ i < 3 ∧ CHd L s0 τ A B ch t ∧ rdk τ A ρ B 5 t i b) (7 * r0 - 448) (7 * n + 448))
      + 2 * ctq (fun b => PNb L s0 τ A ρ B b ∧ ∃ t i, 7 * r0 ≤ t ∧ t < 7 * r0 + 7 * n ∧ i < 3 ∧ CHd L s0 τ A B ch t ∧ rdk τ A ρ B 5 t i b) (7 * r0 - 448) (7 * n + 448) + 17496 := by
  have tt : ∀ t, 7 * r0 ≤ t → t < 7 * r0 + 7 * n → CHc ch t → T1t A t := fun t t1 t2 q => by
    have := ht (t / 7) (by omega) (by omega)
    rw [← q] at this
    exact this
  have st := STAR2 hR h h7 (C := CHc ch) (D := CHd L s0 τ A B ch) (r0 := r0) (n := n) h1 h2 (fun t t1 t2 q => ⟨(tt t t1 t2 q).1, T1f h.1 (by omega) (by omega) (tt t t1 t2 q)⟩) (fun t t1 t2 q => ⟨tt t t1 t2 q.1, fun f => q.2 ⟨t, by omega, by have := (tt t t1 t2 q.1).1; omega, f⟩⟩)
  have w := WIN hR hs hJ h (r0 := r0) (n := n) (by omega) h2
  have c1 := CH_n hc (P := fun _ => True) (r0 := r0) (n := n)
  rw [ctq_all n (fun _ _ _ => trivial)] at c1
  have c2 := ctq_mo (P := fun t => CHc ch t ∧ True) (Q := CHc ch) (s := 7 * r0) (7 * n) (fun t _ _ q => q.1)
  have c3 := ctq_2 (P := fun t => CHc ch t ∧ ∃ b, ACC τ A ρ B t b) (Q := fun t => CHc ch t ∧ ¬ ∃ b, ACC τ A ρ B t b) (R := CHc ch) (s := 7 * r0) (7 * n) (fun t _ _ => ⟨fun q => q.1, fun q => q.1, fun q => q.2.2 q.1.2⟩)
  have d1 : ctq (fun r => ¬ NDr L s0 τ A B r) r0 n ≤ ctq (CHd L s0 τ A B ch) (7 * r0) (7 * n) := CH_n hc (P := fun r => ¬ NDr L s0 τ A B r) (r0 := r0) (n := n)
  have d2 := ctq_add (P := fun _ => True) (Q := NDr L s0 τ A B) (s := r0) n
  rw [ctq_all n (fun _ _ _ => trivial)] at d2
  have d3 := ctq_mo (P := fun r => True ∧ NDr L s0 τ A B r) (Q := NDr L s0 τ A B) (s := r0) n (fun _ _ _ q => q.2)
  have d4 := ctq_mo (P := fun r => True ∧ ¬ NDr L s0 τ A B r) (Q := fun r => ¬ NDr L s0 τ A B r) (s := r0) n (fun _ _ _ q => q.2)
  have d5 := ctq_2 (P := fun t => CHd L s0 τ A B ch t ∧ ∃ b, ACC τ A ρ B t b) (Q := fun t => CHd L s0 τ A B ch t ∧ ¬ ∃ b, ACC τ A ρ B t b) (R := CHd L s0 τ A B ch) (s := 7 * r0) (7 * n) (fun t _ _ => ⟨fun q => q.1, fun q => q.1, fun q => q.2.2 q.1.2⟩)
  omega

