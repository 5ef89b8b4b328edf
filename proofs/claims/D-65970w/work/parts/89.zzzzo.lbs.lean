noncomputable def lsm (τ : Nat → qS) (A : Nat → List (Ms × Nat × Nat)) (ρ : Nat → qS × qS × qS) (B : Nat → List (Ms × Nat × Nat) × List (Ms × Nat × Nat) × List (Ms × Nat × Nat)) (v s t : Nat) : Nat → Nat
  | 0 => 0
  | k + 1 => lsm τ A ρ B v s t k + ctq (LSa τ A ρ B v (t + k)) s (t + k + 1 - s)
theorem LBS {L s0 : Nat} {τ : Nat → qS} (hR : RNN L τ) {A : Nat → List (Ms × Nat × Nat)} {ρ : Nat → qS × qS × qS} {B : Nat → List (Ms × Nat × Nat) × List (Ms × Nat × Nat) × List (Ms × Nat × Nat)} (h : ANC L s0 τ A ρ B) {v : Nat} (hv : v < 6) {s t : Nat} (hs : s0 < s) (hst : s ≤ t) : ∀ k, t + k ≤ 7 * L → ctq (AAl τ A v (t + k)) s (t + k + 1 - s) + lsm τ A ρ B v s t k ≤ ctq (AAl τ A v t) s (t + 1 - s) + ctq (RTq τ A ρ B v (s - 1)) t k
  | 0, _ => by simp [lsm, ctq]
  | k + 1, hl => by
    have ih := LBS hR h hv hs hst k (by omega)
    have st := LBT hR h hv hs (by omega : s ≤ t + k) (by omega : t + k < 7 * L)
    rw [show t + (k + 1) = t + k + 1 by omega, show t + k + 1 + 1 - s = t + k + 2 - s by omega]
    simp only [lsm, ctq]
    omega
theorem old_AA {L s0 : Nat} {τ : Nat → qS} (hR : RNN L τ) {A : Nat → List (Ms × Nat × Nat)} (h : ANR L s0 τ A) (h7 : 224 ≤ s0) {v a y : Nat} (hy : s0 + 448 ≤ y) (hl : y ≤ 7 * L) (ha : AAl τ A v y a) : y < a + 448 := by
  obtain ⟨-, a2, -⟩ := ha
  unfold tbc at a2
  obtain ⟨x, hx, px⟩ := List.countP_pos_iff.mp (by omega : 0 < (A y).countP (fun x => tokb x && decide (x.2.2 = a)))
  rw [Bool.and_eq_true] at px
  have xb := of_decide_eq_true px.2
  have := LIFE64 hR h h7 hy hl hx px.1
  omega
theorem ctq_off {P : Nat → Prop} {s : Nat} : ∀ k, (∀ t, s ≤ t → t < s + k → ¬ P t) → ctq P s k = 0
  | 0, _ => rfl
  | k + 1, h => by
    simp only [ctq]
    rw [ctq_off k (fun t h1 h2 => h t h1 (by omega)), if_neg (h (s + k) (by omega) (by omega))]
-- left-behind tokens whose FETCH is still unread
def AAf (τ : Nat → qS) (A : Nat → List (Ms × Nat × Nat)) (v y a : Nat) : Prop := AAl τ A v y a ∧ 1 ≤ fbc a (A y)
theorem AAf_a {L s0 : Nat} {τ : Nat → qS} (hR : RNN L τ) {A : Nat → List (Ms × Nat × Nat)} (h : ANR L s0 τ A) (h7 : 224 ≤ s0) {v a y : Nat} (hy : s0 + 224 ≤ y) (hl : y ≤ 7 * L) (ha : AAf τ A v y a) : y < a + 224 ∧ (a - 1) % 7 = v := by
  obtain ⟨⟨a1, -, -⟩, a2⟩ := ha
  unfold fbc at a2
  obtain ⟨x, hx, px⟩ := List.countP_pos_iff.mp (by omega : 0 < (A y).countP (fun x => decide (xw x.1 0 = 5) && decide (x.2.2 = a)))
  rw [Bool.and_eq_true] at px
  have x5 := of_decide_eq_true px.1
  have xb := of_decide_eq_true px.2
  have := FT32 hR h h7 hy hl hx x5
  exact ⟨by omega, a1.1⟩
theorem ctq_7 {P : Nat → Prop} {v : Nat} (hv : v < 7) (h' : ∀ b, P b → (b - 1) % 7 = v) : ∀ r s, 1 ≤ s → ctq P s (7 * r) ≤ r := fun r s hs => by
  have e : ∀ k, ctq P s k = smq (fun b => @ite Nat (P b) (Classical.propDecidable _) 1 0) s k := fun k => by
    induction k with
    | zero => rfl
    | succ k ih => simp only [ctq, smq]; rw [ih]
  rw [e]
  refine smq_7 hv (fun b => ?_) (fun b hb => ?_) r s hs
  · by_cases c : P b
    · rw [if_pos c]; omega
    · rw [if_neg c]; omega
  · rw [if_neg (fun c => hb (h' b c))]
theorem AAf_32 {L s0 : Nat} {τ : Nat → qS} (hR : RNN L τ) {A : Nat → List (Ms × Nat × Nat)} (h : ANR L s0 τ A) (h7 : 224 ≤ s0) {v y κ r : Nat} (hv : v < 6) (hy : s0 + 448 ≤ y) (hl : y ≤ 7 * L) (hk : κ ≤ y) (hb : ∀ a, κ < a → a ≤ y → ¬ ATk τ v a) (hr : κ + 224 ≤ y + 7 * r) : ctq (AAf τ A v y) (y - 447) 448 ≤ r := by
  have j := ctq_jn (P := AAf τ A v y) (s := y - 447) 224 224
  rw [show (224 : Nat) + 224 = 448 from rfl] at j
  rw [j]
  have z : ctq (AAf τ A v y) (y - 447) 224 = 0 := ctq_off _ (fun t t1 t2 ht => by
    have := (AAf_a hR h h7 (by omega) hl ht).1
    omega)
  have m : ctq (AAf τ A v y) (y - 447 + 224) 224 ≤ ctq (AAf τ A v y) (y - 447 + 224) (7 * r) := by
    by_cases c : 224 ≤ 7 * r
    · exact ctq_sub c
    · have j2 := ctq_jn (P := AAf τ A v y) (s := y - 447 + 224) (7 * r) (224 - 7 * r)
      rw [show 7 * r + (224 - 7 * r) = 224 by omega] at j2
      rw [j2]
      have z2 : ctq (AAf τ A v y) (y - 447 + 224 + 7 * r) (224 - 7 * r) = 0 := ctq_off _ (fun t t1 t2 ht => hb t (by omega) (by omega) ht.1.1)
      omega
  have s := ctq_7 (P := AAf τ A v y) (v := v) (by omega) (fun b hb' => (AAf_a hR h h7 (by omega) hl hb').2) r (y - 447 + 224) (by omega)
  omega

