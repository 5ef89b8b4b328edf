-- a worker in a LACKS wait
def WTt (τ : Nat → qS) (t : Nat) : Prop := t % 7 < 6 ∧ ∃ l, LKt τ l ∧ l % 7 = t % 7 ∧ t ≤ l ∧ l ≤ t + 987
theorem WT_z {L s0 : Nat} {τ : Nat → qS} (hR : RNN L τ) {A : Nat → List (Ms × Nat × Nat)} {ρ : Nat → qS × qS × qS} {B : Nat → List (Ms × Nat × Nat) × List (Ms × Nat × Nat) × List (Ms × Nat × Nat)} (h : ANC L s0 τ A ρ B) {t : Nat} (h1 : s0 ≤ t) (h3 : 7 * 145 ≤ t) (h2 : t + 1000 ≤ 7 * L) (hw : WTt τ t) : (¬ ∃ b, ACC τ A ρ B t b) ∧ ¬ gdq τ ρ t = 1 := by
  obtain ⟨h6, l, l1, l2, l3, l4⟩ := hw
  refine ⟨fun ⟨b, hb⟩ => LK_na hR h l1.1 rfl (by omega) (by omega) l1.2 (u := t) (by omega) h1 l3 (by omega) b hb, fun g => ?_⟩
  have r : 38 ≤ τ t 62 ((t % 7 : Nat) : Int) := by
    obtain ⟨d, hd⟩ : ∃ d, l = t + 7 * d := ⟨(l - t) / 7, by omega⟩
    have z := (lk_wait hR (w := l % 7) l1.1 rfl (by omega) (by omega) l1.2 d (by omega)).2.1
    have ev : (t - 7) % 7 = t % 7 := by omega
    have kw := run_w hR h6 (t := t - 7) ev 6 (by omega) (by omega) 62 (by decide)
    rw [show t - 7 + 1 + 6 = t by omega] at kw
    rw [show l + 1 - 7 * (d + 1) = t - 7 + 1 by omega, l2] at z
    rw [kw]
    exact z
  unfold gdq at g
  by_cases c : t % 7 < 6 ∧ τ t 62 ((t % 7 : Nat) : Int) = -1 ∧ (ρ t).2.2 62 ((t % 7 : Nat) : Int) ≠ -1
  · omega
  · rw [if_neg c] at g
    omega
-- SUMV: the ticks of workers in LACKS waits are preferred
theorem SUMV {L s0 : Nat} {τ : Nat → qS} (hR : RNN L τ) (hs : ∀ t, t ≤ 7 * L → psame (τ 0) (τ t)) {A : Nat → List (Ms × Nat × Nat)} {ρ : Nat → qS × qS × qS} {B : Nat → List (Ms × Nat × Nat) × List (Ms × Nat × Nat) × List (Ms × Nat × Nat)} (h : ANC L s0 τ A ρ B) (h7 : 224 ≤ s0) {r0 n : Nat} (h1 : s0 + 3000 ≤ 7 * r0) (h2 : r0 + n + 300 ≤ L) (hn : 300 ≤ n) : ∃ ch : Nat → Nat, (∀ r, ch r < 6) ∧ (∀ r, (∃ v, v < 6 ∧ T1t A (7 * r + v)) → T1t A (7 * r + ch r)) ∧ (∀ r, (∃ v, v < 6 ∧ T1t A (7 * r + v) ∧ WTt τ (7 * r + v)) → WTt τ (7 * r + ch r)) ∧
    ctq (fun r => ∃ v, v < 6 ∧ T1t A (7 * r + v) ∧ WTt τ (7 * r + v)) r0 n + 2 * ctq (fun r => ¬ NDk L s0 τ A B r ∧ ∃ v, v < 6 ∧ T1t A (7 * r + v) ∧ WTt τ (7 * r + v)) r0 n + ctq (LKt τ) (7 * r0) (7 * n) + 3 * ctq (WHt τ) (7 * r0) (7 * n) + 3 * smq (jkq τ ρ) (7 * r0) (7 * n) + 6 * smq (rvq τ ρ) (7 * r0) (7 * n)
    ≤ 6 * ctq (fun r => ¬ ∃ v, v < 6 ∧ T1t A (7 * r + v)) r0 n + 6 * ctq (fun b => XNz τ (7 * r0 + 7 * n - 1) 12 b ∧ OWb L s0 τ A ρ B b) (7 * r0) (7 * n) + 6 * ctq (SL2 τ A ρ B) (7 * r0) (7 * n + 448) + 2 * ctq (fun b => PNk L s0 τ A ρ B b ∧ ∃ t i, 7 * r0 ≤ t ∧ t < 7 * r0 + 7 * n ∧ i < 3 ∧ (CHk L s0 τ A B ch t ∧ T1t A t) ∧ rdk τ A ρ B 5 t i b) (7 * r0 - 448) (7 * n + 448)
      + (ctq (fun b => (NAb L s0 τ A ρ B b ∧ XNz τ (7 * r0 + 7 * n - 1) 12 b) ∧ ∃ t i, 7 * r0 ≤ t ∧ t < 7 * r0 + 7 * n ∧ i < 3 ∧ (CHc ch t ∧ T1t A t) ∧ rdk τ A ρ B 6 t i b) (7 * r0 - 448) (7 * n + 448) + ctq (fun b => (NAb L s0 τ A ρ B b ∧ XNz τ (7 * r0 + 7 * n - 1) 12 b) ∧ ∃ t i, 7 * r0 ≤ t ∧ t < 7 * r0 + 7 * n ∧ i < 3 ∧ (CHc ch t ∧ T1t A t) ∧ rdk τ A ρ B 5 t i b) (7 * r0 - 448) (7 * n + 448)) + 2 * (ctq (fun b => (NAb L s0 τ A ρ B b ∧ XNz τ (7 * r0 + 7 * n - 1) 12 b) ∧ ∃ t i, 7 * r0 ≤ t ∧ t < 7 * r0 + 7 * n ∧ i < 3 ∧ (CHk L s0 τ A B ch t ∧ T1t A t) ∧ rdk τ A ρ B 6 t i b) (7 * r0 - 448) (7 * n + 448) + ctq (fun b => (NAb L s0 τ A ρ B b ∧ XNz τ (7 * r0 + 7 * n - 1) 12 b) ∧ ∃ t i, 7 * r0 ≤ t ∧ t < 7 * r0 + 7 * n ∧ i < 3 ∧ (CHk L s0 τ A B ch t ∧ T1t A t) ∧ rdk τ A ρ B 5 t i b) (7 * r0 - 448) (7 * n + 448)) + 710000 := by
  obtain ⟨ch, hc, ht, hq⟩ := ch_ex A (WTt τ)
  refine ⟨ch, hc, ht, hq, ?_⟩
  have x := SUMU hR hs h h7 (ch := ch) (r0 := r0) (n := n) h1 h2 hn hc ht
  have tr : ∀ t, 7 * r0 ≤ t → t < 7 * r0 + 7 * n → CHc ch t → (∃ v, v < 6 ∧ T1t A (7 * (t / 7) + v) ∧ WTt τ (7 * (t / 7) + v)) → T1t A t ∧ ((¬ ∃ b, ACC τ A ρ B t b) ∧ ¬ gdq τ ρ t = 1) := fun t t1 t2 q1 q2 => by
    have a := ht (t / 7) (by
      obtain ⟨v, v1, v2, -⟩ := q2
      exact ⟨v, v1, v2⟩)
    have b := hq (t / 7) q2
    rw [← q1] at a b
    exact ⟨a, WT_z hR h (by omega) (by omega) (by omega) b⟩
  have c1 := CH_n hc (P := fun r => ∃ v, v < 6 ∧ T1t A (7 * r + v) ∧ WTt τ (7 * r + v)) (r0 := r0) (n := n)
  have c2 := ctq_mo (P := fun t => CHc ch t ∧ ∃ v, v < 6 ∧ T1t A (7 * (t / 7) + v) ∧ WTt τ (7 * (t / 7) + v)) (Q := fun t => ((CHc ch t ∧ T1t A t) ∧ ¬ ∃ b, ACC τ A ρ B t b) ∧ ¬ gdq τ ρ t = 1) (s := 7 * r0) (7 * n) (fun t t1 t2 q => by
    obtain ⟨a, b, c⟩ := tr t t1 t2 q.1 q.2
    exact ⟨⟨⟨q.1, a⟩, b⟩, c⟩)
  have d1 := CH_n hc (P := fun r => ¬ NDk L s0 τ A B r ∧ ∃ v, v < 6 ∧ T1t A (7 * r + v) ∧ WTt τ (7 * r + v)) (r0 := r0) (n := n)
  have d2 := ctq_mo (P := fun t => CHc ch t ∧ (¬ NDk L s0 τ A B (t / 7) ∧ ∃ v, v < 6 ∧ T1t A (7 * (t / 7) + v) ∧ WTt τ (7 * (t / 7) + v))) (Q := fun t => ((CHk L s0 τ A B ch t ∧ T1t A t) ∧ ¬ ∃ b, ACC τ A ρ B t b) ∧ ¬ gdq τ ρ t = 1) (s := 7 * r0) (7 * n) (fun t t1 t2 q => by
    obtain ⟨a, b, c⟩ := tr t t1 t2 q.1 q.2.2
    exact ⟨⟨⟨⟨q.1, q.2.1⟩, a⟩, b⟩, c⟩)
  omega

