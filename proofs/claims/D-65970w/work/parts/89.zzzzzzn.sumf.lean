-- C-events of kills proper
def CEk (τ : Nat → qS) (A : Nat → List (Ms × Nat × Nat)) (c : Nat) : Prop := MPt A c ∧ ∃ v κ, (v < 6 ∧ 7 ≤ κ ∧ KLt τ v κ ∧ ¬ mapd (τ κ)) ∧ κ < c ∧ ∀ u, κ < u → u < c → ¬ MPt A u
theorem FRk_c {L s0 : Nat} {τ : Nat → qS} {A : Nat → List (Ms × Nat × Nat)} {ρ : Nat → qS × qS × qS} {B : Nat → List (Ms × Nat × Nat) × List (Ms × Nat × Nat) × List (Ms × Nat × Nat)} (h : ANC L s0 τ A ρ B) {φ : Nat} (hφ : s0 + 225 ≤ φ) (hf : FRk L s0 τ A B φ) : ∃ c, CEk τ A c ∧ c < φ ∧ φ < c + 218 := by
  obtain ⟨v, κ, x, i, y, ⟨v6, x0, xl, xv, kx, kl, -, hi, hy, y2, yp, ky, yφ, fk⟩, nm⟩ := hf
  have mA := st_gv h x0 xl (by omega) i (by omega) y (hd_mem hy).1 y2
  have q := GVs h.1 (x - s0) (by omega) y (by rw [show s0 + (x - s0) = x by omega]; exact mA) y2 (by omega)
  have mp : MPt A (y.2.1 - 1) := ⟨by omega, y, by rw [show y.2.1 - 1 + 1 = y.2.1 by omega]; exact q.2.2, y2, yp, by omega⟩
  have kne : κ ≠ y.2.1 - 1 := fun e => by
    have := kl.1
    omega
  have ex : ∀ d u, κ < u → u + d = y.2.1 - 1 → MPt A u ∨ True → ∃ c, κ < c ∧ c ≤ y.2.1 - 1 ∧ MPt A c ∧ ∀ u', κ < u' → u' < c → ¬ MPt A u' := fun _ _ _ _ _ => by
    have lst : ∀ m, ∀ c, κ < c → c ≤ κ + m → MPt A c → ∃ c', κ < c' ∧ c' ≤ c ∧ MPt A c' ∧ ∀ u', κ < u' → u' < c' → ¬ MPt A u' := fun m => by
      induction m with
      | zero => intro c q1 q2; omega
      | succ m ih =>
        intro c q1 q2 q3
        by_cases e : ∃ u', κ < u' ∧ u' < c ∧ MPt A u'
        · obtain ⟨u', u1, u2, u3⟩ := e
          obtain ⟨c', c1, c2, c3⟩ := ih u' u1 (by omega) u3
          exact ⟨c', c1, by omega, c3⟩
        · exact ⟨c, q1, Nat.le_refl _, q3, fun u' u1 u2 u3 => e ⟨u', u1, u2, u3⟩⟩
    exact lst (y.2.1 - 1 - κ) (y.2.1 - 1) (by omega) (by omega) mp
  obtain ⟨c, c1, c2, c3, c4⟩ := ex 0 (y.2.1 - 1) (by omega) (by omega) (Or.inr trivial)
  exact ⟨c, ⟨c3, v, κ, ⟨v6, by omega, kl, nm⟩, c1, c4⟩, by omega, by omega⟩

theorem CEBk {L s0 : Nat} {τ : Nat → qS} (hR : RNN L τ) {A : Nat → List (Ms × Nat × Nat)} (h : ANR L s0 τ A) {s : Nat} (h7 : 7 ≤ s) (h1 : s0 ≤ s) : ∀ k, s + k ≤ 7 * L → ctq (CEk τ A) s k ≤ ctq (H7t τ) s k ∨ (ctq (CEk τ A) s k ≤ ctq (H7t τ) s k + 1 ∧ ∃ c, c < s + k ∧ MPt A c ∧ ∀ u, c < u → u ≤ s + k → mapd (τ u))
  | 0, _ => Or.inl (by simp [ctq])
  | k + 1, hl => by
    have ih := CEBk hR h h7 h1 k (by omega)
    have e1 : s + (k + 1) = s + k + 1 := by omega
    rw [e1]
    simp only [ctq]
    by_cases ce : CEk τ A (s + k)
    · rw [if_pos ce]
      have hne : ¬ ∃ c, c < s + k ∧ MPt A c ∧ ∀ u, c < u → u ≤ s + k → mapd (τ u) := fun ⟨c, c1, c2, c3⟩ => by
        obtain ⟨-, v, κ, ⟨v6, k7, kl, nm⟩, k1, k2⟩ := ce
        rcases Nat.lt_trichotomy κ c with q | q | q
        · exact k2 c q c1 c2
        · have := c2.1
          have := kl.1
          omega
        · have m := c3 κ q (by omega)
          exact nm m
      have ih1 : ctq (CEk τ A) s k ≤ ctq (H7t τ) s k := by
        rcases ih with q | ⟨-, q⟩
        · exact q
        · exact absurd q hne
      rcases MP_m hR h (by omega) (by omega) (by omega : s + k < 7 * L) ce.1 with m | m
      · right
        refine ⟨?_, s + k, by omega, ce.1, fun u u1 u2 => ?_⟩
        · split <;> omega
        · have : u = s + k + 1 := by omega
          rw [this]; exact m
      · left
        rw [if_pos (show H7t τ (s + k) from ⟨ce.1.1, m⟩)]
        omega
    · rw [if_neg ce]
      rcases ih with q | ⟨q, c, c1, c2, c3⟩
      · left
        split <;> omega
      · rcases mp_st hR (by omega : s + k < 7 * L) (c3 (s + k) c1 (Nat.le_refl _)) with m | m
        · right
          refine ⟨?_, c, by omega, c2, fun u u1 u2 => ?_⟩
          · split <;> omega
          · by_cases e : u = s + k + 1
            · rw [e]; exact m
            · exact c3 u u1 (by omega)
        · left
          rw [if_pos (show H7t τ (s + k) from m)]
          omega

theorem WINk {L s0 : Nat} {τ : Nat → qS} (hR : RNN L τ) {A : Nat → List (Ms × Nat × Nat)} {ρ : Nat → qS × qS × qS} {B : Nat → List (Ms × Nat × Nat) × List (Ms × Nat × Nat) × List (Ms × Nat × Nat)} (h : ANC L s0 τ A ρ B) {r0 n : Nat} (h1 : s0 + 500 ≤ 7 * r0) (h2 : r0 + n ≤ L) : ctq (NDk L s0 τ A B) r0 n + 31 * lkc τ (7 * r0 - 217) ≤ 31 * (lkc τ (7 * r0 + 7 * n) + 97) := by
  have a := ctq_mo (P := NDk L s0 τ A B) (Q := fun r => ∃ d, 1 ≤ d ∧ d ≤ 31 ∧ (fun q => CEk τ A (7 * q + 6)) (r - d)) (s := r0) n (fun r r1 r2 ⟨φ, f1, f2, hf⟩ => by
    obtain ⟨c, c1, c2, c3⟩ := FRk_c h (by omega) hf
    have c6 := c1.1.1
    refine ⟨r - c / 7, by omega, by omega, ?_⟩
    show CEk τ A (7 * (r - (r - c / 7)) + 6)
    rw [show 7 * (r - (r - c / 7)) + 6 = c by omega]
    exact c1)
  have b := ctq_win (P := fun q => CEk τ A (7 * q + 6)) (s := r0) (n := n) 31 (by omega)
  have c := ctq_rt (P := CEk τ A) (r := r0 - 31) (n := n + 31)
  have d := CEBk hR h.1 (s := 7 * (r0 - 31)) (by omega) (by omega) (7 * (n + 31)) (by omega)
  have d' : ctq (CEk τ A) (7 * (r0 - 31)) (7 * (n + 31)) ≤ ctq (H7t τ) (7 * (r0 - 31)) (7 * (n + 31)) + 1 := by
    rcases d with d | ⟨d, -⟩
    · exact Nat.le_trans d (by omega)
    · exact d
  have e := H7B hR (s := 7 * (r0 - 31)) (7 * (n + 31)) (by omega)
  rw [show 7 * (r0 - 31) + 7 * (n + 31) = 7 * r0 + 7 * n by omega] at e
  have f : c7 (τ (7 * (r0 - 31))) ≤ 95 := by
    have l := run_95 hR (by omega) (by omega : 7 ≤ 7 * (r0 - 31)) (by omega)
    have : c7 (τ (7 * (r0 - 31))) ≤ (ln (τ (7 * (r0 - 31)))).length := List.countP_le_length
    omega
  rw [show 7 * r0 - 217 = 7 * (r0 - 31) by omega]
  have ab : ctq (NDk L s0 τ A B) r0 n ≤ 31 * ctq (fun q => CEk τ A (7 * q + 6)) (r0 - 31) (n + 31) := Nat.le_trans a b
  have cd' : ctq (fun q => CEk τ A (7 * q + 6)) (r0 - 31) (n + 31) ≤ ctq (H7t τ) (7 * (r0 - 31)) (7 * (n + 31)) + 1 := Nat.le_trans c d'
  generalize ctq (fun q => CEk τ A (7 * q + 6)) (r0 - 31) (n + 31) = g1 at ab cd'
  omega

-- SUMF: the sum for all jobs with the windows counted by the LACKS
theorem SUMF {L s0 : Nat} {τ : Nat → qS} (hR : RNN L τ) (hs : ∀ t, t ≤ 7 * L → psame (τ 0) (τ t)) {A : Nat → List (Ms × Nat × Nat)} {ρ : Nat → qS × qS × qS} {B : Nat → List (Ms × Nat × Nat) × List (Ms × Nat × Nat) × List (Ms × Nat × Nat)} (h : ANC L s0 τ A ρ B) (h7 : 224 ≤ s0) {ch : Nat → Nat} {r0 n : Nat} (h1 : s0 + 3000 ≤ 7 * r0) (h2 : r0 + n + 300 ≤ L) (hn : 300 ≤ n) (hc : ∀ r, ch r < 6) (ht : ∀ r, (∃ v, v < 6 ∧ T1t A (7 * r + v)) → T1t A (7 * r + ch r)) :
    ctq (fun t => ((CHc ch t ∧ T1t A t) ∧ ¬ ∃ b, ACC τ A ρ B t b) ∧ ¬ gdq τ ρ t = 1) (7 * r0) (7 * n) + 2 * ctq (fun t => ((CHk L s0 τ A B ch t ∧ T1t A t) ∧ ¬ ∃ b, ACC τ A ρ B t b) ∧ ¬ gdq τ ρ t = 1) (7 * r0) (7 * n) + 23 * ctq (LKt τ) (7 * r0) (7 * n) + 3 * smq (jkq τ ρ) (7 * r0) (7 * n) + 3 * ctq (GAt τ) (7 * r0) (7 * n) + 6 * smq (msq τ) (7 * r0) (7 * n)
    ≤ 6 * ctq (fun r => ¬ ∃ v, v < 6 ∧ T1t A (7 * r + v)) r0 n + 3 * ctq (Klt τ A ρ B) (7 * r0) (7 * n) + 4 * ctq (DNt τ ρ) (7 * r0) (7 * n) + 6 * smq (jsq τ ρ) (7 * r0) (7 * n) + 6 * ctq (fun b => XNz τ (7 * r0 + 7 * n - 1) 12 b ∧ OWb L s0 τ A ρ B b) (7 * r0) (7 * n) + 6 * ctq (SLx τ A ρ B) (7 * r0) (7 * n + 448) + 2 * ctq (fun b => PNk L s0 τ A ρ B b ∧ ∃ t i, 7 * r0 ≤ t ∧ t < 7 * r0 + 7 * n ∧ i < 3 ∧ (CHk L s0 τ A B ch t ∧ T1t A t) ∧ rdk τ A ρ B 5 t i b) (7 * r0 - 448) (7 * n + 448)
      + (ctq (fun b => (NAb L s0 τ A ρ B b ∧ XNz τ (7 * r0 + 7 * n - 1) 12 b) ∧ ∃ t i, 7 * r0 ≤ t ∧ t < 7 * r0 + 7 * n ∧ i < 3 ∧ (CHc ch t ∧ T1t A t) ∧ rdk τ A ρ B 6 t i b) (7 * r0 - 448) (7 * n + 448) + ctq (fun b => (NAb L s0 τ A ρ B b ∧ XNz τ (7 * r0 + 7 * n - 1) 12 b) ∧ ∃ t i, 7 * r0 ≤ t ∧ t < 7 * r0 + 7 * n ∧ i < 3 ∧ (CHc ch t ∧ T1t A t) ∧ rdk τ A ρ B 5 t i b) (7 * r0 - 448) (7 * n + 448)) + 2 * (ctq (fun b => (NAb L s0 τ A ρ B b ∧ XNz τ (7 * r0 + 7 * n - 1) 12 b) ∧ ∃ t i, 7 * r0 ≤ t ∧ t < 7 * r0 + 7 * n ∧ i < 3 ∧ (CHk L s0 τ A B ch t ∧ T1t A t) ∧ rdk τ A ρ B 6 t i b) (7 * r0 - 448) (7 * n + 448) + ctq (fun b => (NAb L s0 τ A ρ B b ∧ XNz τ (7 * r0 + 7 * n - 1) 12 b) ∧ ∃ t i, 7 * r0 ≤ t ∧ t < 7 * r0 + 7 * n ∧ i < 3 ∧ (CHk L s0 τ A B ch t ∧ T1t A t) ∧ rdk τ A ρ B 5 t i b) (7 * r0 - 448) (7 * n + 448)) + 500000 := by
  have x := SUML hR hs h h7 (ch := ch) (r0 := r0) (n := n) h1 h2 hn hc ht
  have w := WINk hR h (r0 := r0) (n := n) (by omega) (by omega)
  have lk := lkc_c τ (7 * r0 - 217) (217 + 7 * n)
  rw [show 7 * r0 - 217 + (217 + 7 * n) = 7 * r0 + 7 * n by omega] at lk
  have j1 := ctq_jn (P := LKt τ) (s := 7 * r0 - 217) 217 (7 * n)
  rw [show 7 * r0 - 217 + 217 = 7 * r0 by omega] at j1
  have j2 := ctq_le (P := LKt τ) (s := 7 * r0 - 217) 217
  omega

