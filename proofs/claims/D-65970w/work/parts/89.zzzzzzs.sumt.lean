theorem RD_3k {w : Int} {σ σ' : qS} (h : RD w σ σ') : c3k σ' ≤ c3k σ := by
  obtain ⟨-, -, -, c⟩ := h
  unfold c3k
  have er : ∀ i, ln σ' = (ln σ).eraseIdx i → (ln σ').countP t3k ≤ (ln σ).countP t3k := fun i e => by
    rw [e]; exact (List.eraseIdx_sublist _ i).countP_le
  rcases c with ⟨-, c, -⟩ | ⟨i, x, -, c2, c⟩
  · rw [c]; exact Nat.le_refl _
  · rcases c with ⟨-, c, -⟩ | ⟨-, -, c, -⟩ | ⟨-, -, -, a, kv, c⟩ | ⟨-, -, c, -⟩
    · exact er i c
    · exact er i c
    · rw [c, List.countP_append]
      have e := cp_tl t3k ((ln σ).eraseIdx i)
      have e2 : ((ln σ).eraseIdx i).countP t3k ≤ (ln σ).countP t3k := (List.eraseIdx_sublist _ i).countP_le
      have q : [((xw x 5, [6, σ 31 0, xw x 2, xw x 4, a, xw x 3], kv) : Ms)].countP t3k = 0 := rfl
      omega
    · exact er i c
theorem TL_3 {to ty a b c d : Int} {σ σ' : qS} (h : TL to ty a b c d σ σ') : c3k σ' ≤ c3k σ + 1 ∧ (ty ≠ 3 → c3k σ' ≤ c3k σ) := by
  obtain ⟨kv, e⟩ := h
  unfold c3k
  rw [e, List.countP_append]
  have e1 := cp_tl t3k (ln σ)
  have q : [((to, [ty, σ 31 0, a, b, c, d], kv) : Ms)].countP t3k ≤ 1 := List.countP_le_length
  refine ⟨by omega, fun n => ?_⟩
  have q0 : [((to, [ty, σ 31 0, a, b, c, d], kv) : Ms)].countP t3k = 0 := by
    rw [List.countP_cons, List.countP_nil, t3_f (x := ((to, [ty, σ 31 0, a, b, c, d], kv) : Ms)) n]
    rfl
  omega
-- a DONE is sent only in a tick that ends a task and is no kill
theorem C3_t {L s0 : Nat} {τ : Nat → qS} (hR : RNN L τ) {A : Nat → List (Ms × Nat × Nat)} {ρ : Nat → qS × qS × qS} {B : Nat → List (Ms × Nat × Nat) × List (Ms × Nat × Nat) × List (Ms × Nat × Nat)} (h : ANC L s0 τ A ρ B) (hs : ∀ t, t ≤ 7 * L → psame (τ 0) (τ t)) {t : Nat} (h7 : 7 ≤ t) (h1 : s0 ≤ t) (h2 : t < 7 * L) : c3k (τ (t + 1)) + (@ite Nat (D3t τ t) (Classical.propDecidable _) 1 0) ≤ c3k (τ t) + (@ite Nat (DNt τ ρ t) (Classical.propDecidable _) 1 0) := by
  by_cases h6 : t % 7 < 6
  · rw [if_neg (fun q => by have := q.1; omega)]
    obtain ⟨⟨r1, r2, r3, a, ⟨j1, j2, j3, j4⟩, -⟩, -⟩ := h.2 t h1 h2 h6
    have a1 := RD_3k r1
    have a2 := RD_3k r2
    have a3 := RD_3k r3
    have hsp := spl_b j3.1
    have nl : c3k (τ (t + 1)) ≤ c3k (ρ t).2.2 → c3k (τ (t + 1)) + 0 ≤ c3k (τ t) + (@ite Nat (DNt τ ρ t) (Classical.propDecidable _) 1 0) := fun q => by omega
    have nl' : ln (τ (t + 1)) = ln (ρ t).2.2 → c3k (τ (t + 1)) ≤ c3k (ρ t).2.2 := fun e => by unfold c3k; rw [e]; exact Nat.le_refl _
    have yes : DNt τ ρ t → c3k (τ (t + 1)) ≤ c3k (ρ t).2.2 + 1 → c3k (τ (t + 1)) + 0 ≤ c3k (τ t) + (@ite Nat (DNt τ ρ t) (Classical.propDecidable _) 1 0) := fun d q => by
      rw [if_pos d]; omega
    have t0 : 38 ≤ τ t 62 ((t % 7 : Nat) : Int) → (ρ t).2.2 62 ((t % 7 : Nat) : Int) = τ t 62 ((t % 7 : Nat) : Int) := fun n => by
      have e1 := RD_tk r1 (by omega)
      have e2 := RD_tk r2 (by omega)
      have e3 := RD_tk r3 (by omega)
      omega
    have dn : (ρ t).2.2 62 ((t % 7 : Nat) : Int) ≠ -1 → τ (t + 1) 62 ((t % 7 : Nat) : Int) = -1 → ¬ 38 ≤ τ t 62 ((t % 7 : Nat) : Int) → DNt τ ρ t := fun n e m => ⟨⟨h6, n, e⟩, fun q => m q.2.2.1⟩
    have kk : ∀ k ∈ rdK, (ρ t).2.2 k = τ t k := fun k m => ((r3.2.2.1 k m).trans (r2.2.2.1 k m)).trans (r1.2.2.1 k m)
    obtain ⟨-, -, hkk, c⟩ := a
    have he : τ (t + 1) 31 = (ρ t).2.2 31 := hkk _ (by decide)
    rcases c with ⟨-, -, -, -, c⟩ | ⟨c0, c⟩ | ⟨c0, c⟩
    · rcases c with ⟨-, c⟩ | ⟨-, c⟩
      · exact nl ((TL_3 c).2 (by decide))
      · exact nl (nl' c)
    · have nt : ¬ 38 ≤ τ t 62 ((t % 7 : Nat) : Int) := fun q => by have := t0 q; omega
      rcases c with ⟨-, -, f, x, c⟩ | ⟨-, f, -, ⟨x, c⟩, -⟩ | ⟨-, -, f, c⟩ | ⟨-, -, -, -, -, c⟩
      · exact yes (dn (by omega) f.1 nt) (TL_3 c).1
      · exact yes (dn (by omega) f.1 nt) (TL_3 c).1
      · exact nl ((TL_3 c).2 (by decide))
      · exact nl (nl' c)
    · rcases c with ⟨c1, -, f, c⟩ | ⟨-, -, -, -, -, c⟩ | ⟨-, -, -, -, -, c, -⟩ | ⟨-, -, -, -, -, -, -, -, -, c⟩ | ⟨ne3, c1, f, -, c⟩
      · by_cases nt : 38 ≤ τ t 62 ((t % 7 : Nat) : Int)
        · exfalso
          have ne := (red_ne hR hs h6 h7 (by omega) nt).1
          rw [kk 40 (by decide), kk 31 (by decide), t0 nt] at c1
          exact ne c1
        · exact yes (dn (by omega) f.1 nt) (TL_3 c).1
      · exact nl (nl' c)
      · exact nl (nl' c)
      · rcases c with ⟨-, -, c⟩ | ⟨-, -, kv, kv', c⟩
        · exact nl ((TL_3 c).2 (by decide))
        · refine nl ?_
          unfold c3k
          rw [c, List.countP_append]
          have e1 := cp_tl t3k (tl95 (ln (ρ t).2.2) ++ [(((ρ t).2.2 33 ((ρ t).2.2 64 ((t % 7 : Nat) : Int)), [5, (ρ t).2.2 31 0, (ρ t).2.2 64 ((t % 7 : Nat) : Int), (ρ t).2.2 62 ((t % 7 : Nat) : Int) - 38, ps (ρ t).2.2 ((t % 7 : Nat) : Int), ((t % 7 : Nat) : Int)], kv) : Ms)])
          rw [List.countP_append] at e1
          have e2 := cp_tl t3k (ln (ρ t).2.2)
          have q1 : [(((ρ t).2.2 33 ((ρ t).2.2 64 ((t % 7 : Nat) : Int)), [5, (ρ t).2.2 31 0, (ρ t).2.2 64 ((t % 7 : Nat) : Int), (ρ t).2.2 62 ((t % 7 : Nat) : Int) - 38, ps (ρ t).2.2 ((t % 7 : Nat) : Int), ((t % 7 : Nat) : Int)], kv) : Ms)].countP t3k = 0 := rfl
          have q2 : [((6, [7, (ρ t).2.2 31 0, (ρ t).2.2 64 ((t % 7 : Nat) : Int), (ρ t).2.2 33 ((ρ t).2.2 64 ((t % 7 : Nat) : Int)), 0, 0], kv') : Ms)].countP t3k = 0 := rfl
          omega
      · rcases c with ⟨c2, -, c⟩ | ⟨-, c⟩
        · by_cases nt : 38 ≤ τ t 62 ((t % 7 : Nat) : Int)
          · exfalso
            have tb := (red_ne hR hs h6 h7 (by omega) nt).2
            have e0 := t0 nt
            obtain ⟨i, hi⟩ : ∃ i : Nat, (ρ t).2.2 62 ((t % 7 : Nat) : Int) - 38 = (i : Int) := ⟨((ρ t).2.2 62 ((t % 7 : Nat) : Int) - 38).toNat, by omega⟩
            rw [hi] at c2 ne3
            have q := ((hs t (by omega)).2.1 i (by omega)).trans ((hs (t + 1) (by omega)).2.1 i (by omega)).symm
            unfold eb at q
            rw [← kk 40 (by decide), ← kk 31 (by decide), decide_eq_false ne3, he, decide_eq_true c2] at q
            exact absurd q (by decide)
          · exact yes (dn (by omega) f.1 nt) (TL_3 c).1
        · exact nl ((TL_3 c).2 (by decide))
  · rcases hR.2 t h2 with ⟨e, -⟩ | ⟨-, σ1, σ2, r1, r2, r3, -⟩
    · omega
    · have c0 : c3k (clk (τ t)) = c3k (τ t) := by unfold c3k; rw [(clk_x (τ t)).1]
      have a1 := HR_3 r1
      have a2 := HR_3 r2
      have a3 := HR_3 r3
      by_cases d : D3t τ t
      · have := d.2
        rw [if_pos d]
        split <;> omega
      · rw [if_neg d]
        split <;> omega
theorem C3s {L s0 : Nat} {τ : Nat → qS} (hR : RNN L τ) {A : Nat → List (Ms × Nat × Nat)} {ρ : Nat → qS × qS × qS} {B : Nat → List (Ms × Nat × Nat) × List (Ms × Nat × Nat) × List (Ms × Nat × Nat)} (h : ANC L s0 τ A ρ B) (hs : ∀ t, t ≤ 7 * L → psame (τ 0) (τ t)) {s : Nat} (h7 : 7 ≤ s) (h1 : s0 ≤ s) : ∀ k, s + k ≤ 7 * L → c3k (τ (s + k)) + ctq (D3t τ) s k ≤ c3k (τ s) + ctq (DNt τ ρ) s k
  | 0, _ => by simp [ctq]
  | k + 1, hl => by
    have ih := C3s hR h hs h7 h1 k (by omega)
    have b := C3_t hR h hs (t := s + k) (by omega) (by omega) (by omega)
    rw [show s + (k + 1) = s + k + 1 by omega]
    simp only [ctq]
    omega
-- each C-event needs a DONE
theorem CE_DN {L s0 : Nat} {τ : Nat → qS} (hR : RNN L τ) {A : Nat → List (Ms × Nat × Nat)} {ρ : Nat → qS × qS × qS} {B : Nat → List (Ms × Nat × Nat) × List (Ms × Nat × Nat) × List (Ms × Nat × Nat)} (h : ANC L s0 τ A ρ B) (hs : ∀ t, t ≤ 7 * L → psame (τ 0) (τ t)) {s k : Nat} (h7 : 7 ≤ s) (h1 : s0 ≤ s) (h2 : s + k ≤ 7 * L) : ctq (CEk τ A) s k ≤ ctq (DNt τ ρ) s k + 96 := by
  have a := CED hR h.1 h7 h1 h2
  have b := C3s hR h hs h7 h1 k h2
  have c : c3k (τ s) ≤ 95 := by
    have l := run_95 hR (by omega) h7 (by omega : s ≤ 7 * L)
    have : c3k (τ s) ≤ (ln (τ s)).length := List.countP_le_length
    omega
  omega
-- SUMT: windows and closings counted by the C-events
theorem SUMT {L s0 : Nat} {τ : Nat → qS} (hR : RNN L τ) (hs : ∀ t, t ≤ 7 * L → psame (τ 0) (τ t)) {A : Nat → List (Ms × Nat × Nat)} {ρ : Nat → qS × qS × qS} {B : Nat → List (Ms × Nat × Nat) × List (Ms × Nat × Nat) × List (Ms × Nat × Nat)} (h : ANC L s0 τ A ρ B) (h7 : 224 ≤ s0) {ch : Nat → Nat} {r0 n : Nat} (h1 : s0 + 3000 ≤ 7 * r0) (h2 : r0 + n + 300 ≤ L) (hn : 300 ≤ n) (hc : ∀ r, ch r < 6) (ht : ∀ r, (∃ v, v < 6 ∧ T1t A (7 * r + v)) → T1t A (7 * r + ch r)) :
    ctq (fun t => ((CHc ch t ∧ T1t A t) ∧ ¬ ∃ b, ACC τ A ρ B t b) ∧ ¬ gdq τ ρ t = 1) (7 * r0) (7 * n) + 2 * ctq (fun t => ((CHk L s0 τ A B ch t ∧ T1t A t) ∧ ¬ ∃ b, ACC τ A ρ B t b) ∧ ¬ gdq τ ρ t = 1) (7 * r0) (7 * n) + 7 * ctq (LKt τ) (7 * r0) (7 * n) + 3 * ctq (WHt τ) (7 * r0) (7 * n) + 3 * smq (jkq τ ρ) (7 * r0) (7 * n) + 6 * smq (rvq τ ρ) (7 * r0) (7 * n)
    ≤ 6 * ctq (fun r => ¬ ∃ v, v < 6 ∧ T1t A (7 * r + v)) r0 n + 6 * ctq (fun b => XNz τ (7 * r0 + 7 * n - 1) 12 b ∧ OWb L s0 τ A ρ B b) (7 * r0) (7 * n) + 6 * ctq (SLx τ A ρ B) (7 * r0) (7 * n + 448) + 2 * ctq (fun b => PNk L s0 τ A ρ B b ∧ ∃ t i, 7 * r0 ≤ t ∧ t < 7 * r0 + 7 * n ∧ i < 3 ∧ (CHk L s0 τ A B ch t ∧ T1t A t) ∧ rdk τ A ρ B 5 t i b) (7 * r0 - 448) (7 * n + 448)
      + (ctq (fun b => (NAb L s0 τ A ρ B b ∧ XNz τ (7 * r0 + 7 * n - 1) 12 b) ∧ ∃ t i, 7 * r0 ≤ t ∧ t < 7 * r0 + 7 * n ∧ i < 3 ∧ (CHc ch t ∧ T1t A t) ∧ rdk τ A ρ B 6 t i b) (7 * r0 - 448) (7 * n + 448) + ctq (fun b => (NAb L s0 τ A ρ B b ∧ XNz τ (7 * r0 + 7 * n - 1) 12 b) ∧ ∃ t i, 7 * r0 ≤ t ∧ t < 7 * r0 + 7 * n ∧ i < 3 ∧ (CHc ch t ∧ T1t A t) ∧ rdk τ A ρ B 5 t i b) (7 * r0 - 448) (7 * n + 448)) + 2 * (ctq (fun b => (NAb L s0 τ A ρ B b ∧ XNz τ (7 * r0 + 7 * n - 1) 12 b) ∧ ∃ t i, 7 * r0 ≤ t ∧ t < 7 * r0 + 7 * n ∧ i < 3 ∧ (CHk L s0 τ A B ch t ∧ T1t A t) ∧ rdk τ A ρ B 6 t i b) (7 * r0 - 448) (7 * n + 448) + ctq (fun b => (NAb L s0 τ A ρ B b ∧ XNz τ (7 * r0 + 7 * n - 1) 12 b) ∧ ∃ t i, 7 * r0 ≤ t ∧ t < 7 * r0 + 7 * n ∧ i < 3 ∧ (CHk L s0 τ A B ch t ∧ T1t A t) ∧ rdk τ A ρ B 5 t i b) (7 * r0 - 448) (7 * n + 448)) + 700000 := by
  have x := SUMRl hR hs h h7 (ch := ch) (r0 := r0) (n := n) h1 h2 hn hc ht
  have w := KWH hR h hs (s := 7 * r0) (k := 7 * n) (by omega) (by omega) (by omega) (by omega)
  have wa := ctq_mo (P := NDk L s0 τ A B) (Q := fun r => ∃ d, 1 ≤ d ∧ d ≤ 31 ∧ (fun q => CEk τ A (7 * q + 6)) (r - d)) (s := r0) n (fun r r1 r2 ⟨φ, f1, f2, hf⟩ => by
    obtain ⟨c, c1, c2, c3⟩ := FRk_c h (by omega) hf
    have c6 := c1.1.1
    refine ⟨r - c / 7, by omega, by omega, ?_⟩
    show CEk τ A (7 * (r - (r - c / 7)) + 6)
    rw [show 7 * (r - (r - c / 7)) + 6 = c by omega]
    exact c1)
  have wb := ctq_win (P := fun q => CEk τ A (7 * q + 6)) (s := r0) (n := n) 31 (by omega)
  have wc := ctq_rt (P := CEk τ A) (r := r0 - 31) (n := n + 31)
  have wab : ctq (NDk L s0 τ A B) r0 n ≤ 31 * ctq (fun q => CEk τ A (7 * q + 6)) (r0 - 31) (n + 31) := Nat.le_trans wa wb
  generalize ctq (fun q => CEk τ A (7 * q + 6)) (r0 - 31) (n + 31) = g1 at wab wc
  have cs := CEBk hR h.1 (s := 7 * (r0 - 31)) (by omega) (by omega) (7 * (n + 31)) (by omega)
  have cs' : ctq (CEk τ A) (7 * (r0 - 31)) (7 * (n + 31)) ≤ ctq (H7t τ) (7 * (r0 - 31)) (7 * (n + 31)) + 1 := by
    rcases cs with d | ⟨d, -⟩
    · exact Nat.le_trans d (by omega)
    · exact d
  have dn := CE_DN hR h hs (s := 7 * (r0 - 31)) (k := 7 * (n + 31)) (by omega) (by omega) (by omega)
  have dj := ctq_jn (P := DNt τ ρ) (s := 7 * (r0 - 31)) 217 (7 * n)
  rw [show 7 * (r0 - 31) + 217 = 7 * r0 by omega, show 217 + 7 * n = 7 * (n + 31) by omega] at dj
  have dl := ctq_le (P := DNt τ ρ) (s := 7 * (r0 - 31)) 217
  have e := H7B hR (s := 7 * (r0 - 31)) (7 * (n + 31)) (by omega)
  rw [show 7 * (r0 - 31) + 7 * (n + 31) = 7 * r0 + 7 * n by omega] at e
  have f : c7 (τ (7 * (r0 - 31))) ≤ 95 := by
    have l := run_95 hR (by omega) (by omega : 7 ≤ 7 * (r0 - 31)) (by omega)
    have : c7 (τ (7 * (r0 - 31))) ≤ (ln (τ (7 * (r0 - 31)))).length := List.countP_le_length
    omega
  have hj := ctq_jn (P := H7t τ) (s := 7 * (r0 - 31)) 210 (7 * n + 7)
  rw [show 7 * (r0 - 31) + 210 = 7 * r0 - 7 by omega, show 210 + (7 * n + 7) = 7 * (n + 31) by omega] at hj
  have lk := lkc_c τ (7 * (r0 - 31)) (217 + 7 * n)
  rw [show 7 * (r0 - 31) + (217 + 7 * n) = 7 * r0 + 7 * n by omega] at lk
  have j1 := ctq_jn (P := LKt τ) (s := 7 * (r0 - 31)) 217 (7 * n)
  rw [show 7 * (r0 - 31) + 217 = 7 * r0 by omega] at j1
  have j2 := ctq_le (P := LKt τ) (s := 7 * (r0 - 31)) 217
  omega

