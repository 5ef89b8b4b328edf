theorem itb_ph2 {L : Nat} {τ : Nat → qS} {S : Nat → List Ms} {s1 s2 : Nat → qS} (h : RNN L τ) (hS : SNO L τ S s1 s2) {k : Int} (k0 : 0 ≤ k) (k1 : k < 38) {s n : Nat} (h0 : 224 ≤ s) (hl : s + n + 14 ≤ 7 * L) (hu : ∀ t, s ≤ t → t < s + n → t % 7 = 6 → UN τ s1 s2 k t) : itb (τ (s + n)) k ≤ itb (τ s) k + 59 ∨ itb (τ (s + n)) k ≤ 65 := by
  by_cases c : n ≤ 448
  · left
    have a := itb_r h hS.1 k0 s n (by omega)
    have g := gk_ph h hS k0 k1 h0 hl hu
    have f : Fg n ≤ 59 := by unfold Fg; omega
    omega
  · right
    have a := itb_o h hS.1 k0 (t := s + n) (by omega) (by omega)
    have g := gk_ph h hS k0 k1 (s := s + n - 448) (n := 448) (by omega) (by omega) (fun t t1 t2 t3 => hu t (by omega) (by omega) t3)
    have f : Fg 448 = 59 := rfl
    omega
noncomputable def bet (τ s1 s2 : Nat → qS) (t0 : Nat) (B0 : Nat → Nat) : Nat → Nat → Nat
  | 0 => B0
  | n + 1 => if (t0 + n) % 7 = 6 then nb (s2 (t0 + n)) (τ (t0 + n + 1)) (nb (s1 (t0 + n)) (s2 (t0 + n)) (nb (clk (τ (t0 + n))) (s1 (t0 + n)) (bet τ s1 s2 t0 B0 n))) else bet τ s1 s2 t0 B0 n
theorem nb_u {σ σ' : qS} {B : Nat → Nat} {k : Nat} (h1 : isdn σ k = 0) (h2 : isdn σ' k = 0) : nb σ σ' B k = B k := by
  unfold nb; rw [if_neg (fun e => e h2), if_neg (fun e => e h1)]
theorem nb_n {σ σ' : qS} {B : Nat → Nat} {k : Nat} (h1 : isdn σ k ≠ 0) (h2 : isdn σ' k = 0) : nb σ σ' B k = itb σ' k := by
  unfold nb; rw [if_neg (fun e => e h2), if_pos h1]
theorem jbt {L : Nat} {τ s1 s2 : Nat → qS} (h : RNN L τ) (hc : CHN L τ s1 s2) {t0 : Nat} {B0 : Nat → Nat} (hB : ∀ k : Nat, itb (τ t0) k ≤ B0 k) : ∀ n, t0 + n ≤ 7 * L → ∀ k : Nat, k < 38 → isdn (τ (t0 + n)) k = 0 → ∃ s, t0 ≤ s ∧ s ≤ t0 + n ∧ (∀ t, s ≤ t → t < t0 + n → t % 7 = 6 → UN τ s1 s2 k t) ∧ itb (τ s) k ≤ bet τ s1 s2 t0 B0 n k + 2
  | 0, _, k, _, _ => ⟨t0, Nat.le_refl _, Nat.le_refl _, fun t a b => absurd b (by omega), by have := hB k; simp only [bet]; omega⟩
  | n + 1, hl, k, hk, hz => by
    have es : t0 + (n + 1) = t0 + n + 1 := by omega
    rw [es] at hz ⊢
    simp only [bet]
    by_cases c : (t0 + n) % 7 = 6
    · rw [if_pos c]
      obtain ⟨r1, r2, r3, -⟩ := hc (t0 + n) (by omega) c
      have i2 := itb_HR r2 k
      have i3 := itb_HR r3 k
      have ec : isdn (clk (τ (t0 + n))) k = isdn (τ (t0 + n)) k := isdn_k (clk_k (by decide)) (clk_k (by decide)) _
      have new : itb (τ (t0 + n + 1)) k ≤ nb (s2 (t0 + n)) (τ (t0 + n + 1)) (nb (s1 (t0 + n)) (s2 (t0 + n)) (nb (clk (τ (t0 + n))) (s1 (t0 + n)) (bet τ s1 s2 t0 B0 n))) k + 2 → ∃ s, t0 ≤ s ∧ s ≤ t0 + n + 1 ∧ (∀ t, s ≤ t → t < t0 + n + 1 → t % 7 = 6 → UN τ s1 s2 k t) ∧ itb (τ s) k ≤ nb (s2 (t0 + n)) (τ (t0 + n + 1)) (nb (s1 (t0 + n)) (s2 (t0 + n)) (nb (clk (τ (t0 + n))) (s1 (t0 + n)) (bet τ s1 s2 t0 B0 n))) k + 2 := fun e => ⟨t0 + n + 1, by omega, Nat.le_refl _, fun t a b => absurd b (by omega), e⟩
      by_cases z2 : isdn (s2 (t0 + n)) k = 0
      · by_cases z1 : isdn (s1 (t0 + n)) k = 0
        · by_cases z0 : isdn (τ (t0 + n)) k = 0
          · obtain ⟨s, q1, q2, q3, q4⟩ := jbt h hc hB n (by omega) k hk z0
            refine ⟨s, q1, by omega, fun t a b e => ?_, ?_⟩
            · by_cases et : t = t0 + n
              · rw [et]; exact ⟨z0, z1, z2⟩
              · exact q3 t a (by omega) e
            · rw [nb_u z2 hz, nb_u z1 z2, nb_u (by rw [ec]; exact z0) z1]; exact q4
          · apply new
            rw [nb_u z2 hz, nb_u z1 z2, nb_n (by rw [ec]; exact z0) z1]
            omega
        · apply new
          rw [nb_u z2 hz, nb_n z1 z2]
          omega
      · apply new
        rw [nb_n z2 hz]
        omega
    · rw [if_neg c]
      have hst := h.2 (t0 + n) (by omega)
      have ez : isdn (τ (t0 + n)) k = 0 := by
        rw [← hz]
        rcases hst with ⟨-, σ1, σ2, σ3, r1, r2, r3, a, -⟩ | ⟨e, -⟩
        · refine (isdn_k ?_ ?_ _).symm
          · exact (a.2.2.1 _ (by decide)).trans ((r3.2.2.1 _ (by decide)).trans ((r2.2.2.1 _ (by decide)).trans (r1.2.2.1 _ (by decide))))
          · exact (a.2.2.1 _ (by decide)).trans ((r3.2.2.1 _ (by decide)).trans ((r2.2.2.1 _ (by decide)).trans (r1.2.2.1 _ (by decide))))
        · omega
      obtain ⟨s, q1, q2, q3, q4⟩ := jbt h hc hB n (by omega) k hk ez
      refine ⟨s, q1, by omega, fun t a b e => ?_, q4⟩
      by_cases et : t = t0 + n
      · rw [et] at e; exact absurd e c
      · exact q3 t a (by omega) e
theorem ib_run {L : Nat} {τ s1 s2 : Nat → qS} {S : Nat → List Ms} (h : RNN L τ) (hc : CHN L τ s1 s2) (hS : SNO L τ S s1 s2) {t0 : Nat} (h0 : 224 ≤ t0) {B0 : Nat → Nat} (hB : ∀ k : Nat, itb (τ t0) k ≤ B0 k) {n : Nat} (hl : t0 + n + 14 ≤ 7 * L) : IB (τ (t0 + n)) (bet τ s1 s2 t0 B0 n) 65 := fun k hk hz => by
  obtain ⟨s, q1, q2, q3, q4⟩ := jbt h hc hB n (by omega) k hk hz
  have e : s + (t0 + n - s) = t0 + n := by omega
  have p := itb_ph2 h hS (k := (k : Int)) (by omega) (by omega) (s := s) (n := t0 + n - s) (by omega) (by omega) (fun t a b c => q3 t a (by omega) c)
  rw [e] at p
  omega
theorem bet_w {τ s1 s2 : Nat → qS} {t0 : Nat} {B0 : Nat → Nat} {n : Nat} (h : (t0 + n) % 7 ≠ 6) : bet τ s1 s2 t0 B0 (n + 1) = bet τ s1 s2 t0 B0 n := by
  rw [bet, if_neg h]
theorem bet_m {τ s1 s2 : Nat → qS} {t0 : Nat} {B0 : Nat → Nat} {n : Nat} (h : (t0 + n) % 7 = 6) : bet τ s1 s2 t0 B0 (n + 1) = nb (s2 (t0 + n)) (τ (t0 + n + 1)) (nb (s1 (t0 + n)) (s2 (t0 + n)) (nb (clk (τ (t0 + n))) (s1 (t0 + n)) (bet τ s1 s2 t0 B0 n))) := by
  rw [bet, if_pos h]
def NPC (L : Nat) (τ s1 s2 : Nat → qS) : Prop := ∀ t, t < 7 * L → t % 7 = 6 → (∀ x, hd6 (clk (τ t)) x → clos (clk (τ t)) x → xw x 3 < 38) ∧ (∀ x, hd6 (s1 t) x → clos (s1 t) x → xw x 3 < 38) ∧ ∀ x, hd6 (s2 t) x → clos (s2 t) x → xw x 3 < 38
def NCC (τ s1 s2 : Nat → qS) (t : Nat) : Prop := (∀ x, hd6 (clk (τ t)) x → ¬ clos (clk (τ t)) x) ∧ (∀ x, hd6 (s1 t) x → ¬ clos (s1 t) x) ∧ ∀ x, hd6 (s2 t) x → ¬ clos (s2 t) x
theorem rnd_B {L : Nat} {τ s1 s2 : Nat → qS} {S : Nat → List Ms} (h : RNN L τ) (hc : CHN L τ s1 s2) (hS : SNO L τ S s1 s2) (hP : NPC L τ s1 s2) {t0 : Nat} (ht : 224 ≤ t0) {B0 : Nat → Nat} (hB : ∀ k : Nat, itb (τ t0) k ≤ B0 k) {r n : Nat} (hn : t0 + n = 7 * r) (hl : r + 4 ≤ L) : ∃ cl : Nat, cl ≤ 3 ∧ (NCC τ s1 s2 (7 * r + 6) → cl = 0) ∧ We (τ (7 * r + 7)) + 2 * sb (bet τ s1 s2 t0 B0 (n + 7)) 38 + 2 * min 3 (cn 6 (ln (τ (7 * r + 6)))) ≤ We (τ (7 * r)) + 2 * sb (bet τ s1 s2 t0 B0 n) 38 + psm τ r + cl * 136 := by
  have w0 := we_t h (t := 7 * r) (by omega) (by omega)
  have w1 := we_t h (t := 7 * r + 1) (by omega) (by omega)
  have w2 := we_t h (t := 7 * r + 2) (by omega) (by omega)
  have w3 := we_t h (t := 7 * r + 3) (by omega) (by omega)
  have w4 := we_t h (t := 7 * r + 4) (by omega) (by omega)
  have w5 := we_t h (t := 7 * r + 5) (by omega) (by omega)
  have m0 : (7 * r) % 7 = 0 := by omega
  have m1 : (7 * r + 1) % 7 = 1 := by omega
  have m2 : (7 * r + 2) % 7 = 2 := by omega
  have m3 : (7 * r + 3) % 7 = 3 := by omega
  have m4 : (7 * r + 4) % 7 = 4 := by omega
  have m5 : (7 * r + 5) % 7 = 5 := by omega
  have m6 : (7 * r + 6) % 7 = 6 := by omega
  rw [m0] at w0; rw [m1] at w1; rw [m2] at w2; rw [m3] at w3; rw [m4] at w4; rw [m5] at w5
  obtain ⟨r1, r2, r3, j0, j1, j2⟩ := hc (7 * r + 6) (by omega) m6
  obtain ⟨p0, p1, p2⟩ := hP (7 * r + 6) (by omega) m6
  have s6 : bet τ s1 s2 t0 B0 (n + 6) = bet τ s1 s2 t0 B0 n := by
    rw [bet_w (n := n + 5) (by omega), bet_w (n := n + 4) (by omega), bet_w (n := n + 3) (by omega), bet_w (n := n + 2) (by omega), bet_w (n := n + 1) (by omega), bet_w (n := n) (by omega)]
  have e6 : t0 + (n + 6) = 7 * r + 6 := by omega
  have I := ib_run h hc hS ht hB (n := n + 6) (by omega)
  rw [e6, s6] at I
  obtain ⟨cl, c1, c2, c3⟩ := M_B j0 j1 j2 r1 r2 r3 (run_ER h (by omega) (by omega)) (run_95 h (by omega) (by omega) (by omega)) p0 p1 p2 I
  have e7 := bet_m (τ := τ) (s1 := s1) (s2 := s2) (t0 := t0) (B0 := B0) (n := n + 6) (by omega)
  rw [e6, s6] at e7
  refine ⟨cl, c1, c2, ?_⟩
  rw [show n + 7 = n + 6 + 1 by omega, e7]
  unfold psm
  have d0 : ((0 : Nat) : Int) = 0 := rfl
  have d1 : ((1 : Nat) : Int) = 1 := rfl
  have d2 : ((2 : Nat) : Int) = 2 := rfl
  have d3 : ((3 : Nat) : Int) = 3 := rfl
  have d4 : ((4 : Nat) : Int) = 4 := rfl
  have d5 : ((5 : Nat) : Int) = 5 := rfl
  rw [d0] at w0; rw [d1] at w1; rw [d2] at w2; rw [d3] at w3; rw [d4] at w4; rw [d5] at w5
  simp only [Nat.add_assoc, Nat.reduceAdd] at w0 w1 w2 w3 w4 w5 c3 ⊢
  have f : cl * (2 * 65 + 6) = cl * 136 := rfl
  omega

