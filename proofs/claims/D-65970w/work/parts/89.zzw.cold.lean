noncomputable def lq (τ : Nat → qS) (w q : Nat) : Nat := @ite Nat (LKs (τ (7 * q + w + 1)) (w : Int)) (Classical.propDecidable _) 1 0
def pw (τ : Nat → qS) (w r0 : Nat) : Nat → Nat
  | 0 => 0
  | n + 1 => pw τ w r0 n + pf (τ (7 * (r0 + n) + w + 1)) (w : Int)
noncomputable def lw (τ : Nat → qS) (w r0 : Nat) : Nat → Nat
  | 0 => 0
  | n + 1 => lw τ w r0 n + lq τ w (r0 + n)
theorem lk_z {L : Nat} {τ : Nat → qS} (h : RNN L τ) {w : Nat} (hw : w < 6) {r0 : Nat} (hr : 146 ≤ r0) {m : Nat} (hm : r0 + m < L) (hl : LKs (τ (7 * (r0 + m) + w + 1)) (w : Int)) {i : Nat} (h1 : i < m) (h2 : m ≤ i + 143) : pf (τ (7 * (r0 + i) + w + 1)) (w : Int) = 0 ∧ lq τ w (r0 + i) = 0 := by
  obtain ⟨j, ej⟩ : ∃ j, m = i + (j + 1) := ⟨m - i - 1, by omega⟩
  have a := (lk_wait h hw (t := 7 * (r0 + m) + w) (by omega) (by omega) (by omega) hl j (by omega)).2
  have e : 7 * (r0 + m) + w + 1 - 7 * (j + 1) = 7 * (r0 + i) + w + 1 := by omega
  obtain ⟨a1, -, -, -, -, -, -, a8⟩ := a
  rw [e] at a1 a8
  refine ⟨?_, ?_⟩
  · unfold pf
    rw [if_neg (fun z => by have := z.1; omega), if_neg (fun z => by have := z.2.2; omega)]
  · unfold lq
    rw [if_neg (fun z => by have := z.2.2; omega)]
theorem pw_s {τ : Nat → qS} {w r0 a : Nat} : ∀ d, (∀ i, a ≤ i → i < a + d → pf (τ (7 * (r0 + i) + w + 1)) (w : Int) = 0 ∧ lq τ w (r0 + i) = 0) → pw τ w r0 (a + d) = pw τ w r0 a ∧ lw τ w r0 (a + d) = lw τ w r0 a
  | 0, _ => ⟨rfl, rfl⟩
  | d + 1, h => by
    have ih := pw_s d (fun i h1 h2 => h i h1 (by omega))
    have z := h (a + d) (by omega) (by omega)
    rw [show a + (d + 1) = a + d + 1 by omega]
    simp only [pw, lw]
    omega
theorem pf_1 {σ : qS} {w : Int} (h : ¬ LKs σ w) : pf σ w ≤ 1 := by
  unfold pf
  by_cases c : σ 62 w = -1 ∧ σ 65 w ≤ 1
  · rw [if_pos c]; exact Nat.le_refl _
  · rw [if_neg c, if_neg (show ¬ (38 ≤ σ 62 w ∧ σ 65 w = 1 ∧ σ 66 w = 0) from h)]; exact Nat.zero_le _
theorem pf_2 (σ : qS) (w : Int) : pf σ w ≤ 2 := by
  unfold pf
  split
  · omega
  · split <;> omega
theorem pw_b {L : Nat} {τ : Nat → qS} (h : RNN L τ) {w : Nat} (hw : w < 6) {r0 : Nat} (hr : 146 ≤ r0) : ∀ n, r0 + n ≤ L → pw τ w r0 n + 142 * lw τ w r0 n ≤ n + 143 := fun n => by
  induction n using Nat.strongRecOn with
  | _ n ih =>
    intro hn
    cases n with
    | zero => simp [pw, lw]
    | succ m =>
      by_cases c : LKs (τ (7 * (r0 + m) + w + 1)) (w : Int)
      · have l1 : lq τ w (r0 + m) = 1 := by unfold lq; exact if_pos c
        have p2 := pf_2 (τ (7 * (r0 + m) + w + 1)) (w : Int)
        by_cases c1 : 143 ≤ m
        · obtain ⟨a, ea⟩ : ∃ a, m = a + 143 := ⟨m - 143, by omega⟩
          have z := pw_s (τ := τ) (w := w) (r0 := r0) (a := a) 143 (fun i h1 h2 => lk_z h hw hr (m := m) (by omega) c (by omega) (by omega))
          have i1 := ih a (by omega) (by omega)
          simp only [pw, lw]
          rw [← ea] at z
          omega
        · have z := pw_s (τ := τ) (w := w) (r0 := r0) (a := 0) m (fun i h1 h2 => lk_z h hw hr (m := m) (by omega) c (by omega) (by omega))
          rw [Nat.zero_add] at z
          have e0 : pw τ w r0 0 = 0 := rfl
          have e1 : lw τ w r0 0 = 0 := rfl
          simp only [pw, lw]
          omega
      · have l1 : lq τ w (r0 + m) = 0 := by unfold lq; exact if_neg c
        have p1 := pf_1 c
        have i1 := ih m (by omega) (by omega)
        simp only [pw, lw]
        omega
theorem lkc_1 (τ : Nat → qS) (q w : Nat) (hw : w < 6) : lkc τ (7 * q + w + 1) = lkc τ (7 * q + w) + lq τ w q := by
  have e : (7 * q + w) % 7 = w := by omega
  simp only [lkc]
  unfold lq
  rw [e]
  by_cases c : LKs (τ (7 * q + w + 1)) (w : Int)
  · rw [if_pos ⟨hw, c⟩, if_pos c]
  · rw [if_neg (fun z => c z.2), if_neg c]
theorem lkc_0 (τ : Nat → qS) (t : Nat) (h : ¬ t % 7 < 6) : lkc τ (t + 1) = lkc τ t := by
  simp only [lkc]
  rw [if_neg (fun z => h z.1)]
  rfl
theorem lkc_w (τ : Nat → qS) (r0 : Nat) : ∀ n, lkc τ (7 * (r0 + n)) = lkc τ (7 * r0) + (lw τ 0 r0 n + lw τ 1 r0 n + lw τ 2 r0 n + lw τ 3 r0 n + lw τ 4 r0 n + lw τ 5 r0 n)
  | 0 => by simp [lw]
  | n + 1 => by
    have ih := lkc_w τ r0 n
    have a0 : lkc τ (7 * (r0 + n) + 1) = lkc τ (7 * (r0 + n)) + lq τ 0 (r0 + n) := lkc_1 τ (r0 + n) 0 (by omega)
    have a1 : lkc τ (7 * (r0 + n) + 2) = lkc τ (7 * (r0 + n) + 1) + lq τ 1 (r0 + n) := lkc_1 τ (r0 + n) 1 (by omega)
    have a2 : lkc τ (7 * (r0 + n) + 3) = lkc τ (7 * (r0 + n) + 2) + lq τ 2 (r0 + n) := lkc_1 τ (r0 + n) 2 (by omega)
    have a3 : lkc τ (7 * (r0 + n) + 4) = lkc τ (7 * (r0 + n) + 3) + lq τ 3 (r0 + n) := lkc_1 τ (r0 + n) 3 (by omega)
    have a4 : lkc τ (7 * (r0 + n) + 5) = lkc τ (7 * (r0 + n) + 4) + lq τ 4 (r0 + n) := lkc_1 τ (r0 + n) 4 (by omega)
    have a5 : lkc τ (7 * (r0 + n) + 6) = lkc τ (7 * (r0 + n) + 5) + lq τ 5 (r0 + n) := lkc_1 τ (r0 + n) 5 (by omega)
    have a6 : lkc τ (7 * (r0 + n) + 7) = lkc τ (7 * (r0 + n) + 6) := lkc_0 τ (7 * (r0 + n) + 6) (by omega)
    rw [show 7 * (r0 + (n + 1)) = 7 * (r0 + n) + 7 by omega]
    simp only [lw]
    omega
def pS (τ : Nat → qS) (r0 : Nat) : Nat → Nat
  | 0 => 0
  | n + 1 => pS τ r0 n + psm τ (r0 + n)
theorem pS_w (τ : Nat → qS) (r0 : Nat) : ∀ n, pS τ r0 n = pw τ 0 r0 n + pw τ 1 r0 n + pw τ 2 r0 n + pw τ 3 r0 n + pw τ 4 r0 n + pw τ 5 r0 n
  | 0 => by simp [pS, pw]
  | n + 1 => by
    have ih := pS_w τ r0 n
    simp only [pS, pw]
    unfold psm
    have e0 : pf (τ (7 * (r0 + n) + 0 + 1)) ((0 : Nat) : Int) = pf (τ (7 * (r0 + n) + 1)) 0 := rfl
    have e1 : pf (τ (7 * (r0 + n) + 1 + 1)) ((1 : Nat) : Int) = pf (τ (7 * (r0 + n) + 2)) 1 := rfl
    have e2 : pf (τ (7 * (r0 + n) + 2 + 1)) ((2 : Nat) : Int) = pf (τ (7 * (r0 + n) + 3)) 2 := rfl
    have e3 : pf (τ (7 * (r0 + n) + 3 + 1)) ((3 : Nat) : Int) = pf (τ (7 * (r0 + n) + 4)) 3 := rfl
    have e4 : pf (τ (7 * (r0 + n) + 4 + 1)) ((4 : Nat) : Int) = pf (τ (7 * (r0 + n) + 5)) 4 := rfl
    have e5 : pf (τ (7 * (r0 + n) + 5 + 1)) ((5 : Nat) : Int) = pf (τ (7 * (r0 + n) + 6)) 5 := rfl
    rw [e0, e1, e2, e3, e4, e5]
    omega
theorem pS_b {L : Nat} {τ : Nat → qS} (h : RNN L τ) {r0 : Nat} (hr : 146 ≤ r0) {n : Nat} (hn : r0 + n ≤ L) : pS τ r0 n + 142 * lkc τ (7 * (r0 + n)) ≤ 6 * n + 858 + 142 * lkc τ (7 * r0) := by
  have b0 := pw_b h (w := 0) (by omega) hr n hn
  have b1 := pw_b h (w := 1) (by omega) hr n hn
  have b2 := pw_b h (w := 2) (by omega) hr n hn
  have b3 := pw_b h (w := 3) (by omega) hr n hn
  have b4 := pw_b h (w := 4) (by omega) hr n hn
  have b5 := pw_b h (w := 5) (by omega) hr n hn
  have e := pS_w τ r0 n
  have l := lkc_w τ r0 n
  omega
def hS (τ : Nat → qS) (r0 : Nat) : Nat → Nat
  | 0 => 0
  | n + 1 => hS τ r0 n + 2 * min 3 (cn 6 (ln (τ (7 * (r0 + n) + 6))))
theorem sum_Y {L : Nat} {τ s1 s2 : Nat → qS} {S : Nat → List Ms} (h : RNN L τ) (hc : CHN L τ s1 s2) (hS' : SNO L τ S s1 s2) (hP : NPE L τ s1 s2) {r0 : Nat} (hr : 32 ≤ r0) {B0 : Nat → Nat} (hB : ∀ k : Nat, itb (τ (7 * r0)) k ≤ B0 k) : ∀ n, r0 + n + 4 ≤ L → Yp τ s1 s2 (7 * r0) B0 (7 * n) + hS τ r0 n + 136 * lkc τ (7 * r0) ≤ Yp τ s1 s2 (7 * r0) B0 0 + pS τ r0 n + 136 * lkc τ (7 * (r0 + n))
  | 0, _ => by simp [hS, pS]
  | n + 1, hn => by
    have ih := sum_Y h hc hS' hP hr hB n (by omega)
    have a := rnd_Y h hc hS' hP (t0 := 7 * r0) (by omega) hB (r := r0 + n) (n := 7 * n) (by omega) (by omega)
    simp only [hS, pS]
    rw [show 7 * (n + 1) = 7 * n + 7 by omega, show 7 * (r0 + (n + 1)) = 7 * (r0 + n) + 7 by omega]
    omega
theorem itb_b {σ : qS} (hl : (ln σ).length ≤ 95) (k : Int) : itb σ k ≤ 196 := by
  have a : (ln σ).countP (isD (σ 31 0) k) ≤ (ln σ).length := List.countP_le_length
  have b : (ln σ).countP (isG (σ 31 0) k) ≤ (ln σ).length := List.countP_le_length
  have c : bk σ k ≤ 6 := by
    have z : ∀ v : Int, b1 σ k v ≤ 1 := fun v => by unfold b1; split <;> omega
    have z0 := z 0
    have z1 := z 1
    have z2 := z 2
    have z3 := z 3
    have z4 := z 4
    have z5 := z 5
    unfold bk
    omega
  unfold itb gk
  omega
theorem energy {L : Nat} {τ s1 s2 : Nat → qS} (h : RNN L τ) (hc : CHN L τ s1 s2) (hs : ∀ t, t ≤ 7 * L → psame (τ 0) (τ t)) {r0 n : Nat} (hr : 146 ≤ r0) (hn : r0 + n + 4 ≤ L) : hS τ r0 n + 6 * lkc τ (7 * (r0 + n)) ≤ 6 * n + 36000 + 6 * lkc τ (7 * r0) := by
  obtain ⟨S, hS'⟩ := SNO_ex h hc
  have a := sum_Y h hc hS' (NPE_of h hc hs) (r0 := r0) (by omega) (B0 := fun k => itb (τ (7 * r0)) k) (fun k => Nat.le_refl _) n hn
  have b := pS_b h hr (n := n) (by omega)
  have l := run_95 h (by omega) (t := 7 * r0) (by omega) (by omega)
  have w : We (τ (7 * r0)) ≤ 1200 := by
    have := Wp_b (h.1 (7 * r0) (by omega))
    have := Wp_We (τ (7 * r0))
    omega
  have u := un_b (τ (7 * r0))
  have c : c7 (τ (7 * r0)) ≤ (ln (τ (7 * r0))).length := List.countP_le_length
  have s : sb (fun k : Nat => itb (τ (7 * r0)) k) 38 ≤ 38 * 196 := sb_c 38 (fun k _ => itb_b l _)
  have e : Yp τ s1 s2 (7 * r0) (fun k => itb (τ (7 * r0)) k) 0 = We (τ (7 * r0)) + 2 * sb (fun k : Nat => itb (τ (7 * r0)) k) 38 + 136 * (un (τ (7 * r0)) + c7 (τ (7 * r0))) := rfl
  have m := lkc_m τ (7 * r0) (7 * n)
  rw [show 7 * r0 + 7 * n = 7 * (r0 + n) by omega] at m
  omega
theorem hot_b {L : Nat} {τ s1 s2 : Nat → qS} (h : RNN L τ) (hc : CHN L τ s1 s2) (hs : ∀ t, t ≤ 7 * L → psame (τ 0) (τ t)) {r0 n : Nat} (hr : 146 ≤ r0) (hn : r0 + n + 4 ≤ L) (hot : ∀ i, i < n → 3 ≤ cn 6 (ln (τ (7 * (r0 + i) + 6)))) : lkc τ (7 * (r0 + n)) ≤ lkc τ (7 * r0) + 6000 := by
  have e := energy h hc hs hr hn
  have f : ∀ m, m ≤ n → hS τ r0 m = 6 * m := fun m => by
    induction m with
    | zero => intro _; rfl
    | succ m ih =>
      intro hm
      have a := ih (by omega)
      have b := hot m (by omega)
      simp only [hS]
      omega
  have g := f n (Nat.le_refl _)
  omega
theorem ef_7 {L : Nat} {τ s1 s2 : Nat → qS} (hc : CHN L τ s1 s2) {t : Nat} (ht : t < 7 * L) (he : EF τ s1 s2 t) : c7 (τ (t + 1)) + 1 ≤ c7 (τ t) := by
  obtain ⟨h6, hn⟩ := he
  obtain ⟨r1, r2, r3, j0, j1, j2⟩ := hc t ht h6
  have a1 := HR_7 r1
  have a2 := HR_7 r2
  have a3 := HR_7 r3
  have s0 : c7 (clk (τ t)) = c7 (τ t) := by unfold c7; rw [l_clk]
  rcases HR_1 j0 r1 with g | ⟨x, g1, g2, g3, -⟩
  · rcases HR_1 j1 r2 with g' | ⟨x, g1, g2, g3, -⟩
    · rcases HR_1 j2 r3 with g'' | ⟨x, g1, g2, g3, -⟩
      · exact absurd ⟨g, g', g''⟩ hn
      · have := HR_e7 r3 g1 g2 g3; omega
    · have := HR_e7 r2 g1 g2 g3; omega
  · have := HR_e7 r1 g1 g2 g3; omega
theorem el_lk {L : Nat} {τ s1 s2 : Nat → qS} (h : RNN L τ) (hc : CHN L τ s1 s2) (a : Nat) : ∀ k, a + k ≤ 7 * L → elc τ s1 s2 (a + k) + c7 (τ (a + k)) + lkc τ a ≤ elc τ s1 s2 a + c7 (τ a) + lkc τ (a + k)
  | 0, _ => Nat.le_refl _
  | k + 1, hk => by
    have ih := el_lk h hc a k (by omega)
    have b := c7_t h (t := a + k) (by omega)
    rw [show a + (k + 1) = a + k + 1 by omega]
    simp only [elc]
    by_cases c : EF τ s1 s2 (a + k)
    · rw [if_pos c]
      have d := ef_7 hc (by omega) c
      have m := lkc_m τ (a + k) 1
      omega
    · rw [if_neg c]
      omega
theorem cold_ex {L : Nat} {τ s1 s2 : Nat → qS} (h : RNN L τ) (hc : CHN L τ s1 s2) (hs : ∀ t, t ≤ 7 * L → psame (τ 0) (τ t)) {r0 n : Nat} (hr : 146 ≤ r0) (hn : r0 + n + 4 ≤ L) (he : elc τ s1 s2 (7 * r0) + 6096 ≤ elc τ s1 s2 (7 * (r0 + n))) : ∃ i, i < n ∧ cn 6 (ln (τ (7 * (r0 + i) + 6))) ≤ 2 := by
  apply Classical.byContradiction
  intro hq
  have hot : ∀ i, i < n → 3 ≤ cn 6 (ln (τ (7 * (r0 + i) + 6))) := fun i hi => by
    apply Classical.byContradiction
    intro z
    exact hq ⟨i, hi, by omega⟩
  have b := hot_b h hc hs hr hn hot
  have l := el_lk h hc (7 * r0) (7 * n) (by omega)
  have c : c7 (τ (7 * r0)) ≤ (ln (τ (7 * r0))).length := List.countP_le_length
  have d := run_95 h (by omega) (t := 7 * r0) (by omega) (by omega)
  rw [show 7 * r0 + 7 * n = 7 * (r0 + n) by omega] at l
  omega

