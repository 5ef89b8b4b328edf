theorem ts_cn {w b : Int} {L L' s : List Ms} (h : TS w L L' s) : cn b L' ≤ cn b L + s.countP (toW b) ∧ cn w L' ≤ (cn w L - 3) + s.countP (toW w) := by
  obtain ⟨o', n', e, h1, h2, h3⟩ := ts_dc (o := L) (n := []) (S := []) h (List.append_nil L).symm (List.Sublist.refl _)
  rw [List.nil_append] at h2
  have c : ∀ v, cn v L' = cn v o' + cn v n' := fun v => by rw [e]; unfold cn; rw [List.countP_append]
  have a1 := cn_sub (w := b) h1
  have a2 : ∀ v, cn v n' ≤ s.countP (toW v) := fun v => h2.countP_le
  have b1 := c b
  have b2 := c w
  have b3 := a2 b
  have b4 := a2 w
  exact ⟨by omega, by omega⟩
theorem lind {L : Nat} {τ : Nat → qS} {S : Nat → List Ms} (h : SND L τ S) (b t0 : Nat) : ∀ k, t0 + k ≤ 7 * L → ∃ j, j ≤ k ∧ cn b (ln (τ (t0 + k))) + 3 * ntk b (t0 + j) (k - j) ≤ (sns S (t0 + j) (k - j)).countP (toW b) + (if j = 0 then cn b (ln (τ t0)) else 0) + 3
  | 0, _ => ⟨0, Nat.le_refl _, by simp [ntk, sns]⟩
  | k + 1, hk => by
    obtain ⟨j, j1, j2⟩ := lind h b t0 k (by omega)
    have hs := h (t0 + k) (by omega)
    obtain ⟨s1, s2⟩ := ts_cn (b := (b : Int)) hs
    have ej : k + 1 - j = (k - j) + 1 := by omega
    have ej2 : t0 + j + (k - j) = t0 + k := by omega
    have e1 : t0 + (k + 1) = t0 + k + 1 := by omega
    rw [e1]
    by_cases c : (t0 + k) % 7 = b
    · rw [c] at s2
      by_cases c3 : 3 ≤ cn b (ln (τ (t0 + k)))
      · refine ⟨j, by omega, ?_⟩
        rw [ej]
        simp only [ntk, sns, List.countP_append]
        rw [ej2, if_pos c]
        omega
      · refine ⟨k, by omega, ?_⟩
        rw [show k + 1 - k = 0 + 1 by omega]
        simp only [ntk, sns, List.countP_append, Nat.add_zero]
        rw [if_pos c]
        simp only [List.countP_nil]
        omega
    · refine ⟨j, by omega, ?_⟩
      rw [ej]
      simp only [ntk, sns, List.countP_append]
      rw [ej2, if_neg c]
      omega
def tkb (e b : Int) (x : Ms) : Bool := toW b x && !isT e b x
theorem tk_sp (e b : Int) : ∀ M : List Ms, M.countP (toW b) ≤ M.countP (isT e b) + M.countP (tkb e b)
  | [] => by simp
  | x :: M => by
    have ih := tk_sp e b M
    simp only [List.countP_cons]
    by_cases c : toW b x = true
    · rw [if_pos c]
      by_cases d : isT e b x = true
      · rw [if_pos d]; omega
      · have : tkb e b x = true := by
          unfold tkb; rw [c]
          cases hd : isT e b x with
          | true => exact absurd hd d
          | false => rfl
        rw [if_pos this]; omega
    · rw [if_neg c]; omega
theorem isT_w {L : Nat} {τ : Nat → qS} {S : Nat → List Ms} (h : RNN L τ) (hS : SNC L τ S) {b : Nat} {t : Nat} (ht : t < 7 * L) (hw : t % 7 ≠ 6) : (S t).countP (isT (τ 0 31 0) b) = 0 := by
  have c := (hS t ht).2.2.1 (by omega)
  have z := c.1
  rw [run_era h (by omega)] at z
  rw [List.countP_eq_zero]
  intro x hx e
  unfold isT at e
  obtain ⟨e1, e2, -⟩ := of_decide_eq_true e
  have := z (xw x 2)
  rw [List.countP_eq_zero] at this
  exact this x hx (by unfold isG; exact decide_eq_true ⟨e1, e2, rfl⟩)
theorem isT_s {L : Nat} {τ : Nat → qS} {S : Nat → List Ms} (h : RNN L τ) (hS : SNC L τ S) (b t0 : Nat) : ∀ k, t0 + k ≤ 7 * L → (sns S t0 k).countP (isT (τ 0 31 0) b) = (sns (fun t => if t % 7 = 6 then S t else []) t0 k).countP (isT (τ 0 31 0) b)
  | 0, _ => rfl
  | k + 1, hk => by
    have ih := isT_s h hS b t0 k (by omega)
    simp only [sns, List.countP_append]
    rw [ih]
    by_cases c : (t0 + k) % 7 = 6
    · rw [if_pos c]
    · rw [if_neg c, isT_w h hS (by omega) c]; simp
theorem busy {L : Nat} {τ : Nat → qS} {S : Nat → List Ms} (h : RNN L τ) (hS : SNC L τ S) {b : Nat} (hb : b < 6) {t0 : Nat} (h0 : 224 ≤ t0) {k : Nat} (hk : t0 + k ≤ 7 * L) : ∃ j, j ≤ k ∧ ∀ r, k - j ≤ 14 * r → t0 + j + 14 * r ≤ 7 * L → cn b (ln (τ (t0 + k))) + 3 * ntk b (t0 + j) (k - j) ≤ (sns S (t0 + j) (k - j)).countP (tkb (τ 0 31 0) b) + 16 + r + (if j = 0 then cn b (ln (τ t0)) else 0) + 3 := by
  obtain ⟨j, j1, j2⟩ := lind (SNC_d hS) b t0 k hk
  refine ⟨j, j1, fun r hr hl => ?_⟩
  have g := gv_le h hS hb (t0 + j) (k - j) (by omega)
  have c := ca_le h hS hb (t := t0 + j) (by omega) (by omega)
  have e := isT_s h hS b (t0 + j) (k - j) (by omega)
  have a := asks_le h hS hb (t0 + j) r (by omega)
  have a2 : (sns S (t0 + j) (k - j)).countP (isA (τ 0 31 0) b) ≤ (sns S (t0 + j) (14 * r)).countP (isA (τ 0 31 0) b) := by
    have := sns_add S (t0 + j) (k - j) (14 * r - (k - j))
    rw [show k - j + (14 * r - (k - j)) = 14 * r by omega] at this
    rw [this, List.countP_append]
    omega
  have t := tk_sp (τ 0 31 0) b (sns S (t0 + j) (k - j))
  omega
theorem gv_sup {L : Nat} {τ : Nat → qS} {S : Nat → List Ms} (h : RNN L τ) (hS : SNC L τ S) {b : Nat} (hb : b < 6) {s0 : Nat} (h0 : 224 ≤ s0) {k r : Nat} (hk : k ≤ 14 * r) (hl : s0 + 14 * r ≤ 7 * L) : (sns S s0 k).countP (isT (τ 0 31 0) b) ≤ 16 + r := by
  have g := gv_le h hS hb s0 k (by omega)
  have c := ca_le h hS hb (t := s0) (by omega) (by omega)
  have e := isT_s h hS b s0 k (by omega)
  have a := asks_le h hS hb s0 r (by omega)
  have a2 : (sns S s0 k).countP (isA (τ 0 31 0) b) ≤ (sns S s0 (14 * r)).countP (isA (τ 0 31 0) b) := by
    have := sns_add S s0 k (14 * r - k)
    rw [show k + (14 * r - k) = 14 * r by omega] at this
    rw [this, List.countP_append]
    omega
  omega
theorem gen1 {L : Nat} {τ : Nat → qS} {S : Nat → List Ms} (h : RNN L τ) (hS : SNC L τ S) {b : Nat} (hb : b < 6) {s0 k : Nat} (hk : s0 + k ≤ 7 * L) (hc : cn b (ln (τ s0)) ≤ 3 * ntk b s0 k) : cn b (ln (τ (s0 + k))) ≤ (sns S s0 k).countP (isT (τ 0 31 0) b) + (ln (τ (s0 + k))).countP (tkb (τ 0 31 0) b) := by
  obtain ⟨o, n, e1, e2, e3, e4⟩ := flush (SNC_d hS) s0 k hk
  have z := e4 b (by omega)
  have c : cn b (ln (τ (s0 + k))) = cn b o + cn b n := by rw [e1]; unfold cn; rw [List.countP_append]
  have t := tk_sp (τ 0 31 0) b n
  have t1 := e3.countP_le (p := isT (τ 0 31 0) b)
  have t2 : n.countP (tkb (τ 0 31 0) b) ≤ (ln (τ (s0 + k))).countP (tkb (τ 0 31 0) b) := by rw [e1, List.countP_append]; omega
  have t' : cn b n ≤ n.countP (isT (τ 0 31 0) b) + n.countP (tkb (τ 0 31 0) b) := t
  omega
theorem inb_1 {L : Nat} {τ : Nat → qS} {S : Nat → List Ms} (h : RNN L τ) (hS : SNC L τ S) {b : Nat} (hb : b < 6) {s lam r : Nat} (h0 : 224 + 7 * lam ≤ s) (hs : s + 14 ≤ 7 * L) (hr : lam ≤ 2 * r) (hr' : r ≤ lam) (hl : 14 * r ≤ 7 * lam + 7) (hc : cn b (ln (τ (s - 7 * lam))) ≤ 3 * lam) : cn b (ln (τ s)) ≤ 16 + r + (ln (τ s)).countP (tkb (τ 0 31 0) b) := by
  have e : s - 7 * lam + 7 * lam = s := by omega
  have n := ntk_r b (s - 7 * lam) (by omega) lam
  have g := gen1 h hS hb (s0 := s - 7 * lam) (k := 7 * lam) (by omega) (by omega)
  have v := gv_sup h hS hb (s0 := s - 7 * lam) (by omega) (k := 7 * lam) (r := r) (by omega) (by omega)
  rw [e] at g
  omega

