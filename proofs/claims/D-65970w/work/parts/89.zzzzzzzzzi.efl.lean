-- tokens of v on the line after it has read a GIVE of stamp g, born before: unread FETCHes at g
theorem TKf {L s0 : Nat} {τ : Nat → qS} (hR : RNN L τ) {A : Nat → List (Ms × Nat × Nat)} {ρ : Nat → qS × qS × qS} {B : Nat → List (Ms × Nat × Nat) × List (Ms × Nat × Nat) × List (Ms × Nat × Nat)} (h : ANC L s0 τ A ρ B) (h7 : 224 ≤ s0) {v : Nat} (hv : v < 6) {S i : Nat} (h1 : s0 ≤ S) (h2 : S < 7 * L) (hS : S % 7 = v) (hi : i < 3) {y : Ms × Nat × Nat} (hy : hdA v (stA A B S i) y) (y2 : xw y.1 0 = 2) (yg : s0 + 224 ≤ y.2.1) {T : Nat} (hT : S < T) (hl : T ≤ 7 * L) {z : Ms × Nat × Nat} (hz : z ∈ A T) (zk : tokb z = true) (za : asr z.1 = v) (zb : z.2.2 ≤ y.2.1) : F5b A y.2.1 z.2.2 := by
  obtain ⟨lb, ys⟩ := GVlb h hv h1 h2 hS hi hy hT hl
  have h6 : S % 7 < 6 := by omega
  have g7 : y.2.1 % 7 = 0 := (st_ps h h1 h2 h6 i (by omega) y (hd_mem hy).1 (by omega)).1 y2
  have gT : y.2.1 ≤ T := by omega
  rcases (tokb_i z).mp zk with z5 | z6
  · have zg := ANR_f5 h.1 (t := y.2.1) (by omega) (T - y.2.1) (by omega) z (by rw [show y.2.1 + (T - y.2.1) = T by omega]; exact hz) z5 zb
    exact ⟨z, zg, z5, rfl⟩
  · have zv : z.1.1 = (v : Int) := by
      unfold asr at za
      rw [if_neg (by omega)] at za
      exact za
    have s1 := lb z hz zv
    have pm := ANR_ps h.1 (T - s0) (by omega)
    rw [show s0 + (T - s0) = T by omega] at pm
    have p6 := (pm z hz (by omega)).2 z6
    have sg : y.2.1 < z.2.1 := by
      by_cases e : y.2.1 = z.2.1
      · rw [← e] at p6; exact absurd g7 p6
      · omega
    have f : 1 ≤ fbc z.2.2 (A y.2.1) := by
      apply Classical.byContradiction
      intro n
      have a := ANR_np h.1 (b := z.2.2) (g := y.2.1) zb (by omega) (by omega) (T - y.2.1) (by omega)
      rw [show y.2.1 + (T - y.2.1) = T by omega] at a
      have := a.2 z hz zk rfl
      omega
    unfold fbc at f
    obtain ⟨x, hx, px⟩ := List.countP_pos_iff.mp (by omega : 0 < (A y.2.1).countP (fun x => decide (xw x.1 0 = 5) && decide (x.2.2 = z.2.2)))
    rw [Bool.and_eq_true] at px
    have x5 := of_decide_eq_true px.1
    have xb := of_decide_eq_true px.2
    exact ⟨x, hx, x5, xb⟩
-- E at a start: the F-LAW
theorem EFL {L s0 : Nat} {τ : Nat → qS} (hR : RNN L τ) (hs : ∀ t, t ≤ 7 * L → psame (τ 0) (τ t)) {A : Nat → List (Ms × Nat × Nat)} {ρ : Nat → qS × qS × qS} {B : Nat → List (Ms × Nat × Nat) × List (Ms × Nat × Nat) × List (Ms × Nat × Nat)} (h : ANC2 L s0 τ A ρ B) (h7 : 224 ≤ s0) {v κ κ' x i q n : Nat} {y : Ms × Nat × Nat} (hv : v < 6) (k1 : s0 + 1500 ≤ κ) (n32 : n ≤ 32) (k2 : κ < κ') (kx : κ' < x) (xv : x % 7 = v) (xl : x + 225 ≤ 7 * L) (hk : KLt τ v κ) (hk' : KLt τ v κ') (no : ∀ u, κ < u → u < κ' → ¬ KLt τ v u) (idl : ∀ u, κ' < u → u ≤ x → τ u 62 (v : Int) < 38) (up : 38 ≤ τ (x + 1) 62 (v : Int)) (hi : i < 3) (hy : hdA v (stA A B x i) y) (y2 : xw y.1 0 = 2) (kg : κ' < y.2.1) (kk : κ + 7 * n ≤ y.2.1) (hg : ∀ b, F5b A y.2.1 b → (b - 1) % 7 = v → y.2.1 < b + 7 * n) (hn : ∀ b φ i, i < 3 → rdk τ A ρ B 5 φ i b → (b - 1) % 7 = v → κ < b + 224 → b ≤ κ → φ < b + 7 * n) (hq : ∀ x, κ ≤ x + 224 → x ≤ κ + 218 → cn (v : Int) (ln (τ x)) ≤ 3 * q) : ctq (AAl τ A v (x + 1)) (x + 1 - 447) 448 ≤ 1 + ctq (fun u => u % 7 = v ∧ ∃ b, ACC τ A ρ B u b ∧ TOb τ v b) (y.2.1 - 7 * n) (7 * n) + ctq (fun u => u % 7 = v ∧ ∃ b, ACC τ A ρ B u b ∧ PNk L s0 τ A ρ B b) (y.2.1 - 7 * n) (7 * n) + ctq (fun u => u % 7 = v ∧ u < κ + 7 * n + 1 + 7 * q) (y.2.1 - 7 * n) (7 * n) := by
  have ys := (st_srt h.1 (by omega : s0 ≤ x) (by omega) (by omega) i (by omega)).2 y (hd_mem hy).1
  have f := FLn hR hs h h7 (v := v) (κ := κ) (κ' := κ') (g := y.2.1) (q := q) (n := n) hv k1 n32 hg kk kg (by omega) hk hk' no hn hq
  have tk := ANR_tk h.1.1 (x + 1 - s0) (by omega)
  rw [show s0 + (x + 1 - s0) = x + 1 by omega] at tk
  have m := ctq_inj (P := AAl τ A v (x + 1)) (f := fun b => b) (s := x + 1 - 447) (a := y.2.1 - 7 * n) (m := 7 * n) 448 (fun b => ATk τ v b ∧ F5b A y.2.1 b ∧ b ≤ κ') (fun b b1 b2 p => by
    obtain ⟨at', t1, ns⟩ := p
    obtain ⟨z, hz, pz⟩ := List.countP_pos_iff.mp (by unfold tbc at t1; omega : 0 < (A (x + 1)).countP (fun x => tokb x && decide (x.2.2 = b)))
    rw [Bool.and_eq_true] at pz
    have zb := of_decide_eq_true pz.2
    obtain ⟨r1, -, -, u, u6, u2, u3, -⟩ := tk z hz pz.1 (by omega)
    rw [zb] at r1 u2
    have e := at'.1
    have uv : u = v := by omega
    subst uv
    have fb := fe_r at'.2.2.1
    have bk : b ≤ κ' := by
      apply Classical.byContradiction
      intro nn
      by_cases c : b ≤ x
      · have := idl b (by omega) c
        omega
      · have eb : b = x + 1 := by omega
        apply ns
        intro w w1 w2
        have ew : w = x + 1 := by omega
        rw [ew, eb]
        exact ⟨up, rfl, rfl⟩
    have fg := TKf hR h.1 h7 hv (by omega : s0 ≤ x) (by omega) xv hi hy y2 (by omega) (T := x + 1) (by omega) (by omega) hz pz.1 u3 (by omega)
    rw [zb] at fg
    have rg := hg b fg e
    exact ⟨by omega, by omega, at', fg, bk⟩) (fun _ _ _ _ _ _ _ _ e => e)
  omega

