def kvg (v : Int) (g : Nat) (A : List (Ms × Nat × Nat)) : Nat := A.countP (fun y => decide (tokb y = true ∧ asr y.1 = v ∧ y.2.2 ≤ g))
theorem GVlb {L s0 : Nat} {τ : Nat → qS} {A : Nat → List (Ms × Nat × Nat)} {ρ : Nat → qS × qS × qS} {B : Nat → List (Ms × Nat × Nat) × List (Ms × Nat × Nat) × List (Ms × Nat × Nat)} (h : ANC L s0 τ A ρ B) {v : Nat} (hv : v < 6) {S i : Nat} (h1 : s0 ≤ S) (h2 : S < 7 * L) (hS : S % 7 = v) (hi : i < 3) {y : Ms × Nat × Nat} (hy : hdA v (stA A B S i) y) {T : Nat} (hT : S < T) (hl : T ≤ 7 * L) : lbv y.2.1 v (A T) ∧ y.2.1 ≤ S + 1 := by
  have h6 : S % 7 < 6 := by omega
  have sr := st_srt h h1 h2 h6 i (by omega)
  have l0 := hd_lb sr hy
  have ys : y.2.1 ≤ S + 1 := sr.2 y (hd_mem hy).1
  have l1 := st_lb h h1 h2 h6 ys (3 - i) i (by omega) l0
  rw [show i + (3 - i) = 3 by omega] at l1
  obtain ⟨-, -, -, -, -, l, a, -⟩ := h.2 S h1 h2 h6
  have l2 : lbv y.2.1 v (A (S + 1)) := ACn_lb a ys l1
  have l3 := ANR_lb h.1 (t := S + 1) (by omega) (by omega) l2 (T - (S + 1)) (by omega)
  rw [show S + 1 + (T - (S + 1)) = T by omega] at l3
  exact ⟨l3, ys⟩
theorem FT32 {L s0 : Nat} {τ : Nat → qS} (hR : RNN L τ) {A : Nat → List (Ms × Nat × Nat)} (h : ANR L s0 τ A) (h7 : 224 ≤ s0) {g : Nat} (hg : s0 + 224 ≤ g) (hl : g ≤ 7 * L) {x : Ms × Nat × Nat} (hx : x ∈ A g) (x5 : xw x.1 0 = 5) : g - 224 < x.2.2 := by
  have a := AGE32 hR h h7 hg hl hx ((tokb_i x).mpr (Or.inl x5))
  have fs := ANR_fs h (g - s0) (by omega)
  rw [show s0 + (g - s0) = g by omega] at fs
  have := fs x hx x5
  omega
theorem TKborn {L s0 : Nat} {τ : Nat → qS} (hR : RNN L τ) {A : Nat → List (Ms × Nat × Nat)} {ρ : Nat → qS × qS × qS} {B : Nat → List (Ms × Nat × Nat) × List (Ms × Nat × Nat) × List (Ms × Nat × Nat)} (h : ANC L s0 τ A ρ B) (h7 : 224 ≤ s0) {v : Nat} (hv : v < 6) {S i : Nat} (h1 : s0 ≤ S) (h2 : S < 7 * L) (hS : S % 7 = v) (hi : i < 3) {y : Ms × Nat × Nat} (hy : hdA v (stA A B S i) y) (y2 : xw y.1 0 = 2) (yg : s0 + 224 ≤ y.2.1) {T : Nat} (hT : S < T) (hl : T ≤ 7 * L) {z : Ms × Nat × Nat} (hz : z ∈ A T) (zk : tokb z = true) (za : asr z.1 = v) (zb : z.2.2 ≤ y.2.1) : y.2.1 - 224 < z.2.2 := by
  obtain ⟨lb, ys⟩ := GVlb h hv h1 h2 hS hi hy hT hl
  have h6 : S % 7 < 6 := by omega
  have g7 : y.2.1 % 7 = 0 := (st_ps h h1 h2 h6 i (by omega) y (hd_mem hy).1 (by omega)).1 y2
  have gT : y.2.1 ≤ T := by omega
  rcases (tokb_i z).mp zk with z5 | z6
  · have zg := ANR_f5 h.1 (t := y.2.1) (by omega) (T - y.2.1) (by omega) z (by rw [show y.2.1 + (T - y.2.1) = T by omega]; exact hz) z5 zb
    exact FT32 hR h.1 h7 yg (by omega) zg z5
  · have zv : z.1.1 = (v : Int) := by
      unfold asr at za
      rw [if_neg (by omega)] at za
      exact za
    have s1 := lb z hz zv
    have pm := ANR_ps h.1 (T - s0) (by omega)
    rw [show s0 + (T - s0) = T by omega] at pm
    have p6 := (pm z hz (by omega)).2 z6
    have sg : y.2.1 < z.2.1 := by
      by_cases e : y.2.1 = z.2.1
      · rw [← e] at p6; exact absurd g7 p6
      · omega
    have f : 1 ≤ fbc z.2.2 (A y.2.1) := by
      apply Classical.byContradiction
      intro n
      have a := ANR_np h.1 (b := z.2.2) (g := y.2.1) zb (by omega) (by omega) (T - y.2.1) (by omega)
      rw [show y.2.1 + (T - y.2.1) = T by omega] at a
      have := a.2 z hz zk rfl
      omega
    unfold fbc at f
    obtain ⟨x, hx, px⟩ := List.countP_pos_iff.mp (by omega : 0 < (A y.2.1).countP (fun x => decide (xw x.1 0 = 5) && decide (x.2.2 = z.2.2)))
    rw [Bool.and_eq_true] at px
    have x5 := of_decide_eq_true px.1
    have xb := of_decide_eq_true px.2
    have := FT32 hR h.1 h7 yg (by omega) hx x5
    omega
theorem K32 {L s0 : Nat} {τ : Nat → qS} (hR : RNN L τ) {A : Nat → List (Ms × Nat × Nat)} {ρ : Nat → qS × qS × qS} {B : Nat → List (Ms × Nat × Nat) × List (Ms × Nat × Nat) × List (Ms × Nat × Nat)} (h : ANC L s0 τ A ρ B) (h7 : 224 ≤ s0) {v : Nat} (hv : v < 6) {S i : Nat} (h1 : s0 ≤ S) (h2 : S < 7 * L) (hS : S % 7 = v) (hi : i < 3) {y : Ms × Nat × Nat} (hy : hdA v (stA A B S i) y) (y2 : xw y.1 0 = 2) (yg : s0 + 224 ≤ y.2.1) {T : Nat} (hT : S < T) (hl : T ≤ 7 * L) : kvg v y.2.1 (A T) ≤ 32 := by
  have tk := ANR_tk h.1 (T - s0) (by omega)
  rw [show s0 + (T - s0) = T by omega] at tk
  have born : ∀ z ∈ A T, (decide (tokb z = true ∧ asr z.1 = v ∧ z.2.2 ≤ y.2.1)) = true → y.2.1 - 223 ≤ z.2.2 ∧ z.2.2 < y.2.1 - 223 + 7 * 32 := fun z hz hp => by
    have hp' := of_decide_eq_true hp
    have b := TKborn hR h h7 hv h1 h2 hS hi hy y2 yg hT hl hz hp'.1 hp'.2.1 hp'.2.2
    omega
  have a := cp_rng (fun z => decide (tokb z = true ∧ asr z.1 = v ∧ z.2.2 ≤ y.2.1)) (s := y.2.1 - 223) (k := 7 * 32) (A T) born
  have one : ∀ b, s0 < b → (A T).countP (fun z => decide (tokb z = true ∧ asr z.1 = v ∧ z.2.2 ≤ y.2.1) && decide (z.2.2 = b)) ≤ 1 := fun b c => by
    have t1 := ANR_tb h.1 c (T - s0) (by omega)
    rw [show s0 + (T - s0) = T by omega] at t1
    have le : (A T).countP (fun z => decide (tokb z = true ∧ asr z.1 = v ∧ z.2.2 ≤ y.2.1) && decide (z.2.2 = b)) ≤ tbc b (A T) := by
      unfold tbc
      refine List.countP_mono_left (fun z _ hh => ?_)
      rw [Bool.and_eq_true] at hh ⊢
      exact ⟨(of_decide_eq_true hh.1).1, hh.2⟩
    have : tbc b (A T) ≤ 1 := by
      split at t1 <;> omega
    omega
  have oth : ∀ b, (b - 1) % 7 ≠ v → s0 < b → (A T).countP (fun z => decide (tokb z = true ∧ asr z.1 = v ∧ z.2.2 ≤ y.2.1) && decide (z.2.2 = b)) = 0 := fun b hb c => by
    rw [List.countP_eq_zero]
    intro z hz hh
    rw [Bool.and_eq_true] at hh
    have p := of_decide_eq_true hh.1
    have e := of_decide_eq_true hh.2
    obtain ⟨-, -, -, u, u1, u2, u3, -⟩ := tk z hz p.1 (by omega)
    rw [p.2.1] at u3
    rw [e] at u2
    exact hb (by omega)
  have b := smq_7 (f := fun b => if s0 < b then (A T).countP (fun z => decide (tokb z = true ∧ asr z.1 = v ∧ z.2.2 ≤ y.2.1) && decide (z.2.2 = b)) else 0) (v := v) (by omega) (fun b => by
    show (if s0 < b then _ else 0) ≤ 1
    by_cases c : s0 < b
    · rw [if_pos c]; exact one b c
    · rw [if_neg c]; omega) (fun b hb => by
    show (if s0 < b then _ else 0) = 0
    by_cases c : s0 < b
    · rw [if_pos c]; exact oth b hb c
    · rw [if_neg c]) 32 (y.2.1 - 223) (by omega)
  have c := smq_le (f := fun b => (A T).countP (fun z => decide (tokb z = true ∧ asr z.1 = v ∧ z.2.2 ≤ y.2.1) && decide (z.2.2 = b))) (g := fun b => if s0 < b then (A T).countP (fun z => decide (tokb z = true ∧ asr z.1 = v ∧ z.2.2 ≤ y.2.1) && decide (z.2.2 = b)) else 0) (s := y.2.1 - 223) (7 * 32) (fun i hi => by
    show (A T).countP (fun z => decide (tokb z = true ∧ asr z.1 = v ∧ z.2.2 ≤ y.2.1) && decide (z.2.2 = y.2.1 - 223 + i)) ≤ (if s0 < y.2.1 - 223 + i then _ else 0)
    rw [if_pos (by omega)]
    exact Nat.le_refl _)
  unfold kvg
  omega

