def fbc (b : Nat) (A : List (Ms × Nat × Nat)) : Nat := A.countP (fun y => decide (xw y.1 0 = 5) && decide (y.2.2 = b))
theorem fbc_sub (b : Nat) {A B : List (Ms × Nat × Nat)} (h : B.Sublist A) : fbc b B ≤ fbc b A := List.Sublist.countP_le h
theorem fbc_tb (b : Nat) (A : List (Ms × Nat × Nat)) : fbc b A ≤ tbc b A := by
  unfold fbc tbc
  refine List.countP_mono_left (fun y _ h => ?_)
  rw [Bool.and_eq_true] at h ⊢
  exact ⟨(tokb_i y).mpr (Or.inl (of_decide_eq_true h.1)), h.2⟩
theorem fbc_no (b : Nat) (A : List (Ms × Nat × Nat)) {z : Ms} {a c : Nat} (h : xw z 0 ≠ 5) : fbc b (A ++ [(z, a, c)]) = fbc b A := by
  unfold fbc
  rw [List.countP_append, List.countP_cons, List.countP_nil]
  have : (decide (xw ((z, a, c) : Ms × Nat × Nat).1 0 = 5) && decide (((z, a, c) : Ms × Nat × Nat).2.2 = b)) = false := by
    rw [Bool.and_eq_false_iff]
    left
    exact decide_eq_false h
  rw [this]
  simp
theorem fbc_ap (b : Nat) (A : List (Ms × Nat × Nat)) (z : Ms) (a c : Nat) (h : c ≠ b) : fbc b (A ++ [(z, a, c)]) = fbc b A := by
  unfold fbc
  rw [List.countP_append, List.countP_cons, List.countP_nil]
  have : (decide (xw ((z, a, c) : Ms × Nat × Nat).1 0 = 5) && decide (((z, a, c) : Ms × Nat × Nat).2.2 = b)) = false := by
    rw [Bool.and_eq_false_iff]
    right
    exact decide_eq_false h
  rw [this]
  simp
theorem RDn_fb {t : Nat} {w e : Int} {A A' : List (Ms × Nat × Nat)} (h : RDn w e t A A') (b : Nat) : fbc b A' ≤ fbc b A := by
  rcases h with ⟨-, rfl⟩ | ⟨i, y, -, c2, c⟩
  · exact Nat.le_refl _
  · rcases c with ⟨-, rfl⟩ | ⟨-, -, z, -, z0, -, -, -, -, rfl⟩
    · exact fbc_sub b (List.eraseIdx_sublist A i)
    · rw [fbc_no b _ (by omega)]
      exact Nat.le_trans (fbc_sub b (tlA_sub _)) (fbc_sub b (List.eraseIdx_sublist A i))
theorem HRn_fb {t : Nat} {A A' : List (Ms × Nat × Nat)} (h : HRn t A A') (b : Nat) : fbc b A' ≤ fbc b A := by
  rcases h with ⟨-, rfl⟩ | ⟨i, y, -, -, c⟩
  · exact Nat.le_refl _
  · rcases c with rfl | ⟨z, z0, rfl⟩
    · exact fbc_sub b (List.eraseIdx_sublist A i)
    · rw [fbc_no b _ (by omega)]
      exact Nat.le_trans (fbc_sub b (tlA_sub _)) (fbc_sub b (List.eraseIdx_sublist A i))
theorem ACn_fb {t : Nat} {A A' : List (Ms × Nat × Nat)} {s : List Ms} (h : ACn t A A' s) {b : Nat} (hb : b ≤ t) : fbc b A' ≤ fbc b A := by
  rcases h with ⟨rfl, -⟩ | ⟨z, rfl, -⟩ | ⟨z, z', rfl, -⟩
  · exact Nat.le_refl _
  · rw [fbc_ap b _ z _ _ (by omega)]; exact fbc_sub b (tlA_sub _)
  · rw [fbc_ap b _ z' _ _ (by omega)]
    refine Nat.le_trans (fbc_sub b (tlA_sub _)) ?_
    rw [fbc_ap b _ z _ _ (by omega)]; exact fbc_sub b (tlA_sub _)
theorem STn_fb {t : Nat} {σ σ' : qS} {A A' : List (Ms × Nat × Nat)} (h : STn t σ σ' A A') {b : Nat} (hb : b ≤ t) : fbc b A' ≤ fbc b A ∧ tbc b A' ≤ tbc b A := by
  rcases h with ⟨-, σ1, σ2, σ3, A1, A2, A3, -, -, q1, q2, q3, s', a', o'⟩ | ⟨-, σ1, σ2, A1, A2, -, -, -, -, q1, q2, q3⟩
  · have x1 := RDn_fb q1 b
    have x2 := RDn_fb q2 b
    have x3 := RDn_fb q3 b
    have x4 := ACn_fb a' hb
    have y1 := RDn_tb q1 b
    have y2 := RDn_tb q2 b
    have y3 := RDn_tb q3 b
    have y4 := ACn_tb a' o' b
    rw [if_neg (by omega)] at y4
    omega
  · have x1 := HRn_fb q1 b
    have x2 := HRn_fb q2 b
    have x3 := HRn_fb q3 b
    have y1 := HRn_tb q1 b
    have y2 := HRn_tb q2 b
    have y3 := HRn_tb q3 b
    omega
theorem ANR_fb {L s0 : Nat} {τ : Nat → qS} {A : Nat → List (Ms × Nat × Nat)} (h : ANR L s0 τ A) {b t : Nat} (hb : b ≤ t) (ht : s0 ≤ t) : ∀ k, t + k ≤ 7 * L → fbc b (A (t + k)) ≤ fbc b (A t) ∧ tbc b (A (t + k)) ≤ tbc b (A t)
  | 0, _ => ⟨Nat.le_refl _, Nat.le_refl _⟩
  | k + 1, hk => by
    have i := ANR_fb h hb ht k (by omega)
    have s := STn_fb (h.2.2 (t + k) (by omega) (by omega)) (b := b) (by omega)
    rw [show t + (k + 1) = t + k + 1 by omega]
    omega
def stA (A : Nat → List (Ms × Nat × Nat)) (B : Nat → List (Ms × Nat × Nat) × List (Ms × Nat × Nat) × List (Ms × Nat × Nat)) (t i : Nat) : List (Ms × Nat × Nat) := if i = 0 then A t else if i = 1 then (B t).1 else if i = 2 then (B t).2.1 else (B t).2.2
def stQ (τ : Nat → qS) (ρ : Nat → qS × qS × qS) (t i : Nat) : qS := if i = 0 then τ t else if i = 1 then (ρ t).1 else if i = 2 then (ρ t).2.1 else (ρ t).2.2
theorem st_rd {L s0 : Nat} {τ : Nat → qS} {A : Nat → List (Ms × Nat × Nat)} {ρ : Nat → qS × qS × qS} {B : Nat → List (Ms × Nat × Nat) × List (Ms × Nat × Nat) × List (Ms × Nat × Nat)} (h : ANC L s0 τ A ρ B) {t : Nat} (h1 : s0 ≤ t) (h2 : t < 7 * L) (h6 : t % 7 < 6) {i : Nat} (hi : i < 3) : RDn ((t % 7 : Nat) : Int) (stQ τ ρ t i 31 0) t (stA A B t i) (stA A B t (i + 1)) := by
  obtain ⟨-, -, r1, r2, r3, -⟩ := h.2 t h1 h2 h6
  rcases (by omega : i = 0 ∨ i = 1 ∨ i = 2) with e | e | e
  · subst e; exact r1
  · subst e; exact r2
  · subst e; exact r3
theorem st_mo {L s0 : Nat} {τ : Nat → qS} {A : Nat → List (Ms × Nat × Nat)} {ρ : Nat → qS × qS × qS} {B : Nat → List (Ms × Nat × Nat) × List (Ms × Nat × Nat) × List (Ms × Nat × Nat)} (h : ANC L s0 τ A ρ B) {t : Nat} (h1 : s0 ≤ t) (h2 : t < 7 * L) (h6 : t % 7 < 6) {b : Nat} (hb : b ≤ t) : ∀ d i, i + d ≤ 3 → fbc b (stA A B t (i + d)) ≤ fbc b (stA A B t i) ∧ tbc b (stA A B t (i + d)) ≤ tbc b (stA A B t i)
  | 0, _, _ => ⟨Nat.le_refl _, Nat.le_refl _⟩
  | d + 1, i, hi => by
    have ih := st_mo h h1 h2 h6 hb d i (by omega)
    have r := st_rd h h1 h2 h6 (i := i + d) (by omega)
    have a := RDn_fb r b
    have c := RDn_tb r b
    rw [show i + (d + 1) = i + d + 1 by omega]
    omega
theorem st_end {L s0 : Nat} {τ : Nat → qS} {A : Nat → List (Ms × Nat × Nat)} {ρ : Nat → qS × qS × qS} {B : Nat → List (Ms × Nat × Nat) × List (Ms × Nat × Nat) × List (Ms × Nat × Nat)} (h : ANC L s0 τ A ρ B) {t : Nat} (h1 : s0 ≤ t) (h2 : t < 7 * L) (h6 : t % 7 < 6) {b : Nat} (hb : b ≤ t) : fbc b (A (t + 1)) ≤ fbc b (stA A B t 3) ∧ tbc b (A (t + 1)) ≤ tbc b (stA A B t 3) := by
  obtain ⟨-, -, -, -, -, s, a, o⟩ := h.2 t h1 h2 h6
  have x := ACn_fb a hb
  have y := ACn_tb a o b
  rw [if_neg (by omega)] at y
  have e : stA A B t 3 = (B t).2.2 := rfl
  rw [e]
  exact ⟨x, y⟩
def rdk (τ : Nat → qS) (A : Nat → List (Ms × Nat × Nat)) (ρ : Nat → qS × qS × qS) (B : Nat → List (Ms × Nat × Nat) × List (Ms × Nat × Nat) × List (Ms × Nat × Nat)) (k : Int) (t i b : Nat) : Prop := t % 7 < 6 ∧ ∃ y, y.2.2 = b ∧ hdA ((t % 7 : Nat) : Int) (stA A B t i) y ∧ xw y.1 1 = stQ τ ρ t i 31 0 ∧ xw y.1 0 = k
theorem rd_dec {L s0 : Nat} {τ : Nat → qS} {A : Nat → List (Ms × Nat × Nat)} {ρ : Nat → qS × qS × qS} {B : Nat → List (Ms × Nat × Nat) × List (Ms × Nat × Nat) × List (Ms × Nat × Nat)} (h : ANC L s0 τ A ρ B) {t : Nat} (h1 : s0 ≤ t) (h2 : t < 7 * L) {i b : Nat} (hi : i < 3) : (rdk τ A ρ B 5 t i b → fbc b (stA A B t (i + 1)) + 1 ≤ fbc b (stA A B t i)) ∧ (rdk τ A ρ B 6 t i b → tbc b (stA A B t (i + 1)) + 1 ≤ tbc b (stA A B t i)) := by
  have gen : ∀ (k : Int), rdk τ A ρ B k t i b → ∃ (j : Nat) (y : Ms × Nat × Nat), (stA A B t i)[j]? = some y ∧ y.2.2 = b ∧ xw y.1 0 = k ∧ ((k ≠ 5 ∧ stA A B t (i + 1) = (stA A B t i).eraseIdx j) ∨ (k = 5 ∧ ∃ z : Ms, xw z 0 = 6 ∧ stA A B t (i + 1) = tlA ((stA A B t i).eraseIdx j) ++ [(z, t + 1, y.2.2)])) := fun k hk => by
    obtain ⟨h6, y, yb, ⟨j, a1, a2⟩, ye, yk⟩ := hk
    rcases st_rd h h1 h2 h6 hi with ⟨c, -⟩ | ⟨j', y', c1, c2, c⟩
    · rw [a1] at c; cases c
    · have ey : y = y' := hdA_u ⟨j, a1, a2⟩ ⟨j', c1, c2⟩
      subst ey
      rcases c with ⟨d, e⟩ | ⟨-, d5, z, -, z0, -, -, -, -, e⟩
      · refine ⟨j', y, c2, yb, yk, Or.inl ⟨fun k5 => ?_, e⟩⟩
        rcases d with d | d
        · exact d ye
        · exact d (yk.trans k5)
      · exact ⟨j', y, c2, yb, yk, Or.inr ⟨by omega, z, z0, e⟩⟩
  refine ⟨fun hk => ?_, fun hk => ?_⟩
  · obtain ⟨j, y, y1, yb, yk, c⟩ := gen 5 hk
    rcases c with ⟨c, -⟩ | ⟨-, z, z0, e⟩
    · exact absurd rfl c
    · have p := cpA_er (fun x => decide (xw x.1 0 = 5) && decide (x.2.2 = b)) (stA A B t i) j y y1
      rw [if_pos (by rw [decide_eq_true yk, decide_eq_true yb]; rfl)] at p
      rw [e, fbc_no b _ (by omega)]
      have q := fbc_sub b (tlA_sub ((stA A B t i).eraseIdx j))
      unfold fbc at q ⊢
      omega
  · obtain ⟨j, y, y1, yb, yk, c⟩ := gen 6 hk
    rcases c with ⟨-, e⟩ | ⟨c, -⟩
    · have p := cpA_er (fun x => tokb x && decide (x.2.2 = b)) (stA A B t i) j y y1
      have k : tokb y = true := (tokb_i y).mpr (Or.inr yk)
      rw [if_pos (by rw [k, decide_eq_true yb]; rfl)] at p
      rw [e]
      unfold tbc
      omega
    · omega
theorem rd_once {L s0 : Nat} {τ : Nat → qS} {A : Nat → List (Ms × Nat × Nat)} {ρ : Nat → qS × qS × qS} {B : Nat → List (Ms × Nat × Nat) × List (Ms × Nat × Nat) × List (Ms × Nat × Nat)} (h : ANC L s0 τ A ρ B) {b : Nat} (hb : s0 < b) {k : Int} (hk : k = 5 ∨ k = 6) {t t' i i' : Nat} (h1 : s0 ≤ t) (h2 : t < 7 * L) (h1' : s0 ≤ t') (h2' : t' < 7 * L) (hi : i < 3) (hi' : i' < 3) (r : rdk τ A ρ B k t i b) (r' : rdk τ A ρ B k t' i' b) : t = t' ∧ i = i' := by
  have one : ∀ {t i : Nat}, s0 ≤ t → t < 7 * L → i < 3 → rdk τ A ρ B k t i b → b ≤ t ∧ ((k = 5 ∧ fbc b (stA A B t i) = 1 ∧ fbc b (stA A B t (i + 1)) = 0) ∨ (k = 6 ∧ tbc b (stA A B t i) = 1 ∧ tbc b (stA A B t (i + 1)) = 0)) := fun {t i} q1 q2 q3 q => by
    have h6 := q.1
    obtain ⟨d5, d6⟩ := rd_dec h q1 q2 (b := b) q3
    have t0 := ANR_tb h.1 hb (t - s0) (by omega)
    rw [show s0 + (t - s0) = t by omega] at t0
    have mo : tbc b (stA A B t i) ≤ tbc b (A t) := by
      have r1 := st_rd h q1 q2 h6 (i := 0) (by omega)
      have r2 := st_rd h q1 q2 h6 (i := 1) (by omega)
      have x1 := RDn_tb r1 b
      have x2 := RDn_tb r2 b
      have e0 : stA A B t 0 = A t := rfl
      rw [e0] at x1
      rcases (by omega : i = 0 ∨ i = 1 ∨ i = 2) with e | e | e
      · subst e; rw [e0]; exact Nat.le_refl _
      · subst e; exact x1
      · subst e; exact Nat.le_trans x2 x1
    have ft := fbc_tb b (stA A B t i)
    rcases hk with e | e
    · subst e
      have z := d5 q
      have bt : b ≤ t := by
        apply Classical.byContradiction
        intro n
        rw [if_neg n] at t0
        omega
      rw [if_pos bt] at t0
      exact ⟨bt, Or.inl ⟨rfl, by omega, by omega⟩⟩
    · subst e
      have z := d6 q
      have bt : b ≤ t := by
        apply Classical.byContradiction
        intro n
        rw [if_neg n] at t0
        omega
      rw [if_pos bt] at t0
      exact ⟨bt, Or.inr ⟨rfl, by omega, by omega⟩⟩
  have lt : ∀ {t t' i i' : Nat}, s0 ≤ t → t < 7 * L → s0 ≤ t' → t' < 7 * L → i < 3 → i' < 3 → rdk τ A ρ B k t i b → rdk τ A ρ B k t' i' b → ¬ (t < t' ∨ (t = t' ∧ i < i')) := fun {t t' i i'} q1 q2 q1' q2' q3 q3' q q' c => by
    obtain ⟨bt, z⟩ := one q1 q2 q3 q
    obtain ⟨bt', z'⟩ := one q1' q2' q3' q'
    have h6 := q.1
    have h6' := q'.1
    rcases c with c | ⟨e, c⟩
    · have m1 := st_mo h q1 q2 h6 bt (3 - (i + 1)) (i + 1) (by omega)
      rw [show i + 1 + (3 - (i + 1)) = 3 by omega] at m1
      have m2 := st_end h q1 q2 h6 bt
      have m3 := ANR_fb h.1 (b := b) (t := t + 1) (by omega) (by omega) (t' - (t + 1)) (by omega)
      rw [show t + 1 + (t' - (t + 1)) = t' by omega] at m3
      have m4 := st_mo h q1' q2' h6' bt' i' 0 (by omega)
      rw [Nat.zero_add] at m4
      have e0 : stA A B t' 0 = A t' := rfl
      rw [e0] at m4
      rcases z with ⟨e5, z1, z2⟩ | ⟨e5, z1, z2⟩
      · rcases z' with ⟨-, y1, y2⟩ | ⟨e6, -⟩
        · omega
        · omega
      · rcases z' with ⟨e6, -⟩ | ⟨-, y1, y2⟩
        · omega
        · omega
    · subst e
      have m1 := st_mo h q1 q2 h6 bt (i' - (i + 1)) (i + 1) (by omega)
      rw [show i + 1 + (i' - (i + 1)) = i' by omega] at m1
      rcases z with ⟨e5, z1, z2⟩ | ⟨e5, z1, z2⟩
      · rcases z' with ⟨-, y1, y2⟩ | ⟨e6, -⟩
        · omega
        · omega
      · rcases z' with ⟨e6, -⟩ | ⟨-, y1, y2⟩
        · omega
        · omega
  have a := lt h1 h2 h1' h2' hi hi' r r'
  have c := lt h1' h2' h1 h2 hi' hi r' r
  have et : t = t' := by omega
  subst et
  exact ⟨rfl, by omega⟩

