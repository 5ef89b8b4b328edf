theorem acc_1 {L s0 : Nat} {τ : Nat → qS} {A : Nat → List (Ms × Nat × Nat)} {ρ : Nat → qS × qS × qS} {B : Nat → List (Ms × Nat × Nat) × List (Ms × Nat × Nat) × List (Ms × Nat × Nat)} (h : ANC L s0 τ A ρ B) {b : Nat} (hb : s0 < b) {t t' : Nat} (h1 : s0 ≤ t) (h2 : t < 7 * L) (h1' : s0 ≤ t') (h2' : t' < 7 * L) (ha : ACC τ A ρ B t b) (ha' : ACC τ A ρ B t' b) : t = t' := by
  obtain ⟨p1, -, p3⟩ := ANC_once h hb h1 h2 ha
  obtain ⟨q1, -, q3⟩ := ANC_once h hb h1' h2' ha'
  apply Classical.byContradiction
  intro n
  rcases Nat.lt_or_gt_of_ne n with c | c
  · have := p3 t' c (by omega); omega
  · have := q3 t c (by omega); omega
theorem sty_1 {τ : Nat → qS} {v a a' t : Nat} (h : ATk τ v a') (h1 : STY τ v a t) (h2 : a < a') (h3 : a' ≤ t) : False := by
  obtain ⟨-, q0, -, q⟩ := h
  have x := h1 a' (by omega) h3
  have y := h1 (a' - 1) (by omega) (by omega)
  rcases q with q | q | q
  · omega
  · rw [show a' - 1 + 1 = a' by omega] at q; exact q (y.2.1.trans x.2.1.symm)
  · rw [show a' - 1 + 1 = a' by omega] at q; exact q (y.2.2.trans x.2.2.symm)
theorem sty_2 {τ : Nat → qS} {v a a' t : Nat} (ha : ATk τ v a) (ha' : ATk τ v a') (h1 : STY τ v a t) (h1' : STY τ v a' t) (h2 : a ≤ t) (h2' : a' ≤ t) : a = a' := by
  apply Classical.byContradiction
  intro n
  rcases Nat.lt_or_gt_of_ne n with c | c
  · exact sty_1 ha' h1 c h2'
  · exact sty_1 ha h1' c h2
def RUNL (L : Nat) (τ : Nat → qS) (v y : Nat) : Prop := y < 7 * L ∧ ∀ a t, a ≤ y → ATk τ v a → STY τ v a t → t < 7 * L
theorem EDG_u {L s0 : Nat} {τ : Nat → qS} {A : Nat → List (Ms × Nat × Nat)} {ρ : Nat → qS × qS × qS} {B : Nat → List (Ms × Nat × Nat) × List (Ms × Nat × Nat) × List (Ms × Nat × Nat)} (h : ANC L s0 τ A ρ B) {v : Nat} {b a a' y : Nat} (hb : s0 < b) (hy : RUNL L τ v y) (h1 : a ≤ y) (h1' : a' ≤ y) (he : EDG τ A ρ B v b a) (he' : EDG τ A ρ B v b a') : a = a' := by
  obtain ⟨ba, aa, t, t1, t2, t3, t4, t5⟩ := he
  obtain ⟨ba', aa', t', t1', t2', t3', t4', t5'⟩ := he'
  have l := hy.2 a t h1 aa t3
  have l' := hy.2 a' t' h1' aa' t3'
  have e := acc_1 h hb (by omega) l (by omega) l' t4 t4'
  subst e
  exact sty_2 aa aa' t3 t3' t2 t2'
def PThh (τ : Nat → qS) (A : Nat → List (Ms × Nat × Nat)) (ρ : Nat → qS × qS × qS) (B : Nat → List (Ms × Nat × Nat) × List (Ms × Nat × Nat) × List (Ms × Nat × Nat)) (v r a : Nat) : Prop := ∃ (n : Nat) (f : Nat → Nat), f 0 = r ∧ f n = a ∧ ∀ i, i < n → EDG τ A ρ B v (f i) (f (i + 1))
theorem PThh_r {τ : Nat → qS} {A : Nat → List (Ms × Nat × Nat)} {ρ : Nat → qS × qS × qS} {B : Nat → List (Ms × Nat × Nat) × List (Ms × Nat × Nat) × List (Ms × Nat × Nat)} (v r : Nat) : PThh τ A ρ B v r r := ⟨0, fun _ => r, rfl, rfl, fun i hi => by omega⟩
theorem PThh_e {τ : Nat → qS} {A : Nat → List (Ms × Nat × Nat)} {ρ : Nat → qS × qS × qS} {B : Nat → List (Ms × Nat × Nat) × List (Ms × Nat × Nat) × List (Ms × Nat × Nat)} {v r b a : Nat} (h : PThh τ A ρ B v r b) (he : EDG τ A ρ B v b a) : PThh τ A ρ B v r a := by
  obtain ⟨n, f, f0, fn, fe'⟩ := h
  refine ⟨n + 1, fun i => if i ≤ n then f i else a, ?_, ?_, fun i hi => ?_⟩
  · show (if 0 ≤ n then f 0 else a) = r
    rw [if_pos (by omega)]; exact f0
  · show (if n + 1 ≤ n then f (n + 1) else a) = a
    rw [if_neg (by omega)]
  · show EDG τ A ρ B v (if i ≤ n then f i else a) (if i + 1 ≤ n then f (i + 1) else a)
    by_cases c : i + 1 ≤ n
    · rw [if_pos (by omega), if_pos c]; exact fe' i (by omega)
    · rw [if_pos (by omega), if_neg c, show i = n by omega, fn]; exact he
theorem PThh_le {τ : Nat → qS} {A : Nat → List (Ms × Nat × Nat)} {ρ : Nat → qS × qS × qS} {B : Nat → List (Ms × Nat × Nat) × List (Ms × Nat × Nat) × List (Ms × Nat × Nat)} {v : Nat} {f : Nat → Nat} {n : Nat} (h : ∀ i, i < n → EDG τ A ρ B v (f i) (f (i + 1))) : ∀ d i, i + d ≤ n → f i ≤ f (i + d)
  | 0, i, _ => Nat.le_refl _
  | d + 1, i, hi => by
    have a := PThh_le h d i (by omega)
    have b := (h (i + d) (by omega)).1
    rw [show i + (d + 1) = i + d + 1 by omega]
    omega
theorem PThh_u {L s0 : Nat} {τ : Nat → qS} {A : Nat → List (Ms × Nat × Nat)} {ρ : Nat → qS × qS × qS} {B : Nat → List (Ms × Nat × Nat) × List (Ms × Nat × Nat) × List (Ms × Nat × Nat)} (h : ANC L s0 τ A ρ B) {v r a a' y : Nat} (hr : s0 < r) (hy : RUNL L τ v y) (h1 : a ≤ y) (h1' : a' ≤ y) (hp : PThh τ A ρ B v r a) (hp' : PThh τ A ρ B v r a') : a = a' ∨ (∃ c, c ≤ a' ∧ EDG τ A ρ B v a c) ∨ ∃ c, c ≤ a ∧ EDG τ A ρ B v a' c := by
  obtain ⟨n, f, f0, fn, fs⟩ := hp
  obtain ⟨m, g, g0, gm, gs⟩ := hp'
  have key : ∀ i, i ≤ n → i ≤ m → f i = g i := fun i => by
    induction i with
    | zero => intro _ _; rw [f0, g0]
    | succ i ih =>
      intro p q
      have e := ih (by omega) (by omega)
      have x := fs i (by omega)
      have z := gs i (by omega)
      rw [← e] at z
      have lf := PThh_le fs (n - (i + 1)) (i + 1) (by omega)
      rw [show i + 1 + (n - (i + 1)) = n by omega, fn] at lf
      have lg := PThh_le gs (m - (i + 1)) (i + 1) (by omega)
      rw [show i + 1 + (m - (i + 1)) = m by omega, gm] at lg
      have rl := PThh_le fs i 0 (by omega)
      rw [Nat.zero_add, f0] at rl
      exact EDG_u h (by omega) hy (by omega) (by omega) x z
  rcases Nat.lt_trichotomy n m with c | c | c
  · right; left
    have e := key n (Nat.le_refl _) (by omega)
    have z := gs n c
    rw [← e, fn] at z
    have lg := PThh_le gs (m - (n + 1)) (n + 1) (by omega)
    rw [show n + 1 + (m - (n + 1)) = m by omega, gm] at lg
    exact ⟨_, lg, z⟩
  · left
    have e := key n (Nat.le_refl _) (by omega)
    rw [fn, c, gm] at e
    exact e
  · right; right
    have e := key m (by omega) (Nat.le_refl _)
    have z := fs m c
    rw [e, gm] at z
    have lf := PThh_le fs (n - (m + 1)) (m + 1) (by omega)
    rw [show m + 1 + (n - (m + 1)) = n by omega, fn] at lf
    exact ⟨_, lf, z⟩
theorem ALV_e {L s0 : Nat} {τ : Nat → qS} {A : Nat → List (Ms × Nat × Nat)} {ρ : Nat → qS × qS × qS} {B : Nat → List (Ms × Nat × Nat) × List (Ms × Nat × Nat) × List (Ms × Nat × Nat)} (h : ANC L s0 τ A ρ B) {v a c y : Nat} (ha : s0 < a) (hy : RUNL L τ v y) (hc : c ≤ y) (al : 1 ≤ tbc a (A y)) (he : EDG τ A ρ B v a c) : STY τ v c y := by
  obtain ⟨ac, cc, t, t1, t2, t3, t4, t5⟩ := he
  have l := hy.2 c t hc cc t3
  have ty : y ≤ t := by
    apply Classical.byContradiction
    intro n
    have := (ANC_once h ha (by omega) l t4).2.2 y (by omega) (by have := hy.1; omega)
    omega
  exact fun u u1 u2 => t3 u u1 (by omega)

