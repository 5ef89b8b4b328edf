def PI_ (bit : Nat → Bool) (B : List Bool) (n : Nat) : Prop := ∀ j, j < B.length → j < n → B[B.length - 1 - j]? = some (bit (n - 1 - j))
theorem PI_app {bit : Nat → Bool} {B : List Bool} {n : Nat} (h : PI_ bit B n) : PI_ bit (B ++ [bit n]) (n + 1) := fun j h1 h2 => by
  rw [List.length_append, List.length_singleton] at h1 ⊢
  by_cases c : j = 0
  · subst c
    rw [show B.length + 1 - 1 - 0 = B.length by omega, List.getElem?_append_right (Nat.le_refl _), show B.length - B.length = 0 by omega, show n + 1 - 1 - 0 = n by omega]
    rfl
  · rw [List.getElem?_append_left (by omega), show B.length + 1 - 1 - j = B.length - 1 - (j - 1) by omega, show n + 1 - 1 - j = n - 1 - (j - 1) by omega]
    exact h (j - 1) (by omega) (by omega)
theorem PI_drop {bit : Nat → Bool} {B : List Bool} {n d : Nat} (h : PI_ bit B n) : PI_ bit (B.drop d) n := fun j h1 h2 => by
  rw [List.length_drop] at h1 ⊢
  rw [List.getElem?_drop, show d + (B.length - d - 1 - j) = B.length - 1 - j by omega]
  exact h j (by omega) h2
def bt (τ : Nat → qS) (R n : Nat) : Bool := fr (τ (7 * (R + n / 6))) ((n % 6 : Nat) : Int) == 1
def mb (τ : Nat → qS) (t : Nat) : List Bool := (mq (ln (τ t))).map isK
theorem bt_at {τ : Nat → qS} {R r v : Nat} (hv : v < 6) (hr : R ≤ r) : bt τ R (6 * (r - R) + v) = (fr (τ (7 * r)) v == 1) := by
  unfold bt
  rw [show (6 * (r - R) + v) / 6 = r - R by omega, show (6 * (r - R) + v) % 6 = v by omega, show R + (r - R) = r by omega]
theorem idl_n1 {σ : qS} {v : Int} (h : idl σ v 1) : ¬ idl σ v 0 := fun e => by have := h.2; have := e.2; omega
theorem PI_tk {L : Nat} {τ : Nat → qS} (h : RNN L τ) {a b : Nat} (hp : PFS τ a b) (hb : b ≤ L) {r v : Nat} (hv : v < 6) (h1 : a + 1 ≤ r) (h2 : r < b) : (PI_ (bt τ (a + 1)) (mb τ (7 * r + v)) (6 * (r - (a + 1)) + v) → PI_ (bt τ (a + 1)) (mb τ (7 * r + v + 1)) (6 * (r - (a + 1)) + v + 1)) ∧ (mq (ln (τ (7 * r + v)))).length + 1 ≤ (mq (ln (τ (7 * r + v + 1)))).length + fr (τ (7 * r)) v := by
  have hs := st_at h hp hb hv (r := r - 1) (by omega) (by omega)
  rw [show r - 1 + 1 = r by omega] at hs
  rcases hs with hs | hs
  · obtain ⟨-, x, d, -, x2, x3, x4⟩ := st_A h hp hb hv (by omega) h2 hs
    refine ⟨fun hI => ?_, ?_⟩
    · have e : bt τ (a + 1) (6 * (r - (a + 1)) + v) = true := by rw [bt_at hv h1, fr_i hs]; rfl
      have e2 : mb τ (7 * r + v + 1) = (mb τ (7 * r + v)).drop d ++ [bt τ (a + 1) (6 * (r - (a + 1)) + v)] := by
        unfold mb
        rw [x4, List.map_append, List.map_drop, List.map_cons, List.map_nil, x2, e]
      rw [e2]
      exact PI_app (PI_drop hI)
    · rw [x4, List.length_append, List.length_drop, List.length_singleton, fr_i hs]; omega
  · obtain ⟨-, x, -, x2, x4⟩ := st_E h hp hb hv (by omega) h2 hs
    have f0 := fr_z (idl_n1 hs)
    refine ⟨fun hI => ?_, ?_⟩
    · have e : bt τ (a + 1) (6 * (r - (a + 1)) + v) = false := by rw [bt_at hv h1, f0]; rfl
      have e2 : mb τ (7 * r + v + 1) = mb τ (7 * r + v) ++ [bt τ (a + 1) (6 * (r - (a + 1)) + v)] := by
        unfold mb
        rw [x4, List.map_append, List.map_cons, List.map_nil, x2, e]
      rw [e2]
      exact PI_app hI
    · rw [x4, List.length_append, List.length_singleton, f0]; omega
theorem PI_rd {L : Nat} {τ : Nat → qS} (h : RNN L τ) {a b : Nat} (hp : PFS τ a b) (hb : b ≤ L) {r : Nat} (h1 : a + 1 ≤ r) (h2 : r < b) (hI : PI_ (bt τ (a + 1)) (mb τ (7 * r)) (6 * (r - (a + 1)))) : PI_ (bt τ (a + 1)) (mb τ (7 * r + 6)) (6 * (r - (a + 1)) + 6) ∧ (mq (ln (τ (7 * r)))).length + 6 ≤ (mq (ln (τ (7 * r + 6)))).length + frs (τ (7 * r)) := by
  obtain ⟨p0, l0⟩ := PI_tk h hp hb (v := 0) (by omega) h1 h2
  obtain ⟨p1, l1⟩ := PI_tk h hp hb (v := 1) (by omega) h1 h2
  obtain ⟨p2, l2⟩ := PI_tk h hp hb (v := 2) (by omega) h1 h2
  obtain ⟨p3, l3⟩ := PI_tk h hp hb (v := 3) (by omega) h1 h2
  obtain ⟨p4, l4⟩ := PI_tk h hp hb (v := 4) (by omega) h1 h2
  obtain ⟨p5, l5⟩ := PI_tk h hp hb (v := 5) (by omega) h1 h2
  refine ⟨p5 (p4 (p3 (p2 (p1 (p0 hI))))), ?_⟩
  unfold frs
  simp only [Nat.add_zero, Nat.add_assoc, Nat.reduceAdd, Int.cast_ofNat_Int, Int.natCast_zero] at *
  omega
theorem PI_all {L : Nat} {τ : Nat → qS} (h : RNN L τ) {a b : Nat} (hp : PFS τ a b) (hb : b ≤ L) : ∀ k, a + 1 + k ≤ b → PI_ (bt τ (a + 1)) (mb τ (7 * (a + 1 + k))) (6 * k)
  | 0, _ => fun j _ h2 => absurd h2 (by omega)
  | k + 1, hk => by
    have ih := PI_all h hp hb k (by omega)
    have hr := (PI_rd h hp hb (r := a + 1 + k) (by omega) (by omega) (by rw [show a + 1 + k - (a + 1) = k by omega]; exact ih)).1
    rw [show a + 1 + k - (a + 1) = k by omega] at hr
    have hm := (MT_q (run_95 h (by omega) (by omega) (by omega)) (stp_mtk h (r := a + 1 + k) (by omega))).1
    have e : mb τ (7 * (a + 1 + (k + 1))) = (mb τ (7 * (a + 1 + k) + 6)).drop 3 := by
      unfold mb
      rw [show 7 * (a + 1 + (k + 1)) = 7 * (a + 1 + k) + 7 by omega, hm, List.map_drop]
    rw [e, show 6 * (k + 1) = 6 * k + 6 by omega]
    exact PI_drop hr
theorem pig {f : Nat → Nat} {B : Nat} : ∀ n, (∀ i, i < n → f i ≤ f (i + 1)) → (∀ i, i < n → f (i + 1) ≠ f i) → f 0 + n ≤ f n
  | 0, _, _ => by omega
  | n + 1, h1, h2 => by
    have ih := pig (B := B) n (fun i hi => h1 i (by omega)) (fun i hi => h2 i (by omega))
    have := h1 n (by omega)
    have := h2 n (by omega)
    omega
theorem Q1 {L : Nat} {τ : Nat → qS} (h : RNN L τ) {a b : Nat} (hp : PFS τ a b) (hb : b ≤ L) (hab : a + 200 ≤ b) (hM : ∀ r, a ≤ r → r < b → 3 ≤ cn 6 (ln (τ (7 * r + 6))) ∧ ∀ x, (mq (ln (τ (7 * r + 6))))[0]? = some x → isK x = true) : False := by
  let f : Nat → Nat := fun i => (mq (ln (τ (7 * (a + 70 + i) + 6)))).length
  have mono : ∀ i, i < 100 → f i ≤ f (i + 1) := fun i hi => by
    have hI := PI_all h hp hb (70 + i) (by omega)
    have hI' := PI_all h hp hb (69 + i + 1) (by omega)
    have l1 := (PI_rd h hp hb (r := a + 70 + (i + 1)) (by omega) (by omega) (by
      have := PI_all h hp hb (70 + i) (by omega)
      rw [show a + 70 + (i + 1) = a + 1 + (70 + i) by omega, show a + 1 + (70 + i) - (a + 1) = 70 + i by omega]
      exact this)).2
    have l2 := frs3 h hp hb (r := a + 70 + (i + 1)) (by omega) (by omega)
    have l3 := (MT_q (run_95 h (by omega) (by omega) (by omega)) (stp_mtk h (r := a + 70 + i) (by omega))).1
    have l4 := (hM (a + 70 + i) (by omega) (by omega)).1
    rw [← mq_len] at l4
    rw [show 7 * (a + 70 + (i + 1)) = 7 * (a + 70 + i) + 7 by omega, l3, List.length_drop] at l1
    rw [show 7 * (a + 70 + (i + 1)) = 7 * (a + 70 + i) + 7 by omega] at l2
    show (mq (ln (τ (7 * (a + 70 + i) + 6)))).length ≤ (mq (ln (τ (7 * (a + 70 + (i + 1)) + 6)))).length
    rw [show 7 * (a + 70 + (i + 1)) = 7 * (a + 70 + i) + 7 by omega]
    omega
  have le : ∀ i, i ≤ 100 → f i ≤ 95 := fun i hi => by
    have h1 : f i ≤ (ln (τ (7 * (a + 70 + i) + 6))).length := List.length_filter_le _ _
    have h2 := run_95 h (t := 7 * (a + 70 + i) + 6) (by omega) (by omega) (by omega)
    omega
  have hex : ∃ i, i < 100 ∧ f (i + 1) = f i := by
    apply Classical.byContradiction
    intro hn
    have := pig (f := f) (B := 0) 100 mono (fun i hi e => hn ⟨i, hi, e⟩)
    have := le 100 (by omega)
    omega
  obtain ⟨i, hi, e⟩ := hex
  have front : ∀ k, k ≤ 101 → bt τ (a + 1) (6 * (69 + k) + 6 - f k) = true ∧ 3 ≤ f k := fun k hk => by
    have hI := PI_all h hp hb (69 + k) (by omega)
    have hr := (PI_rd h hp hb (r := a + 1 + (69 + k)) (by omega) (by omega) (by rw [show a + 1 + (69 + k) - (a + 1) = 69 + k by omega]; exact hI)).1
    rw [show a + 1 + (69 + k) - (a + 1) = 69 + k by omega, show a + 1 + (69 + k) = a + 70 + k by omega] at hr
    obtain ⟨m1, m2⟩ := hM (a + 70 + k) (by omega) (by omega)
    rw [← mq_len] at m1
    have hl : (mb τ (7 * (a + 70 + k) + 6)).length = f k := by unfold mb; rw [List.length_map]
    have l95 : f k ≤ 95 := by
      have h1 : f k ≤ (ln (τ (7 * (a + 70 + k) + 6))).length := List.length_filter_le _ _
      have h2 := run_95 h (t := 7 * (a + 70 + k) + 6) (by omega) (by omega) (by omega)
      omega
    have m1' : 3 ≤ f k := m1
    have g := hr (f k - 1) (by rw [hl]; omega) (by omega)
    rw [hl, show f k - 1 - (f k - 1) = 0 by omega] at g
    refine ⟨?_, m1'⟩
    rw [show 6 * (69 + k) + 6 - 1 - (f k - 1) = 6 * (69 + k) + 6 - f k by omega] at g
    unfold mb at g
    rw [List.getElem?_map] at g
    cases hx : (mq (ln (τ (7 * (a + 70 + k) + 6))))[0]? with
    | none => rw [hx] at g; cases g
    | some x =>
      rw [hx] at g
      have := m2 x hx
      have g' := Option.some.inj g
      rw [← g', this]
  obtain ⟨b1, b2⟩ := front i (by omega)
  obtain ⟨b3, -⟩ := front (i + 1) (by omega)
  have l95 := le i (by omega)
  rw [e] at b3
  generalize hq : 6 * (69 + i) + 6 - f i = q at b1
  have eq : 6 * (69 + (i + 1)) + 6 - f i = q + 6 := by omega
  rw [eq] at b3
  have hv : q % 6 < 6 := Nat.mod_lt _ (by omega)
  unfold bt at b1 b3
  rw [show (q + 6) / 6 = q / 6 + 1 by omega, show (q + 6) % 6 = q % 6 by omega] at b3
  have i1 : idl (τ (7 * (a + 1 + q / 6))) ((q % 6 : Nat) : Int) 0 := Classical.byContradiction (fun n => by rw [fr_z n] at b1; cases b1)
  have i2 : idl (τ (7 * (a + 1 + (q / 6 + 1)))) ((q % 6 : Nat) : Int) 0 := Classical.byContradiction (fun n => by rw [fr_z n] at b3; cases b3)
  have i3 := st_nx h hv (by omega) (st_A h hp hb hv (r := a + 1 + q / 6) (by omega) (by omega) i1).1
  rw [show a + 1 + q / 6 + 1 = a + 1 + (q / 6 + 1) by omega] at i3
  exact idl_n1 i3 i2

