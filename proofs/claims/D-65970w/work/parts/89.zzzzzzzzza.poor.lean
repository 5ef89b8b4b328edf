-- the line counted by left-behind tokens: master's queue, GIVEs, one current token and five time-outs for each worker, and E
theorem KEv {L s0 : Nat} {τ : Nat → qS} (hR : RNN L τ) {A : Nat → List (Ms × Nat × Nat)} {ρ : Nat → qS × qS × qS} {B : Nat → List (Ms × Nat × Nat) × List (Ms × Nat × Nat) × List (Ms × Nat × Nat)} (h : ANC L s0 τ A ρ B) (h7 : 224 ≤ s0) {v : Nat} (hv : v < 6) {y : Nat} (sy : s0 + 448 < y) (yl : y ≤ 7 * L) : tkc v (A y) ≤ 1 + ctq (AAl τ A v y) (y - 447) 448 + ctq (TOb τ v) (y - 447) 448 := by
  unfold tkc
  have tk := ANR_tk h.1 (y - s0) (by omega)
  rw [show s0 + (y - s0) = y by omega] at tk
  have born : ∀ z ∈ A y, (decide (tokb z = true ∧ asr z.1 = v)) = true → y - 447 ≤ z.2.2 ∧ z.2.2 < y - 447 + 448 := fun z hz hp => by
    have p := of_decide_eq_true hp
    have li := LIFE64 hR h.1 h7 (by omega) (by omega) hz p.1
    have b1 := (tk z hz p.1 (by omega)).1
    omega
  have a := cp_rng (fun z => decide (tokb z = true ∧ asr z.1 = v)) (s := y - 447) (k := 448) (A y) born
  have c := ctq_sm (P := fun b => 1 ≤ tbc b (A y) ∧ (b - 1) % 7 = v ∧ fe (τ b) (v : Int) = 1) (f := fun b => (A y).countP (fun z => decide (tokb z = true ∧ asr z.1 = v) && decide (z.2.2 = b))) (s := y - 447) 448 (fun b b1 b2 => by
    have le : (A y).countP (fun z => decide (tokb z = true ∧ asr z.1 = v) && decide (z.2.2 = b)) ≤ tbc b (A y) := by
      unfold tbc
      refine List.countP_mono_left (fun z _ hh => ?_)
      rw [Bool.and_eq_true] at hh ⊢
      exact ⟨(of_decide_eq_true hh.1).1, hh.2⟩
    have tb := ANR_tb h.1 (b := b) (by omega) (y - s0) (by omega)
    rw [show s0 + (y - s0) = y by omega] at tb
    have t1 : tbc b (A y) ≤ 1 := by
      split at tb <;> omega
    refine ⟨by show (A y).countP (fun z => decide (tokb z = true ∧ asr z.1 = v) && decide (z.2.2 = b)) ≤ 1; omega, fun e => ?_⟩
    have e' : (A y).countP (fun z => decide (tokb z = true ∧ asr z.1 = v) && decide (z.2.2 = b)) = 1 := e
    obtain ⟨z, hz, hp⟩ := List.countP_pos_iff.mp (by omega : 0 < (A y).countP (fun z => decide (tokb z = true ∧ asr z.1 = v) && decide (z.2.2 = b)))
    rw [Bool.and_eq_true] at hp
    have p := of_decide_eq_true hp.1
    have eb := of_decide_eq_true hp.2
    obtain ⟨-, -, -, u, u1, u2, u3, -, u5⟩ := tk z hz p.1 (by omega)
    rw [p.2] at u3
    have uv : u = v := by omega
    subst uv
    rw [eb] at u2 u5
    exact ⟨by omega, u2, u5⟩)
  have o1 := ctq_or (P := fun b => 1 ≤ tbc b (A y) ∧ (b - 1) % 7 = v ∧ fe (τ b) (v : Int) = 1) (Q := TOb τ v) (R := fun b => ATk τ v b ∧ 1 ≤ tbc b (A y)) (s := y - 447) 448 (fun b b1 b2 hp => by
    by_cases cg : CHG τ v (b - 1)
    · exact Or.inr ⟨⟨hp.2.1, by omega, hp.2.2, cg⟩, hp.1⟩
    · exact Or.inl ⟨hp.2.1, hp.2.2, cg⟩)
  have o2 := ctq_or (P := fun b => ATk τ v b ∧ 1 ≤ tbc b (A y)) (Q := AAl τ A v y) (R := fun b => ATk τ v b ∧ STY τ v b y) (s := y - 447) 448 (fun b b1 b2 hp => by
    by_cases st : STY τ v b y
    · exact Or.inr ⟨hp.1, st⟩
    · exact Or.inl ⟨hp.1, hp.2, st⟩)
  have o3 := ctq_one (P := fun b => ATk τ v b ∧ STY τ v b y) (s := y - 447) 448 (fun t t' q1 q2 q3 q4 p p' => sty_2 p.1 p'.1 p.2 p'.2 (by omega) (by omega))
  omega
theorem TO_5 {L : Nat} {τ : Nat → qS} (hR : RNN L τ) {v x : Nat} (hv : v < 6) (h8 : 8 ≤ x) (h2 : x + 448 ≤ 7 * L + 1) : ctq (TOb τ v) x 448 ≤ 5 := by
  have a := ctq_sp (P := fun b => TOb τ v b ∧ b < x + 448) (x := x) (d := 91) (fun t t' t1 p q lt => TO_sp hR hv (by omega) (by omega) p.1.1 p.1.2.1 q.1 lt) 5
  have s := ctq_sub (P := fun b => TOb τ v b ∧ b < x + 448) (s := x) (k := 448) (k' := 91 * 5) (by omega)
  have m := ctq_mo (P := TOb τ v) (Q := fun b => TOb τ v b ∧ b < x + 448) (s := x) 448 (fun b _ b2 p => ⟨p, b2⟩)
  omega
theorem KE {L s0 : Nat} {τ : Nat → qS} (hR : RNN L τ) {A : Nat → List (Ms × Nat × Nat)} {ρ : Nat → qS × qS × qS} {B : Nat → List (Ms × Nat × Nat) × List (Ms × Nat × Nat) × List (Ms × Nat × Nat)} (h : ANC L s0 τ A ρ B) (h7 : 224 ≤ s0) {y : Nat} (sy : s0 + 448 < y) (yl : y ≤ 7 * L) : (ln (τ y)).length ≤ mqc (A y) + gvc (A y) + 36 + (ctq (AAl τ A 0 y) (y - 447) 448 + ctq (AAl τ A 1 y) (y - 447) 448 + ctq (AAl τ A 2 y) (y - 447) 448 + ctq (AAl τ A 3 y) (y - 447) 448 + ctq (AAl τ A 4 y) (y - 447) 448 + ctq (AAl τ A 5 y) (y - 447) 448) := by
  have k := KCNT hR h.1 (y := y) (by omega) (by omega) yl
  have e : ∀ v : Nat, v < 6 → tkc v (A y) ≤ 6 + ctq (AAl τ A v y) (y - 447) 448 := fun v hv => by
    have a := KEv hR h h7 hv sy yl
    have b := TO_5 hR (v := v) (x := y - 447) hv (by omega) (by omega)
    omega
  have e0 : tkc 0 (A y) ≤ 6 + ctq (AAl τ A 0 y) (y - 447) 448 := e 0 (by omega)
  have e1 : tkc 1 (A y) ≤ 6 + ctq (AAl τ A 1 y) (y - 447) 448 := e 1 (by omega)
  have e2 : tkc 2 (A y) ≤ 6 + ctq (AAl τ A 2 y) (y - 447) 448 := e 2 (by omega)
  have e3 : tkc 3 (A y) ≤ 6 + ctq (AAl τ A 3 y) (y - 447) 448 := e 3 (by omega)
  have e4 : tkc 4 (A y) ≤ 6 + ctq (AAl τ A 4 y) (y - 447) 448 := e 4 (by omega)
  have e5 : tkc 5 (A y) ≤ 6 + ctq (AAl τ A 5 y) (y - 447) 448 := e 5 (by omega)
  omega
-- poor stays poor: E at y is at most E at r and the gains in between
theorem EEy {L s0 : Nat} {τ : Nat → qS} (hR : RNN L τ) {A : Nat → List (Ms × Nat × Nat)} {ρ : Nat → qS × qS × qS} {B : Nat → List (Ms × Nat × Nat) × List (Ms × Nat × Nat) × List (Ms × Nat × Nat)} (h : ANC L s0 τ A ρ B) (h7 : 224 ≤ s0) {v : Nat} (hv : v < 6) {r y : Nat} (sr : s0 + 448 < r) (ry : r ≤ y) (yl : y ≤ 7 * L) : ctq (AAl τ A v y) (y - 447) 448 ≤ ctq (AAl τ A v r) (r - 447) 448 + ctq (GNt τ A ρ B v (r - 448)) r (y - r) := by
  have l := LBS2 hR h hv (s := r - 447) (t := r) (by omega) (by omega) (y - r) (by omega)
  rw [show r + (y - r) = y by omega, show r + 1 - (r - 447) = 448 by omega, show r - 447 - 1 = r - 448 by omega] at l
  have i := ctq_in (P := AAl τ A v y) (x := y - 447) (m := 448) (x' := r - 447) (m' := y + 1 - (r - 447)) (by omega) (by omega)
  omega
theorem POOR {L s0 : Nat} {τ : Nat → qS} (hR : RNN L τ) {A : Nat → List (Ms × Nat × Nat)} {ρ : Nat → qS × qS × qS} {B : Nat → List (Ms × Nat × Nat) × List (Ms × Nat × Nat) × List (Ms × Nat × Nat)} (h : ANC L s0 τ A ρ B) (h7 : 224 ≤ s0) {r y : Nat} (sr : s0 + 448 < r) (ry : r ≤ y) (yl : y ≤ 7 * L) : (ln (τ y)).length ≤ mqc (A y) + gvc (A y) + 36 + (ctq (AAl τ A 0 r) (r - 447) 448 + ctq (AAl τ A 1 r) (r - 447) 448 + ctq (AAl τ A 2 r) (r - 447) 448 + ctq (AAl τ A 3 r) (r - 447) 448 + ctq (AAl τ A 4 r) (r - 447) 448 + ctq (AAl τ A 5 r) (r - 447) 448) + (ctq (GNt τ A ρ B 0 (r - 448)) r (y - r) + ctq (GNt τ A ρ B 1 (r - 448)) r (y - r) + ctq (GNt τ A ρ B 2 (r - 448)) r (y - r) + ctq (GNt τ A ρ B 3 (r - 448)) r (y - r) + ctq (GNt τ A ρ B 4 (r - 448)) r (y - r) + ctq (GNt τ A ρ B 5 (r - 448)) r (y - r)) := by
  have k := KE hR h h7 (y := y) (by omega) yl
  have e0 := EEy hR h h7 (v := 0) (by omega) sr ry yl
  have e1 := EEy hR h h7 (v := 1) (by omega) sr ry yl
  have e2 := EEy hR h h7 (v := 2) (by omega) sr ry yl
  have e3 := EEy hR h h7 (v := 3) (by omega) sr ry yl
  have e4 := EEy hR h h7 (v := 4) (by omega) sr ry yl
  have e5 := EEy hR h h7 (v := 5) (by omega) sr ry yl
  omega

