theorem HR_sk {σ σ' : qS} (h : HR σ σ') (hx : DXo σ) {k : Int} (hm : σ 33 k ≠ -1) : σ' 33 k ≠ -1 ∨ c7 σ' + 1 ≤ c7 σ := by
  have h' := h
  obtain ⟨-, hk, c⟩ := h
  have same' : σ' 33 = σ 33 → σ' 33 k ≠ -1 := fun e => by rw [e]; exact hm
  rcases c with ⟨-, -, c⟩ | ⟨i, x, c1, c2, c⟩
  · exact Or.inl (same' (c _ (by decide)))
  · rcases c with ⟨-, -, c⟩ | ⟨-, -, c, -⟩ | ⟨e3, k3, -, -, -, c⟩ | ⟨e7, k7, -, -, -, c⟩
    · exact Or.inl (same' (c _ (by decide)))
    · exact Or.inl (same' c)
    · rcases c with ⟨-, -, c⟩ | ⟨-, c, -⟩
      · left
        rw [c k]
        split
        · exact hx x (List.mem_of_getElem? c2) e3 k3
        · exact hm
      · exact Or.inl (same' c)
    · rcases c with ⟨-, -, c, -⟩ | ⟨-, c, -⟩
      · exact Or.inr (HR_e7 h' ⟨i, c1, c2⟩ e7 k7)
      · exact Or.inl (same' c)
theorem sk_st {L : Nat} {τ : Nat → qS} (hR : RNN L τ) {t : Nat} (h2 : t < 7 * L) {k : Int} (hm : τ t 33 k ≠ -1) : τ (t + 1) 33 k ≠ -1 ∨ H7t τ t := by
  obtain ⟨dx, -⟩ := run_dx hR (t := t) (by omega)
  rcases hR.2 t h2 with ⟨h6, s⟩ | ⟨e6, σ1, σ2, r1, r2, r3, -⟩
  · left
    have e : τ (t + 1) 33 = τ t 33 := by
      obtain ⟨σ1, σ2, σ3, r1, r2, r3, a, -⟩ := s
      exact ((a.2.2.1 _ (by decide)).trans (r3.2.2.1 _ (by decide))).trans ((r2.2.2.1 _ (by decide)).trans (r1.2.2.1 _ (by decide)))
    rw [e]
    exact hm
  · obtain ⟨x1, x2, x3, x4, x5⟩ := clk_x (τ t)
    have d0 : DXo (clk (τ t)) := fun x m e k => dx x (by rw [← x1]; exact m) (by rw [← x2]; exact e) k
    have d1 := HR_dx r1 d0
    have d2 := HR_dx r2 d1
    have m0 : (clk (τ t)) 33 k ≠ -1 := by rw [x3]; exact hm
    have a1 := HR_7 r1
    have a2 := HR_7 r2
    have a3 := HR_7 r3
    have e : t % 7 = 6 := by omega
    rcases HR_sk r1 d0 m0 with q | q
    · rcases HR_sk r2 d1 q with q | q
      · rcases HR_sk r3 d2 q with q | q
        · exact Or.inl q
        · exact Or.inr ⟨e, by omega⟩
      · exact Or.inr ⟨e, by omega⟩
    · exact Or.inr ⟨e, by omega⟩
-- a standing kill comes in the round after a master's tick that hears a LACKS
theorem K_h7 {L s0 : Nat} {τ : Nat → qS} (hR : RNN L τ) {A : Nat → List (Ms × Nat × Nat)} {ρ : Nat → qS × qS × qS} {B : Nat → List (Ms × Nat × Nat) × List (Ms × Nat × Nat) × List (Ms × Nat × Nat)} (h : ANC L s0 τ A ρ B) (hs : ∀ t, t ≤ 7 * L → psame (τ 0) (τ t)) {κ : Nat} (h7 : 14 ≤ κ) (h1 : s0 ≤ κ) (h2 : κ < 7 * L) (hk : Kst τ A ρ B κ) : H7t τ (7 * (κ / 7) - 1) := by
  obtain ⟨⟨h6, -, k2, k3⟩, na⟩ := hk
  apply Classical.byContradiction
  intro n7
  have ne := (red_ne hR hs h6 (by omega) (by omega) k2).1
  obtain ⟨⟨r1, r2, r3, a, ⟨j1, j2, j3, j4⟩, -⟩, ⟨p0, p1, p2, -⟩, -⟩ := h.2 κ h1 h2 h6
  have t1 := RD_tk r1 (by omega)
  have t2 := RD_tk r2 (by omega)
  have t3 := RD_tk r3 (by omega)
  have s1 : same ((κ % 7 : Nat) : Int) (τ κ) (ρ κ).1 := by
    rcases RD_acc r1 p0 with q | q | ⟨y, q⟩
    · exact q
    · omega
    · exact absurd ⟨y.2.2, h6, y, rfl, Or.inl q⟩ na
  have s2 : same ((κ % 7 : Nat) : Int) (ρ κ).1 (ρ κ).2.1 := by
    rcases RD_acc r2 p1 with q | q | ⟨y, q⟩
    · exact q
    · omega
    · exact absurd ⟨y.2.2, h6, y, rfl, Or.inr (Or.inl q)⟩ na
  have s3 : same ((κ % 7 : Nat) : Int) (ρ κ).2.1 (ρ κ).2.2 := by
    rcases RD_acc r3 p2 with q | q | ⟨y, q⟩
    · exact q
    · omega
    · exact absurd ⟨y.2.2, h6, y, rfl, Or.inr (Or.inr q)⟩ na
  have es : (ρ κ).2.2 64 ((κ % 7 : Nat) : Int) = τ κ 64 ((κ % 7 : Nat) : Int) := by rw [s3.2.1, s2.2.1, s1.2.1]
  have kk : ∀ k ∈ rdK, (ρ κ).2.2 k = τ κ k := fun k m => ((r3.2.2.1 k m).trans (r2.2.2.1 k m)).trans (r1.2.2.1 k m)
  have esb : (ρ κ).2.2 33 = τ κ 33 := kk _ (by decide)
  have ne3 : (ρ κ).2.2 40 ((ρ κ).2.2 62 ((κ % 7 : Nat) : Int) - 38) ≠ (ρ κ).2.2 31 0 := by rw [kk 40 (by decide), kk 31 (by decide), t3, t2, t1]; exact ne
  have sp : spl (ρ κ).2.2 = spl (τ κ) := (st_c (fun k m => kk k ((by decide : ∀ k ∈ stC, k ∈ rdK) k m))).1
  have hsp := spl_b j3.1
  -- the tick before
  have ev : (κ - 7) % 7 = κ % 7 := by omega
  have kw := run_w hR h6 (t := κ - 7) ev 6 (by omega) (by omega)
  rw [show κ - 7 + 1 + 6 = κ by omega] at kw
  have e1 : spl (τ κ) = spl (τ 0) := (st_c (fun k m => run_st hR κ (by omega) k m)).1
  have e2 : spl (τ (κ - 7 + 1)) = spl (τ 0) := (st_c (fun k m => run_st hR (κ - 7 + 1) (by omega) k m)).1
  have sx := hR.2 (κ - 7) (by omega)
  rw [ev] at sx
  rcases sx with ⟨-, sx⟩ | ⟨e6, -⟩
  · have rd : 38 ≤ τ (κ - 7 + 1) 62 ((κ % 7 : Nat) : Int) := by rw [← kw 62 (by decide)]; exact k2
    have g := (WTK_GR (by omega) sx rd).2.1
    have stl : τ κ 64 ((κ % 7 : Nat) : Int) < spl (τ κ) := by rw [kw 64 (by decide), e1, ← e2]; exact g
    have b0 : τ κ 33 (τ κ 64 ((κ % 7 : Nat) : Int)) = -1 := by
      obtain ⟨-, -, -, c⟩ := a
      rcases c with ⟨c0, -⟩ | ⟨c0, -⟩ | ⟨c0, c⟩
      · omega
      · omega
      · rcases c with ⟨c1, -⟩ | ⟨-, c1, c2, -⟩ | ⟨-, -, -, -, -, -, c1, -⟩ | ⟨-, -, -, -, -, c1, -⟩ | ⟨-, c1, -⟩
        · exact absurd c1 ne3
        · rw [← es, ← esb]; exact c2
        · omega
        · omega
        · omega
    have b1 : τ (κ - 7 + 1) 33 (τ κ 64 ((κ % 7 : Nat) : Int)) ≠ -1 := by
      rw [kw 64 (by decide)]
      obtain ⟨σ1, σ2, σ3, q1, q2, q3, a', ⟨-, -, i3, -⟩, -⟩ := sx
      have hsp' := spl_b i3.1
      have nf : fgo ((κ % 7 : Nat) : Int) (τ (κ - 7 + 1)) → False := fun f => by have := f.1; omega
      obtain ⟨-, -, hk', c⟩ := a'
      rw [hk' 33 (by decide)]
      rcases c with ⟨-, -, c, -⟩ | ⟨c0, c⟩ | ⟨c0, c⟩
      · omega
      · rcases c with ⟨-, -, f, -⟩ | ⟨-, f, -⟩ | ⟨-, -, f, -⟩ | ⟨-, -, f, -⟩
        · exact (nf f).elim
        · exact (nf f).elim
        · exact (nf f).elim
        · omega
      · rcases c with ⟨-, -, f, -⟩ | ⟨-, -, -, -, f, -⟩ | ⟨-, -, c2, -, -, -, -, c3, -⟩ | ⟨-, -, c2, -, -, -, c3, -⟩ | ⟨-, -, f, -⟩
        · exact (nf f).elim
        · exact (nf f).elim
        · rw [c3]; exact c2
        · rw [c3]; exact c2
        · exact (nf f).elim
    have st : ∀ j, j ≤ 6 → τ (κ - 7 + 1 + j) 33 (τ κ 64 ((κ % 7 : Nat) : Int)) ≠ -1 := fun j => by
      induction j with
      | zero => intro _; exact b1
      | succ j ih =>
        intro q
        rcases sk_st hR (t := κ - 7 + 1 + j) (by omega) (ih (by omega)) with c | c
        · exact c
        · have e6 := c.1
          exact absurd (by rw [show 7 * (κ / 7) - 1 = κ - 7 + 1 + j by omega]; exact c) n7
    have := st 6 (Nat.le_refl _)
    rw [show κ - 7 + 1 + 6 = κ by omega] at this
    exact this b0
  · omega
theorem ctq_six {P : Nat → Prop} {s k : Nat} (h6 : ∀ t, P t → t % 7 < 6) : ctq P s k ≤ ctq (fun t => P t ∧ t % 7 = 0) s k + ctq (fun t => P t ∧ t % 7 = 1) s k + ctq (fun t => P t ∧ t % 7 = 2) s k + ctq (fun t => P t ∧ t % 7 = 3) s k + ctq (fun t => P t ∧ t % 7 = 4) s k + ctq (fun t => P t ∧ t % 7 = 5) s k := by
  have o0 := ctq_or (P := P) (Q := fun t => P t ∧ t % 7 = 0) (R := fun t => P t ∧ 0 < t % 7 ∧ t % 7 < 6) (s := s) k (fun t t1 t2 p => by
    have := h6 t p
    by_cases c : t % 7 = 0
    · exact Or.inl ⟨p, c⟩
    · exact Or.inr ⟨p, by omega, by omega⟩)
  have o1 := ctq_or (P := fun t => P t ∧ 0 < t % 7 ∧ t % 7 < 6) (Q := fun t => P t ∧ t % 7 = 1) (R := fun t => P t ∧ 1 < t % 7 ∧ t % 7 < 6) (s := s) k (fun t t1 t2 p => by
    by_cases c : t % 7 = 1
    · exact Or.inl ⟨p.1, c⟩
    · exact Or.inr ⟨p.1, by omega, by omega⟩)
  have o2 := ctq_or (P := fun t => P t ∧ 1 < t % 7 ∧ t % 7 < 6) (Q := fun t => P t ∧ t % 7 = 2) (R := fun t => P t ∧ 2 < t % 7 ∧ t % 7 < 6) (s := s) k (fun t t1 t2 p => by
    by_cases c : t % 7 = 2
    · exact Or.inl ⟨p.1, c⟩
    · exact Or.inr ⟨p.1, by omega, by omega⟩)
  have o3 := ctq_or (P := fun t => P t ∧ 2 < t % 7 ∧ t % 7 < 6) (Q := fun t => P t ∧ t % 7 = 3) (R := fun t => P t ∧ 3 < t % 7 ∧ t % 7 < 6) (s := s) k (fun t t1 t2 p => by
    by_cases c : t % 7 = 3
    · exact Or.inl ⟨p.1, c⟩
    · exact Or.inr ⟨p.1, by omega, by omega⟩)
  have o4 := ctq_or (P := fun t => P t ∧ 3 < t % 7 ∧ t % 7 < 6) (Q := fun t => P t ∧ t % 7 = 4) (R := fun t => P t ∧ 4 < t % 7 ∧ t % 7 < 6) (s := s) k (fun t t1 t2 p => by
    by_cases c : t % 7 = 4
    · exact Or.inl ⟨p.1, c⟩
    · exact Or.inr ⟨p.1, by omega, by omega⟩)
  have o5 := ctq_mo (P := fun t => P t ∧ 4 < t % 7 ∧ t % 7 < 6) (Q := fun t => P t ∧ t % 7 = 5) (s := s) k (fun t t1 t2 p => ⟨p.1, by omega⟩)
  omega
-- workers that are in a LACKS wait when a LACKS is heard
def WHt (τ : Nat → qS) (t : Nat) : Prop := t % 7 < 6 ∧ H7t τ (7 * (t / 7) - 1) ∧ ∃ l, LKt τ l ∧ l % 7 = t % 7 ∧ t ≤ l ∧ l ≤ t + 994
theorem KWH {L s0 : Nat} {τ : Nat → qS} (hR : RNN L τ) {A : Nat → List (Ms × Nat × Nat)} {ρ : Nat → qS × qS × qS} {B : Nat → List (Ms × Nat × Nat) × List (Ms × Nat × Nat) × List (Ms × Nat × Nat)} (h : ANC L s0 τ A ρ B) (hs : ∀ t, t ≤ 7 * L → psame (τ 0) (τ t)) {s k : Nat} (h7 : 14 ≤ s) (h1 : s0 ≤ s) (h2 : s + k + 1002 ≤ 7 * L) (h3 : 7 * 145 ≤ s) : ctq (Kst τ A ρ B) s k + ctq (WHt τ) s k ≤ 6 * ctq (H7t τ) (s - 7) (k + 7) := by
  have a := ctq_2 (P := Kst τ A ρ B) (Q := WHt τ) (R := fun t => t % 7 < 6 ∧ H7t τ (7 * (t / 7) - 1)) (s := s) k (fun t t1 t2 => ⟨fun q => ⟨q.1.1, K_h7 hR h hs (by omega) (by omega) (by omega) q⟩, fun q => ⟨q.1, q.2.1⟩, fun ⟨q, w6, _, l, l1, l2, l3, l4⟩ => by
    have r := q.1.2.2.2
    obtain ⟨d, hd⟩ : ∃ d, l = t + 7 * d := ⟨(l - t) / 7, by omega⟩
    have z : 38 ≤ τ (t + 1) 62 ((t % 7 : Nat) : Int) := by
      by_cases c : d = 0
      · subst c
        rw [show l = t by omega] at l1
        exact l1.2.1
      · have := (lk_wait hR (w := l % 7) l1.1 rfl (by omega) (by omega) l1.2 (d - 1) (by omega)).2.1
        rw [show d - 1 + 1 = d by omega, show l + 1 - 7 * d = t + 1 by omega, l2] at this
        exact this
    omega⟩)
  have b := ctq_six (P := fun t => t % 7 < 6 ∧ H7t τ (7 * (t / 7) - 1)) (s := s) (k := k) (fun t q => q.1)
  have inj : ∀ v, v < 6 → ctq (fun t => (t % 7 < 6 ∧ H7t τ (7 * (t / 7) - 1)) ∧ t % 7 = v) s k ≤ ctq (H7t τ) (s - 7) (k + 7) := fun v hv => ctq_inj (f := fun t => 7 * (t / 7) - 1) (s := s) (a := s - 7) (m := k + 7) k (H7t τ) (fun t t1 t2 q => ⟨by omega, by omega, q.1.2⟩) (fun t t' t1 t2 t1' t2' q q' e => by
    have e' : 7 * (t / 7) - 1 = 7 * (t' / 7) - 1 := e
    have := q.2
    have := q'.2
    omega)
  have i0 := inj 0 (by omega)
  have i1 := inj 1 (by omega)
  have i2 := inj 2 (by omega)
  have i3 := inj 3 (by omega)
  have i4 := inj 4 (by omega)
  have i5 := inj 5 (by omega)
  omega

