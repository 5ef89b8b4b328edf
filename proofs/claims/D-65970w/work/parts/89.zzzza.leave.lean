theorem acy_pl {w : Int} {σ : qS} {A : List (Ms × Nat × Nat)} {y : Ms × Nat × Nat} (h : acy w σ A y) : tpl y.1 = plc σ w ∧ tokb y = true ∧ y ∈ A ∧ asr y.1 = w := by
  obtain ⟨h1, -, h6, -, f1, f2, f3⟩ := h
  have m := hd_mem h1
  refine ⟨?_, (tokb_i y).mpr (Or.inr h6), m.1, ?_⟩
  · unfold tpl plc
    rw [if_neg (by omega), f1, f2, f3]
  · unfold asr
    rw [if_neg (by omega)]
    exact m.2
theorem LEAVE {L s0 : Nat} {τ : Nat → qS} {A : Nat → List (Ms × Nat × Nat)} {ρ : Nat → qS × qS × qS} {B : Nat → List (Ms × Nat × Nat) × List (Ms × Nat × Nat) × List (Ms × Nat × Nat)} (h : ANC L s0 τ A ρ B) {t v : Nat} (h1 : s0 ≤ t) (h2 : t < 7 * L) (hv : v < 6) (ht : t % 7 = v) (hr : 38 ≤ τ t 62 (v : Int)) : τ (t + 1) 62 (v : Int) < 38 ∨ (τ (t + 1) 62 (v : Int) = τ t 62 (v : Int) ∧ cd (τ (t + 1)) (v : Int) = cd (τ t) (v : Int)) ∨ ∃ b, ACC τ A ρ B t b ∧ (s0 < b → plc (τ b) (v : Int) = plc (τ t) (v : Int)) := by
  have h6 : t % 7 < 6 := by omega
  obtain ⟨wd, ⟨p0, p1, p2, p3, p4⟩, q1, q2, q3, q4⟩ := h.2 t h1 h2 h6
  have hA := h.2 t h1 h2 h6
  rw [ht] at wd
  obtain ⟨r1, r2, r3, a, ⟨j1, j2, j3, j4⟩, -⟩ := wd
  have nt : τ t 62 (v : Int) ≠ -1 := by omega
  have n1 := RD_rt r1 nt
  have n2 := RD_rt r2 n1
  have t0 := ANR_tk h.1 (t - s0) (by omega)
  rw [show s0 + (t - s0) = t by omega] at t0
  have tka : ∀ i, i ≤ 3 → TKa s0 τ t (stA A B t i) := fun i => by
    induction i with
    | zero => intro _; exact t0
    | succ i ih => intro q; exact RDn_tk (st_rd h h1 h2 h6 (i := i) (by omega)) (ih (by omega))
  have fin : ∀ {σ : qS} {i : Nat} {y : Ms × Nat × Nat}, i ≤ 3 → acy (v : Int) σ (stA A B t i) y → plc σ (v : Int) = plc (τ t) (v : Int) → (s0 < y.2.2 → plc (τ y.2.2) (v : Int) = plc (τ t) (v : Int)) := fun {σ i y} hi ha hp hb => by
    obtain ⟨e1, e2, e3, e4⟩ := acy_pl ha
    obtain ⟨-, -, -, u, u1, u2, u3, u4, -⟩ := tka i hi y e3 e2 hb
    have uv : u = v := by rw [e4] at u3; omega
    subst uv
    rw [← u4, e1, hp]
  have pls : ∀ {σ : qS}, same (v : Int) (τ t) σ → plc σ (v : Int) = plc (τ t) (v : Int) := fun {σ} s => by
    unfold plc
    rw [s.1, s.2.1, s.2.2.2.2]
  by_cases c : τ (t + 1) 62 (v : Int) < 38
  · exact Or.inl c
  · right
    rcases RD_acc r1 p0 with s | s | ⟨y, s⟩
    · rcases RD_acc r2 p1 with s' | s' | ⟨y, s'⟩
      · rcases RD_acc r3 p2 with s'' | s'' | ⟨y, s''⟩
        · left
          have z := (s.tr s').tr s''
          have e3 := ACT_tk j3.1 a (by omega)
          have nf : ∀ {P : Prop}, fgo (v : Int) (τ (t + 1)) → P := fun {P} f => by have := f.1; omega
          obtain ⟨-, -, -, q⟩ := a
          refine ⟨by rw [← e3, z.1], ?_⟩
          have hsp := spl_b j3.1
          rcases q with ⟨-, -, q, -⟩ | ⟨q0, q⟩ | ⟨-, q⟩
          · omega
          · omega
          · rcases q with ⟨-, -, f, -⟩ | ⟨-, -, -, -, f, -⟩ | ⟨-, -, -, -, -, -, -, e2, -, e4, -⟩ | ⟨-, -, -, -, -, -, e2, e4, -⟩ | ⟨-, -, f, -⟩
            · exact nf f
            · exact nf f
            · unfold cd; rw [e2, e4, z.2.1, z.2.2.2.2]
            · unfold cd; rw [e2, e4, z.2.1, z.2.2.2.2]
            · exact nf f
        · exact absurd s'' n2
        · right
          exact ⟨y.2.2, ⟨h6, y, rfl, Or.inr (Or.inr (by rw [ht]; exact s''))⟩, fin (i := 2) (by omega) s'' (pls (s.tr s'))⟩
      · exact absurd s' n1
      · right
        exact ⟨y.2.2, ⟨h6, y, rfl, Or.inr (Or.inl (by rw [ht]; exact s'))⟩, fin (i := 1) (by omega) s' (pls s)⟩
    · exact absurd s nt
    · right
      exact ⟨y.2.2, ⟨h6, y, rfl, Or.inl (by rw [ht]; exact s)⟩, fin (i := 0) (by omega) s rfl⟩

