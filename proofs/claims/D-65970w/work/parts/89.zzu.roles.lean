theorem lk_one {L : Nat} {τ : Nat → qS} (h : RNN L τ) {w : Nat} (hw : w < 6) {t : Nat} (ht : t % 7 = w) (h1 : 7 * 145 ≤ t) (h2 : t + 1 ≤ 7 * L) (hl : LKs (τ (t + 1)) w) {p s q : Int} (hp : (p, s, q) ≠ plc (τ (t + 1)) w) : ke (τ (t + 1)) w p s q = 0 := by
  refine life h w p s q (by omega) h2 (fun u u1 u2 u3 u4 hz => hp ?_)
  have e : u % 7 = w := by omega
  obtain ⟨j, hj⟩ : ∃ j, u + 7 * j = t := ⟨(t - u) / 7, by omega⟩
  have pl : plc (τ (u + 1)) w = (p, s, q) := by
    unfold plc
    have := hz.1
    rw [hz.2.1, hz.2.2.1, show τ (u + 1) 62 w - 38 = p by omega]
  rw [← pl]
  by_cases c : j = 0
  · subst c
    rw [show u = t by omega]
  · have g := (lk_wait h hw ht h1 h2 hl (j - 1) (by omega)).2
    rw [show j - 1 + 1 = j by omega] at g
    obtain ⟨-, g2, g3, g4, -⟩ := g
    rw [show t + 1 - 7 * j = u + 1 by omega] at g2 g3 g4
    unfold plc
    rw [g2, g3, g4]
theorem asl_le {L : Nat} {τ : Nat → qS} (h : RNN L τ) {v : Nat} (hv : v < 6) {t0 n : Nat} (hl : t0 + n ≤ 7 * L) (hs : SEG τ v t0 n) {Ps : List (Int × Int × Int)} (hP : ∀ p s q, 1 ≤ ke (τ t0) v p s q → (p, s, q) ∈ Ps) : (asl τ v t0 n).length ≤ Ps.length := by
  obtain ⟨i1, i2⟩ := asl_i h hv hl hs n (Nat.le_refl _)
  have sub : ∀ P ∈ asl τ v t0 n, P ∈ Ps := fun P hm => hP P.1 P.2.1 P.2.2 (i2 P hm).2
  have key : ∀ (A B : List (Int × Int × Int)), A.Nodup → (∀ P ∈ A, P ∈ B) → A.length ≤ B.length := fun A => by
    induction A with
    | nil => intro B _ _; exact Nat.zero_le _
    | cons a A ih =>
      intro B hn hm
      have hn' := List.nodup_cons.mp hn
      have ha := hm a (List.mem_cons_self ..)
      have := ih (B.erase a) hn'.2 (fun P hP => by
        have hne : P ≠ a := fun e => hn'.1 (by rw [← e]; exact hP)
        exact (List.mem_erase_of_ne hne).mpr (hm P (List.mem_cons_of_mem _ hP)))
      have e := List.length_erase_of_mem ha
      have pos : 0 < B.length := List.length_pos_of_mem ha
      simp only [List.length_cons]
      omega
  exact key _ _ i1 sub

