def STY (τ : Nat → qS) (v a t : Nat) : Prop := ∀ u, a ≤ u → u ≤ t → 38 ≤ τ u 62 v ∧ τ u 62 v = τ a 62 v ∧ cd (τ u) v = cd (τ a) v
def CHG (τ : Nat → qS) (v t : Nat) : Prop := τ t 62 v < 38 ∨ τ t 62 v ≠ τ (t + 1) 62 v ∨ cd (τ t) v ≠ cd (τ (t + 1)) v
theorem WTK_cg {w : Int} {σ σ' : qS} (h : WTK w σ σ') (h' : 38 ≤ σ' 62 w) : fe σ' w = 1 ∨ (σ 62 w = σ' 62 w ∧ cd σ w = cd σ' w) := by
  obtain ⟨σ1, σ2, σ3, r1, r2, r3, a, ⟨j1, j2, j3, j4⟩, -⟩ := h
  have hsp := spl_b j3.1
  have nf : ∀ {P : Prop}, fgo w σ' → P := fun {P} f => by have := f.1; omega
  have ag := RD_ag2 (RD_ag2 (RD_ag r1) r2) r3
  obtain ⟨-, -, -, q⟩ := a
  rcases q with ⟨-, -, q, -⟩ | ⟨q0, q⟩ | ⟨-, q⟩
  · omega
  · rcases q with ⟨-, -, f, -⟩ | ⟨-, f, -⟩ | ⟨-, -, f, -⟩ | ⟨-, -, q, -⟩
    · exact nf f
    · exact nf f
    · exact nf f
    · omega
  · rcases q with ⟨-, -, f, -⟩ | ⟨-, -, -, -, f, -⟩ | ⟨-, -, -, ⟨q1, -⟩, -, -, e1, e2, -, e3, -⟩ | ⟨-, -, -, -, -, -, -, -, q3, -⟩ | ⟨-, -, f, -⟩
    · exact nf f
    · exact nf f
    · rcases ag with s | s
      · right
        refine ⟨by rw [e1, s.1], ?_⟩
        unfold cd
        rw [e2, e3, s.2.1, s.2.2.2.2]
      · exact absurd s q1
    · left
      unfold fe
      exact if_pos ⟨h', q3⟩
    · exact nf f
theorem cg_w {L : Nat} {τ : Nat → qS} (h : RNN L τ) {v : Nat} (hv : v < 6) {t : Nat} (ht : t < 7 * L) (h2 : 38 ≤ τ (t + 1) 62 (v : Int)) (hc : CHG τ v t) : t % 7 = v ∧ fe (τ (t + 1)) (v : Int) = 1 := by
  by_cases c : t % 7 = v
  · refine ⟨c, ?_⟩
    rcases h.2 t ht with ⟨-, hs⟩ | ⟨e, -⟩
    · rw [c] at hs
      rcases WTK_cg hs h2 with f | ⟨f1, f2⟩
      · exact f
      · rcases hc with q | q | q
        · omega
        · exact absurd f1 q
        · exact absurd f2 q
    · omega
  · exfalso
    have hs := h.2 t ht
    have ne : ((t % 7 : Nat) : Int) ≠ (v : Int) := by omega
    have k1 := STP_w hs ne (by omega)
    have et : τ (t + 1) 62 (v : Int) = τ t 62 (v : Int) := k1 _ (by decide)
    have h1 : 38 ≤ τ t 62 (v : Int) := by omega
    have st := (rd_st h (by omega) hv h1).1
    have k2 := fa_s hs (v := (v : Int)) (j := τ t 64 v) (by omega) ne st
    rcases hc with q | q | q
    · omega
    · omega
    · apply q
      unfold cd ps
      rw [k1 75 (by decide), k1 64 (by decide), k2]
theorem ARR {L : Nat} {τ : Nat → qS} (h : RNN L τ) {v : Nat} (hv : v < 6) {s : Nat} : ∀ k, s + k ≤ 7 * L → 38 ≤ τ (s + k) 62 (v : Int) → STY τ v s (s + k) ∨ ∃ a, s < a ∧ a ≤ s + k ∧ STY τ v a (s + k) ∧ CHG τ v (a - 1) ∧ (a - 1) % 7 = v ∧ fe (τ a) (v : Int) = 1
  | 0, _, ht => Or.inl (fun u h1 h2 => by
      have e : u = s := by omega
      subst e
      exact ⟨ht, rfl, rfl⟩)
  | k + 1, hl, ht => by
    by_cases c : CHG τ v (s + k)
    · right
      obtain ⟨c1, c2⟩ := cg_w h hv (t := s + k) (by omega) ht c
      refine ⟨s + (k + 1), by omega, by omega, fun u h1 h2 => ?_, ?_, ?_, c2⟩
      · have e : u = s + (k + 1) := by omega
        subst e
        exact ⟨ht, rfl, rfl⟩
      · rw [show s + (k + 1) - 1 = s + k by omega]; exact c
      · rw [show s + (k + 1) - 1 = s + k by omega]; exact c1
    · unfold CHG at c
      simp only [not_or, Decidable.not_not] at c
      have h1 : 38 ≤ τ (s + k) 62 (v : Int) := by omega
      have ext : ∀ {a}, a ≤ s + k → STY τ v a (s + k) → STY τ v a (s + (k + 1)) := fun {a} ha st u u1 u2 => by
        by_cases e : u = s + (k + 1)
        · subst e
          obtain ⟨q1, q2, q3⟩ := st (s + k) ha (Nat.le_refl _)
          refine ⟨ht, ?_, ?_⟩
          · have := c.2.1
            rw [← q2, this]
            rfl
          · rw [← q3, c.2.2]
            rfl
        · exact st u u1 (by omega)
      rcases ARR h hv k (by omega) h1 with q | ⟨a, a1, a2, a3, a4⟩
      · exact Or.inl (ext (by omega) q)
      · exact Or.inr ⟨a, a1, by omega, ext a2 a3, a4⟩

