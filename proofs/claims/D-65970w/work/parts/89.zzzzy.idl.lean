theorem ACT_ka {w : Int} {σ σ' : qS} (hsp : spl σ ≤ 38) (h : ACT w σ σ') (ht : 38 ≤ σ 62 w) (hn : σ' 62 w < 38) : σ' 65 w = 0 := by
  obtain ⟨-, -, -, c⟩ := h
  rcases c with ⟨c0, -⟩ | ⟨c0, -⟩ | ⟨-, c⟩
  · omega
  · omega
  · rcases c with ⟨-, -, f, -⟩ | ⟨-, -, -, -, f, -⟩ | ⟨-, -, -, -, -, -, c, -⟩ | ⟨-, -, -, -, -, c, -⟩ | ⟨-, -, f, -⟩
    · exact f.2.2.1
    · exact f.2.2.1
    · omega
    · omega
    · exact f.2.2.1
def KAt (τ : Nat → qS) (t : Nat) : Prop := t % 7 < 6 ∧ KLt τ (t % 7) t
theorem KA_a {L : Nat} {τ : Nat → qS} (hR : RNN L τ) {t : Nat} (h2 : t < 7 * L) (hk : KAt τ t) : τ (t + 1) 65 ((t % 7 : Nat) : Int) = 0 ∧ τ (t + 1) 62 ((t % 7 : Nat) : Int) < 38 := by
  obtain ⟨h6, -, k2, k3⟩ := hk
  refine ⟨?_, k3⟩
  rcases hR.2 t h2 with ⟨-, s⟩ | ⟨e6, -⟩
  · obtain ⟨σ1, σ2, σ3, r1, r2, r3, a, ⟨-, -, j3, -⟩, -⟩ := s
    have e1 := RD_tk r1 (by omega)
    have e2 := RD_tk r2 (by omega)
    have e3 := RD_tk r3 (by omega)
    exact ACT_ka (spl_b j3.1).2 a (by omega) k3
  · omega
theorem IDLa {L : Nat} {τ : Nat → qS} (hR : RNN L τ) {s k : Nat} (hl : s + k ≤ 7 * L) : ctq (KAt τ) s k + ctq (ASKt τ) s k ≤ smq (idq τ) s k := by
  have a := ctq_2 (P := KAt τ) (Q := ASKt τ) (R := fun t => idq τ t = 1) (s := s) k (fun t t1 t2 => ⟨fun q => by
    have := (KA_a hR (by omega) q).2
    unfold idq
    rw [if_pos q.1, if_neg (by omega)], fun q => by
    have := q.2.1
    unfold idq
    rw [if_pos q.1, if_neg (by omega)], fun q => by
    have a1 := (KA_a hR (by omega) q.1).1
    have a2 := q.2.2.2
    omega⟩)
  have b := ctq_sm' (P := fun t => idq τ t = 1) (f := idq τ) (s := s) k (fun t _ _ e => by omega)
  omega
def rr (σ : qS) (v : Int) : Nat := if 38 ≤ σ 62 v then 1 else 0
def rrs (σ : qS) : Nat := rr σ 0 + rr σ 1 + rr σ 2 + rr σ 3 + rr σ 4 + rr σ 5
theorem rr_b (σ : qS) (v : Int) : rr σ v ≤ 1 := by unfold rr; split <;> omega
theorem rr_t {L : Nat} {τ : Nat → qS} (hR : RNN L τ) {t : Nat} (h2 : t < 7 * L) : rrs (τ t) + gsq τ t ≤ rrs (τ (t + 1)) + @ite Nat (KAt τ t) (Classical.propDecidable _) 1 0 := by
  have o : ∀ v : Int, ((t % 7 : Nat) : Int) ≠ v → 0 ≤ v ∧ v < 6 → rr (τ (t + 1)) v = rr (τ t) v := fun v hv hw => by
    unfold rr
    rw [STP_w (hR.2 t h2) hv hw 62 (by decide)]
  by_cases h6 : t % 7 < 6
  · have w : rr (τ t) ((t % 7 : Nat) : Int) + gsq τ t ≤ rr (τ (t + 1)) ((t % 7 : Nat) : Int) + @ite Nat (KAt τ t) (Classical.propDecidable _) 1 0 := by
      by_cases g : gsq τ t = 1
      · have gs : gq τ t = 1 ∧ τ t 62 ((t % 7 : Nat) : Int) = -1 := by
          apply Classical.byContradiction
          intro n
          unfold gsq at g
          rw [if_neg n] at g
          omega
        have f := gs.1
        unfold gq at f
        rw [if_pos h6] at f
        have f38 := (fe_r f).1
        have e1 : rr (τ t) ((t % 7 : Nat) : Int) = 0 := by unfold rr; exact if_neg (by omega)
        have e2 : rr (τ (t + 1)) ((t % 7 : Nat) : Int) = 1 := by unfold rr; exact if_pos f38
        omega
      · have g0 : gsq τ t = 0 := by
          unfold gsq at g ⊢
          split
          · rename_i c; rw [if_pos c] at g; omega
          · rfl
        by_cases c : 38 ≤ τ t 62 ((t % 7 : Nat) : Int) ∧ τ (t + 1) 62 ((t % 7 : Nat) : Int) < 38
        · rw [if_pos (show KAt τ t from ⟨h6, rfl, c.1, c.2⟩)]
          have := rr_b (τ t) ((t % 7 : Nat) : Int)
          omega
        · have : rr (τ t) ((t % 7 : Nat) : Int) ≤ rr (τ (t + 1)) ((t % 7 : Nat) : Int) := by
            unfold rr
            split
            · rename_i q
              rw [if_pos (by omega)]; exact Nat.le_refl _
            · exact Nat.zero_le _
          omega
    unfold rrs
    rcases (by omega : t % 7 = 0 ∨ t % 7 = 1 ∨ t % 7 = 2 ∨ t % 7 = 3 ∨ t % 7 = 4 ∨ t % 7 = 5) with e | e | e | e | e | e
    · rw [e] at w o
      have o1 := o 1 (by decide) (by decide)
      have o2 := o 2 (by decide) (by decide)
      have o3 := o 3 (by decide) (by decide)
      have o4 := o 4 (by decide) (by decide)
      have o5 := o 5 (by decide) (by decide)
      have w' : rr (τ t) 0 + gsq τ t ≤ rr (τ (t + 1)) 0 + @ite Nat (KAt τ t) (Classical.propDecidable _) 1 0 := w
      omega
    · rw [e] at w o
      have o1 := o 0 (by decide) (by decide)
      have o2 := o 2 (by decide) (by decide)
      have o3 := o 3 (by decide) (by decide)
      have o4 := o 4 (by decide) (by decide)
      have o5 := o 5 (by decide) (by decide)
      have w' : rr (τ t) 1 + gsq τ t ≤ rr (τ (t + 1)) 1 + @ite Nat (KAt τ t) (Classical.propDecidable _) 1 0 := w
      omega
    · rw [e] at w o
      have o1 := o 0 (by decide) (by decide)
      have o2 := o 1 (by decide) (by decide)
      have o3 := o 3 (by decide) (by decide)
      have o4 := o 4 (by decide) (by decide)
      have o5 := o 5 (by decide) (by decide)
      have w' : rr (τ t) 2 + gsq τ t ≤ rr (τ (t + 1)) 2 + @ite Nat (KAt τ t) (Classical.propDecidable _) 1 0 := w
      omega
    · rw [e] at w o
      have o1 := o 0 (by decide) (by decide)
      have o2 := o 1 (by decide) (by decide)
      have o3 := o 2 (by decide) (by decide)
      have o4 := o 4 (by decide) (by decide)
      have o5 := o 5 (by decide) (by decide)
      have w' : rr (τ t) 3 + gsq τ t ≤ rr (τ (t + 1)) 3 + @ite Nat (KAt τ t) (Classical.propDecidable _) 1 0 := w
      omega
    · rw [e] at w o
      have o1 := o 0 (by decide) (by decide)
      have o2 := o 1 (by decide) (by decide)
      have o3 := o 2 (by decide) (by decide)
      have o4 := o 3 (by decide) (by decide)
      have o5 := o 5 (by decide) (by decide)
      have w' : rr (τ t) 4 + gsq τ t ≤ rr (τ (t + 1)) 4 + @ite Nat (KAt τ t) (Classical.propDecidable _) 1 0 := w
      omega
    · rw [e] at w o
      have o1 := o 0 (by decide) (by decide)
      have o2 := o 1 (by decide) (by decide)
      have o3 := o 2 (by decide) (by decide)
      have o4 := o 3 (by decide) (by decide)
      have o5 := o 4 (by decide) (by decide)
      have w' : rr (τ t) 5 + gsq τ t ≤ rr (τ (t + 1)) 5 + @ite Nat (KAt τ t) (Classical.propDecidable _) 1 0 := w
      omega
  · have g0 : gsq τ t = 0 := (q_6 τ (by omega)).2.1
    unfold rrs
    have o0 := o 0 (by omega) (by decide)
    have o1 := o 1 (by omega) (by decide)
    have o2 := o 2 (by omega) (by decide)
    have o3 := o 3 (by omega) (by decide)
    have o4 := o 4 (by omega) (by decide)
    have o5 := o 5 (by omega) (by decide)
    split <;> omega
theorem KLA {L : Nat} {τ : Nat → qS} (hR : RNN L τ) {s : Nat} : ∀ k, s + k ≤ 7 * L → smq (gsq τ) s k + rrs (τ s) ≤ ctq (KAt τ) s k + rrs (τ (s + k))
  | 0, _ => by simp [smq, ctq]
  | k + 1, hl => by
    have ih := KLA hR k (s := s) (by omega)
    have b := rr_t hR (t := s + k) (by omega)
    rw [show s + (k + 1) = s + k + 1 by omega]
    simp only [ctq, smq]
    omega
-- idle ticks pay for starts: one kill and one ASK for each
theorem IDL2 {L : Nat} {τ : Nat → qS} (hR : RNN L τ) {s k : Nat} (h7 : 7 ≤ s) (hl : s + k ≤ 7 * L) : 2 * smq (gsq τ) s k ≤ smq (idq τ) s k + 101 := by
  have a := IDLa hR hl
  have b := KLA hR k hl
  have c := GRA hR k hl
  have d : qAG (τ s) ≤ 95 := by
    have l := run_95 hR (by omega) h7 (by omega : s ≤ 7 * L)
    have : qAG (τ s) ≤ (ln (τ s)).length := List.countP_le_length
    omega
  have e : rrs (τ (s + k)) ≤ 6 := by
    unfold rrs
    have := rr_b (τ (s + k)) 0
    have := rr_b (τ (s + k)) 1
    have := rr_b (τ (s + k)) 2
    have := rr_b (τ (s + k)) 3
    have := rr_b (τ (s + k)) 4
    have := rr_b (τ (s + k)) 5
    omega
  omega

