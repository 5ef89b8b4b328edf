theorem lst_k {f : Nat → Int} {s : Nat} : ∀ d, f (s + d) < 38 → (∀ u, s ≤ u → u ≤ s + d → f u < 38) ∨ ∃ κ, s ≤ κ ∧ κ < s + d ∧ 38 ≤ f κ ∧ f (κ + 1) < 38 ∧ ∀ u, κ < u → u ≤ s + d → f u < 38
  | 0, h => Or.inl fun u u1 u2 => by
    have : u = s + 0 := by omega
    rw [this]; exact h
  | d + 1, h => by
    by_cases c : f (s + d) < 38
    · rcases lst_k d c with a | ⟨κ, k1, k2, k3, k4, k5⟩
      · left
        intro u u1 u2
        by_cases e : u = s + (d + 1)
        · rw [e]; exact h
        · exact a u u1 (by omega)
      · right
        refine ⟨κ, k1, by omega, k3, k4, fun u u1 u2 => ?_⟩
        by_cases e : u = s + (d + 1)
        · rw [e]; exact h
        · exact k5 u u1 (by omega)
    · right
      refine ⟨s + d, by omega, by omega, by omega, h, fun u u1 u2 => ?_⟩
      have : u = s + (d + 1) := by omega
      rw [this]; exact h
-- a start by a pending GIVE: issued before the last kill
def PSt (τ : Nat → qS) (A : Nat → List (Ms × Nat × Nat)) (B : Nat → List (Ms × Nat × Nat) × List (Ms × Nat × Nat) × List (Ms × Nat × Nat)) (v x : Nat) : Prop := x % 7 = v ∧ 38 ≤ τ (x + 1) 62 (v : Int) ∧ ∃ κ i y, κ < x ∧ KLt τ v κ ∧ (∀ u, κ < u → u ≤ x → τ u 62 (v : Int) < 38) ∧ i < 3 ∧ hdA v (stA A B x i) y ∧ xw y.1 0 = 2 ∧ 38 ≤ xw y.1 2 ∧ y.2.1 ≤ κ
theorem STv {L s0 : Nat} {τ : Nat → qS} (hR : RNN L τ) {A : Nat → List (Ms × Nat × Nat)} {ρ : Nat → qS × qS × qS} {B : Nat → List (Ms × Nat × Nat) × List (Ms × Nat × Nat) × List (Ms × Nat × Nat)} (h : ANC L s0 τ A ρ B) {v : Nat} (v6 : v < 6) {s k : Nat} (h1 : s0 + 7 ≤ s) (h2 : s + k ≤ 7 * L) : ctq (fun x => x % 7 = v ∧ gsq τ x = 1) s k ≤ ctq (CEw τ A) s k + ctq (PSt τ A B v) s k + 2 := by
  have fb := FSB h v6 h1 h2
  have stt : ∀ x, (x % 7 = v ∧ gsq τ x = 1) → τ x 62 (v : Int) = -1 ∧ 38 ≤ τ (x + 1) 62 (v : Int) := fun x ⟨xv, g⟩ => by
    have gs : gq τ x = 1 ∧ τ x 62 ((x % 7 : Nat) : Int) = -1 := by
      apply Classical.byContradiction
      intro n
      unfold gsq at g
      rw [if_neg n] at g
      omega
    have f := gs.1
    unfold gq at f
    rw [if_pos (by omega)] at f
    rw [xv] at gs f
    exact ⟨gs.2, (fe_r f).1⟩
  have a := ctq_or (P := fun x => x % 7 = v ∧ gsq τ x = 1) (Q := fun x => (∃ κ, FSt τ A B v κ x) ∨ PSt τ A B v x) (R := fun x => (∀ u, s ≤ u → u ≤ x → τ u 62 (v : Int) < 38) ∧ 38 ≤ τ (x + 1) 62 (v : Int)) (s := s) k (fun x x1 x2 q => by
    obtain ⟨s1, s2⟩ := stt x q
    obtain ⟨d, ed⟩ : ∃ d, x = s + d := ⟨x - s, by omega⟩
    rcases lst_k (f := fun u => τ u 62 (v : Int)) (s := s) d (by show τ (s + d) 62 (v : Int) < 38; rw [← ed]; omega) with p | ⟨κ, k1, k2, k3, k4, k5⟩
    · exact Or.inr ⟨fun u u1 u2 => p u u1 (by omega), s2⟩
    · left
      have kv := tk_off hR v6 (t := κ) (by omega) (Or.inl ⟨k3, k4⟩)
      obtain ⟨i, i1, y, y1, y2, y3⟩ := G1 h (by omega : s0 ≤ x) (by omega) v6 q.1 s1 s2
      by_cases c : κ < y.2.1
      · exact Or.inl ⟨κ, q.1, by omega, ⟨kv, k3, k4⟩, fun u u1 u2 => k5 u u1 (by omega), s2, i, y, i1, y1, y2, by omega, c⟩
      · exact Or.inr ⟨q.1, s2, κ, i, y, by omega, ⟨kv, k3, k4⟩, fun u u1 u2 => k5 u u1 (by omega), i1, y1, y2, by omega, by omega⟩)
  have b := ctq_or (P := fun x => (∃ κ, FSt τ A B v κ x) ∨ PSt τ A B v x) (Q := fun x => ∃ κ, FSt τ A B v κ x) (R := PSt τ A B v) (s := s) k (fun x _ _ q => q)
  have c := ctq_one (P := fun x => (∀ u, s ≤ u → u ≤ x → τ u 62 (v : Int) < 38) ∧ 38 ≤ τ (x + 1) 62 (v : Int)) (s := s) k (fun x x' x1 x2 x1' x2' q q' => by
    apply Classical.byContradiction
    intro n
    rcases Nat.lt_or_gt_of_ne n with e | e
    · have := q'.1 (x + 1) (by omega) (by omega); have := q.2; omega
    · have := q.1 (x' + 1) (by omega) (by omega); have := q'.2; omega)
  omega
theorem gs_six (τ : Nat → qS) (s k : Nat) : smq (gsq τ) s k ≤ ctq (fun x => x % 7 = 0 ∧ gsq τ x = 1) s k + ctq (fun x => x % 7 = 1 ∧ gsq τ x = 1) s k + ctq (fun x => x % 7 = 2 ∧ gsq τ x = 1) s k + ctq (fun x => x % 7 = 3 ∧ gsq τ x = 1) s k + ctq (fun x => x % 7 = 4 ∧ gsq τ x = 1) s k + ctq (fun x => x % 7 = 5 ∧ gsq τ x = 1) s k := by
  induction k with
  | zero => simp [smq]
  | succ k ih =>
    simp only [smq, ctq]
    have b : gsq τ (s + k) ≤ 1 := by
      have := gsq_b τ (s + k)
      have := gq_b τ (s + k)
      omega
    by_cases g : gsq τ (s + k) = 1
    · have h6 : (s + k) % 7 < 6 := by
        apply Classical.byContradiction
        intro n
        have := (q_6 τ (t := s + k) (by omega)).2.1
        omega
      rcases (by omega : (s + k) % 7 = 0 ∨ (s + k) % 7 = 1 ∨ (s + k) % 7 = 2 ∨ (s + k) % 7 = 3 ∨ (s + k) % 7 = 4 ∨ (s + k) % 7 = 5) with e | e | e | e | e | e
      · have p : (s + k) % 7 = 0 ∧ gsq τ (s + k) = 1 := ⟨e, g⟩
        rw [if_pos p]; omega
      · have p : (s + k) % 7 = 1 ∧ gsq τ (s + k) = 1 := ⟨e, g⟩
        rw [if_pos p]; omega
      · have p : (s + k) % 7 = 2 ∧ gsq τ (s + k) = 1 := ⟨e, g⟩
        rw [if_pos p]; omega
      · have p : (s + k) % 7 = 3 ∧ gsq τ (s + k) = 1 := ⟨e, g⟩
        rw [if_pos p]; omega
      · have p : (s + k) % 7 = 4 ∧ gsq τ (s + k) = 1 := ⟨e, g⟩
        rw [if_pos p]; omega
      · have p : (s + k) % 7 = 5 ∧ gsq τ (s + k) = 1 := ⟨e, g⟩
        rw [if_pos p]; omega
    · omega

