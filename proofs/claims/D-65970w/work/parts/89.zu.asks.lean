theorem ask_2 {L : Nat} {τ : Nat → qS} {S : Nat → List Ms} (h : RNN L τ) (hS : SNH L τ S) {v : Nat} (hv : v < 6) {t : Nat} (ht : t % 7 = v) (hl : t + 8 ≤ 7 * L) : (S t).countP t1 + (S (t + 7)).countP t1 ≤ 1 := by
  obtain ⟨-, -, h1, -⟩ := hS t (by omega)
  obtain ⟨-, -, h2, -⟩ := hS (t + 7) (by omega)
  have a1 := (h1 (by omega)).2.1
  have a2 := (h2 (by omega)).2.1
  rw [ht] at a1
  rw [show (t + 7) % 7 = v by omega] at a2
  rcases a1 with a1 | ⟨a1, b1⟩
  · rcases a2 with a2 | ⟨a2, -⟩ <;> omega
  · rcases a2 with a2 | ⟨a2, b2⟩
    · omega
    · exact absurd b2 (ak_sp h hv ht hl b1)
theorem aT_14 {L : Nat} {τ : Nat → qS} {S : Nat → List Ms} (h : RNN L τ) (hS : SNH L τ S) {v : Nat} (hv : v < 6) (s k : Nat) (hk : s + k + 14 ≤ 7 * L) : aT S v s (k + 14) ≤ aT S v s k + 1 := by
  rw [show k + 14 = k + 1 + 1 + 1 + 1 + 1 + 1 + 1 + 1 + 1 + 1 + 1 + 1 + 1 + 1 by omega]
  simp only [aT]
  have two := fun j (hj : j < 7) (e : (s + k + j) % 7 = v) => ask_2 h hS hv (t := s + k + j) e (by omega)
  have hc : (s + k) % 7 = v ∨ (s + k + 1) % 7 = v ∨ (s + k + 2) % 7 = v ∨ (s + k + 3) % 7 = v ∨ (s + k + 4) % 7 = v ∨ (s + k + 5) % 7 = v ∨ (s + k + 6) % 7 = v := by omega
  simp only [Nat.add_assoc, Nat.reduceAdd] at two hc ⊢
  rcases hc with c | c | c | c | c | c | c
  · have e := two 0 (by omega) (by simpa using c)
    simp only [Nat.add_zero, Nat.zero_add] at e
    rw [if_pos c, if_neg (by omega), if_neg (by omega), if_neg (by omega), if_neg (by omega), if_neg (by omega), if_neg (by omega), if_pos (by omega), if_neg (by omega), if_neg (by omega), if_neg (by omega), if_neg (by omega), if_neg (by omega), if_neg (by omega)]
    omega
  · have e := two 1 (by omega) c
    simp only [Nat.reduceAdd] at e
    rw [if_neg (by omega), if_pos c, if_neg (by omega), if_neg (by omega), if_neg (by omega), if_neg (by omega), if_neg (by omega), if_neg (by omega), if_pos (by omega), if_neg (by omega), if_neg (by omega), if_neg (by omega), if_neg (by omega), if_neg (by omega)]
    omega
  · have e := two 2 (by omega) c
    simp only [Nat.reduceAdd] at e
    rw [if_neg (by omega), if_neg (by omega), if_pos c, if_neg (by omega), if_neg (by omega), if_neg (by omega), if_neg (by omega), if_neg (by omega), if_neg (by omega), if_pos (by omega), if_neg (by omega), if_neg (by omega), if_neg (by omega), if_neg (by omega)]
    omega
  · have e := two 3 (by omega) c
    simp only [Nat.reduceAdd] at e
    rw [if_neg (by omega), if_neg (by omega), if_neg (by omega), if_pos c, if_neg (by omega), if_neg (by omega), if_neg (by omega), if_neg (by omega), if_neg (by omega), if_neg (by omega), if_pos (by omega), if_neg (by omega), if_neg (by omega), if_neg (by omega)]
    omega
  · have e := two 4 (by omega) c
    simp only [Nat.reduceAdd] at e
    rw [if_neg (by omega), if_neg (by omega), if_neg (by omega), if_neg (by omega), if_pos c, if_neg (by omega), if_neg (by omega), if_neg (by omega), if_neg (by omega), if_neg (by omega), if_neg (by omega), if_pos (by omega), if_neg (by omega), if_neg (by omega)]
    omega
  · have e := two 5 (by omega) c
    simp only [Nat.reduceAdd] at e
    rw [if_neg (by omega), if_neg (by omega), if_neg (by omega), if_neg (by omega), if_neg (by omega), if_pos c, if_neg (by omega), if_neg (by omega), if_neg (by omega), if_neg (by omega), if_neg (by omega), if_neg (by omega), if_pos (by omega), if_neg (by omega)]
    omega
  · have e := two 6 (by omega) c
    simp only [Nat.reduceAdd] at e
    rw [if_neg (by omega), if_neg (by omega), if_neg (by omega), if_neg (by omega), if_neg (by omega), if_neg (by omega), if_pos c, if_neg (by omega), if_neg (by omega), if_neg (by omega), if_neg (by omega), if_neg (by omega), if_neg (by omega), if_pos (by omega)]
    omega
theorem aT_r {L : Nat} {τ : Nat → qS} {S : Nat → List Ms} (h : RNN L τ) (hS : SNH L τ S) {v : Nat} (hv : v < 6) (s : Nat) : ∀ r, s + 14 * r ≤ 7 * L → aT S v s (14 * r) ≤ r
  | 0, _ => Nat.le_refl _
  | r + 1, hr => by
    have ih := aT_r h hS hv s r (by omega)
    have := aT_14 h hS hv s (14 * r) (by omega)
    rw [show 14 * (r + 1) = 14 * r + 14 by omega]
    omega
theorem aT_m (S : Nat → List Ms) (v s k : Nat) : ∀ j, aT S v s k ≤ aT S v s (k + j)
  | 0 => Nat.le_refl _
  | j + 1 => by
    have := aT_m S v s k j
    rw [show k + (j + 1) = k + j + 1 by omega]
    simp only [aT]
    omega
theorem inb_b (e : Int) (b : Int) : ∀ L : List Ms, (∀ x ∈ L, x.1 = b → t2 x = true ∨ t56 x = true) → cn b L ≤ L.countP (fun x => t2 x && toW b x) + L.countP t56
  | [], _ => by simp [cn]
  | x :: L, h => by
    have ih := inb_b e b L (fun y hy => h y (List.mem_cons_of_mem x hy))
    unfold cn at ih ⊢
    simp only [List.countP_cons]
    by_cases c : toW b x = true
    · have hx : x.1 = b := by unfold toW at c; simpa using c
      rcases h x List.mem_cons_self hx with g | g
      · rw [if_pos c, if_pos (show (t2 x && toW b x) = true by rw [g, c]; rfl)]
        omega
      · rw [if_pos c, if_pos g]
        omega
    · rw [if_neg c]; omega
theorem inb {L : Nat} {τ : Nat → qS} (h : RNN L τ) {t : Nat} (h1 : 224 ≤ t) (h2 : t ≤ 7 * L) {b : Int} (hb : 0 ≤ b ∧ b < 6) : cn b (ln (τ t)) ≤ (ln (τ t)).countP (fun x => t2 x && toW b x) + kA (τ t) := by
  have gs := h.1 t h2
  have i1 := inb_b (τ t 31 0) b (ln (τ t)) (fun x hx e => by
    have hL := (gs.1.2.2.2.2.2.2.2.1 x hx).2 (run_ER h h1 h2 x hx)
    rcases hL with ⟨e6, -⟩ | ⟨-, g⟩
    · omega
    · rcases g with ⟨g, -⟩ | ⟨g, -⟩ | ⟨g, -⟩
      · exact Or.inl (t2_t g)
      · exact Or.inr (by unfold t56; rw [g]; rfl)
      · exact Or.inr (by unfold t56; rw [g]; rfl))
  have i2 := kA_b h h1 h2
  omega

