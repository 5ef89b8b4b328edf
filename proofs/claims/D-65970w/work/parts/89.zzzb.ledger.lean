theorem RD_tr {w : Int} {σ σ' : qS} (h : RD w σ σ') : same w σ σ' ∨ σ' 66 w = 0 := by
  obtain ⟨-, -, -, q⟩ := h
  rcases q with ⟨-, -, q⟩ | ⟨i, x, -, -, q⟩
  · exact Or.inl q
  · rcases q with ⟨-, -, q⟩ | ⟨-, -, -, q⟩ | ⟨-, -, q, -⟩ | ⟨-, -, -, q⟩
    · exact Or.inl q
    · rcases q with ⟨-, -, -, -, q, -⟩ | ⟨-, q⟩
      · exact Or.inr q
      · exact Or.inl q
    · exact Or.inl q
    · rcases q with ⟨-, q⟩ | ⟨-, -, -, q, -⟩
      · exact Or.inl q
      · exact Or.inr q
theorem RD_tr2 {w : Int} {σ σ1 σ' : qS} (h : same w σ σ1 ∨ σ1 66 w = 0) (r : RD w σ1 σ') : same w σ σ' ∨ σ' 66 w = 0 := by
  rcases RD_tr r with q | q
  · rcases h with h | h
    · exact Or.inl (h.tr q)
    · exact Or.inr (by rw [q.2.2.2.1]; exact h)
  · exact Or.inr q
theorem ACT_tr {w : Int} {σ σ' : qS} (hj : jobok σ) (h : ACT w σ σ') (ha : 38 ≤ σ 62 w → 0 ≤ σ 65 w) (h1 : 38 ≤ σ' 62 w) (h2 : σ' 65 w = 1) : σ' 66 w = σ 66 w + 1 ∨ (σ 66 w = 11 ∧ σ' 66 w = 0) := by
  have hsp := spl_b hj
  obtain ⟨-, -, -, c⟩ := h
  rcases c with ⟨-, -, c, -⟩ | ⟨c0, c⟩ | ⟨c0, c⟩
  · omega
  · rcases c with ⟨-, -, c, -⟩ | ⟨-, c, -⟩ | ⟨-, -, c, -⟩ | ⟨-, -, c, -⟩
    · have := c.1; omega
    · have := c.1; omega
    · have := c.1; omega
    · omega
  · rcases c with ⟨-, -, c, -⟩ | ⟨-, -, -, -, c, -⟩ | ⟨-, -, -, c, -, -, -, -, -, -, c'⟩ | ⟨-, -, -, -, -, -, -, -, -, c⟩ | ⟨-, -, c, -⟩
    · have := c.1; omega
    · have := c.1; omega
    · have := ha c0; omega
    · rcases c with ⟨-, c, -⟩ | ⟨c, c', -⟩
      · exact Or.inl c
      · exact Or.inr ⟨c, c'⟩
    · have := c.1; omega
theorem WTK_tr {w : Int} {σ σ' : qS} (hg : 38 ≤ σ 62 w → 1 ≤ σ 65 w) (h : WTK w σ σ') (h1 : 38 ≤ σ' 62 w) (h2 : σ' 65 w = 1) : fto σ σ' w ∨ σ' 66 w = 1 := by
  obtain ⟨σ1, σ2, σ3, r1, r2, r3, a, ⟨j1, j2, j3, j4⟩, -⟩ := h
  have g1 := RD_ra r1 (fun e => by have := hg e; omega)
  have g2 := RD_ra r2 g1
  have g3 := RD_ra r3 g2
  obtain ⟨b1, b2, b3, b4, b5⟩ := ACT_rg j3.1 a g3 h1 h2
  have t := ACT_tr j3.1 a g3 h1 h2
  rcases RD_tr2 (RD_tr2 (RD_tr r1) r2) r3 with s | s
  · left
    have e1 := s.1
    have e3 := s.2.2.1
    have gg := hg (by omega)
    exact ⟨by omega, by omega, by omega, by rw [b4]; exact s.2.1, by rw [b5]; exact s.2.2.2.2, h2⟩
  · right
    omega
def fkq (σ : qS) (w : Int) : Nat := if 38 ≤ σ 62 w ∧ σ 65 w = 1 ∧ σ 66 w = 1 then 1 else 0
def fwq (τ : Nat → qS) (w r0 : Nat) : Nat → Nat
  | 0 => 0
  | n + 1 => fwq τ w r0 n + fkq (τ (7 * (r0 + n) + w + 1)) (w : Int)
theorem fkq_b (σ : qS) (w : Int) : fkq σ w ≤ 1 := by
  unfold fkq
  split <;> omega
theorem fkq_z {L : Nat} {τ : Nat → qS} (h : RNN L τ) {w : Nat} (hw : w < 6) {r0 : Nat} (hr : 146 ≤ r0) {m : Nat} (hm : r0 + m < L) (hl : LKs (τ (7 * (r0 + m) + w + 1)) (w : Int)) {i : Nat} (h1 : i < m) (h2 : m ≤ i + 142) : fkq (τ (7 * (r0 + i) + w + 1)) (w : Int) = 0 ∧ lq τ w (r0 + i) = 0 := by
  obtain ⟨j, ej⟩ : ∃ j, m = i + (j + 1) := ⟨m - i - 1, by omega⟩
  have a := (lk_wait h hw (t := 7 * (r0 + m) + w) (by omega) (by omega) (by omega) hl j (by omega)).2
  have e : 7 * (r0 + m) + w + 1 - 7 * (j + 1) = 7 * (r0 + i) + w + 1 := by omega
  have z := (lk_z h hw hr hm hl h1 (by omega)).2
  refine ⟨?_, z⟩
  obtain ⟨a1, -, -, -, a5, a6, a7, a8⟩ := a
  rw [e] at a1 a5 a6 a7 a8
  unfold wtg at a5
  unfold fkq
  refine if_neg (fun z => ?_)
  obtain ⟨z1, z2, z3⟩ := z
  rw [z2, z3] at a5
  omega
theorem fwq_s {τ : Nat → qS} {w r0 a : Nat} : ∀ d, (∀ i, a ≤ i → i < a + d → fkq (τ (7 * (r0 + i) + w + 1)) (w : Int) = 0 ∧ lq τ w (r0 + i) = 0) → fwq τ w r0 (a + d) = fwq τ w r0 a ∧ lw τ w r0 (a + d) = lw τ w r0 a
  | 0, _ => ⟨rfl, rfl⟩
  | d + 1, h => by
    have ih := fwq_s d (fun i h1 h2 => h i h1 (by omega))
    have z := h (a + d) (by omega) (by omega)
    rw [show a + (d + 1) = a + d + 1 by omega]
    simp only [fwq, lw]
    omega
theorem fwq_b {L : Nat} {τ : Nat → qS} (h : RNN L τ) {w : Nat} (hw : w < 6) {r0 : Nat} (hr : 146 ≤ r0) : ∀ n, r0 + n ≤ L → fwq τ w r0 n + 143 * lw τ w r0 n ≤ n + 143 := fun n => by
  induction n using Nat.strongRecOn with
  | _ n ih =>
    intro hn
    cases n with
    | zero => simp [fwq, lw]
    | succ m =>
      have fb := fkq_b (τ (7 * (r0 + m) + w + 1)) (w : Int)
      by_cases c : LKs (τ (7 * (r0 + m) + w + 1)) (w : Int)
      · have l1 : lq τ w (r0 + m) = 1 := by unfold lq; exact if_pos c
        have f0 : fkq (τ (7 * (r0 + m) + w + 1)) (w : Int) = 0 := by
          unfold fkq
          exact if_neg (fun z => by have := z.2.2; have := c.2.2; omega)
        by_cases c1 : 142 ≤ m
        · obtain ⟨a, ea⟩ : ∃ a, m = a + 142 := ⟨m - 142, by omega⟩
          have z := fwq_s (τ := τ) (w := w) (r0 := r0) (a := a) 142 (fun i h1 h2 => fkq_z h hw hr (m := m) (by omega) c (by omega) (by omega))
          have i1 := ih a (by omega) (by omega)
          simp only [fwq, lw]
          rw [← ea] at z
          omega
        · have z := fwq_s (τ := τ) (w := w) (r0 := r0) (a := 0) m (fun i h1 h2 => fkq_z h hw hr (m := m) (by omega) c (by omega) (by omega))
          rw [Nat.zero_add] at z
          have e0 : fwq τ w r0 0 = 0 := rfl
          have e1 : lw τ w r0 0 = 0 := rfl
          simp only [fwq, lw]
          omega
      · have l1 : lq τ w (r0 + m) = 0 := by unfold lq; exact if_neg c
        have i1 := ih m (by omega) (by omega)
        simp only [fwq, lw]
        omega
theorem ff_fk {L : Nat} {τ : Nat → qS} (h : RNN L τ) {t : Nat} (h1 : 7 ≤ t) (h2 : t < 7 * L) (h6 : t % 7 < 6) : ffq τ t + gsq τ t ≤ fkq (τ (t + 1)) ((t % 7 : Nat) : Int) := by
  have g1 := gq_b τ t
  have g2 := gsq_b τ t
  by_cases c : gq τ t = 1
  · have f1 : 38 ≤ τ (t + 1) 62 ((t % 7 : Nat) : Int) ∧ τ (t + 1) 65 ((t % 7 : Nat) : Int) = 1 := by
      unfold gq at c
      rw [if_pos h6] at c
      unfold fe at c
      by_cases d : 38 ≤ τ (t + 1) 62 ((t % 7 : Nat) : Int) ∧ τ (t + 1) 65 ((t % 7 : Nat) : Int) = 1
      · exact d
      · rw [if_neg d] at c; omega
    have s := h.2 t h2
    rcases s with ⟨hw, s⟩ | ⟨e6, -⟩
    · rcases WTK_tr (run_g1 h h6 h1 (by omega)) s f1.1 f1.2 with z | z
      · have : gtq τ t = 1 := by unfold gtq; exact if_pos ⟨c, z⟩
        unfold ffq
        omega
      · have : fkq (τ (t + 1)) ((t % 7 : Nat) : Int) = 1 := by unfold fkq; exact if_pos ⟨f1.1, f1.2, z⟩
        unfold ffq
        omega
    · omega
  · unfold ffq
    omega
noncomputable def lAq (τ : Nat → qS) (r0 n : Nat) : Nat := lw τ 0 r0 n + lw τ 1 r0 n + lw τ 2 r0 n + lw τ 3 r0 n + lw τ 4 r0 n + lw τ 5 r0 n
theorem q_6 (τ : Nat → qS) {t : Nat} (h : t % 7 = 6) : ffq τ t = 0 ∧ gsq τ t = 0 ∧ gtq τ t = 0 := by
  have c : gq τ t = 0 := by unfold gq; exact if_neg (by omega)
  have g2 := gsq_b τ t
  unfold ffq
  omega
theorem smq_f {L : Nat} {τ : Nat → qS} (h : RNN L τ) {r0 : Nat} (hr : 146 ≤ r0) : ∀ n, r0 + n ≤ L → smq (ffq τ) (7 * r0) (7 * n) + smq (gsq τ) (7 * r0) (7 * n) ≤ fwq τ 0 r0 n + fwq τ 1 r0 n + fwq τ 2 r0 n + fwq τ 3 r0 n + fwq τ 4 r0 n + fwq τ 5 r0 n
  | 0, _ => by simp [smq, fwq]
  | n + 1, hn => by
    have ih := smq_f h hr n (by omega)
    have k : ∀ w, w < 6 → ffq τ (7 * r0 + (7 * n + w)) + gsq τ (7 * r0 + (7 * n + w)) ≤ fkq (τ (7 * (r0 + n) + w + 1)) (w : Int) := fun w hw => by
      have e := ff_fk h (t := 7 * r0 + (7 * n + w)) (by omega) (by omega) (by omega)
      have e1 : (7 * r0 + (7 * n + w)) % 7 = w := by omega
      rw [e1, show 7 * r0 + (7 * n + w) + 1 = 7 * (r0 + n) + w + 1 by omega] at e
      exact e
    have k0 := k 0 (by omega)
    have k1 := k 1 (by omega)
    have k2 := k 2 (by omega)
    have k3 := k 3 (by omega)
    have k4 := k 4 (by omega)
    have k5 := k 5 (by omega)
    have k6 := q_6 τ (t := 7 * r0 + (7 * n + 6)) (by omega)
    rw [show 7 * (n + 1) = 7 * n + 6 + 1 by omega]
    simp only [smq, fwq]
    simp only [Nat.add_zero] at k0 ⊢
    simp only [Int.ofNat_eq_natCast, Int.natCast_zero, Int.cast_ofNat_Int] at *
    omega
theorem LKR {L : Nat} {τ : Nat → qS} (h : RNN L τ) {a2 a5 a6 : Nat → Nat} (hr : RCq L τ a2 a5 a6) {r0 n : Nat} (h0 : 146 ≤ r0) (hn : r0 + n ≤ L) {d : Nat → Nat} (hd : ∀ t, 7 * r0 ≤ t → t < 7 * r0 + 7 * n → d t ≤ 1) (hf : ∀ t, 7 * r0 ≤ t → t < 7 * r0 + 7 * n → d t = 1 → t % 7 < 6 ∧ 3 ≤ cn ((t % 7 : Nat) : Int) (ln (τ t))) : smq (fun t => 3 * d t) (7 * r0) (7 * n) + 143 * lAq τ r0 n ≤ 6 * n + smq (gsq τ) (7 * r0) (7 * n) + 2 * smq (gtq τ) (7 * r0) (7 * n) + smq (fun t => d t * ffq τ t) (7 * r0) (7 * n) + smq (fun t => d t * a2 t) (7 * r0) (7 * n) + 1048 := by
  have a := TDR h hr (s := 7 * r0) (by omega) (k := 7 * n) (by omega) hd hf
  have b := smq_f h h0 n hn
  have c0 := fwq_b h (w := 0) (by omega) h0 n hn
  have c1 := fwq_b h (w := 1) (by omega) h0 n hn
  have c2 := fwq_b h (w := 2) (by omega) h0 n hn
  have c3 := fwq_b h (w := 3) (by omega) h0 n hn
  have c4 := fwq_b h (w := 4) (by omega) h0 n hn
  have c5 := fwq_b h (w := 5) (by omega) h0 n hn
  unfold lAq
  omega

