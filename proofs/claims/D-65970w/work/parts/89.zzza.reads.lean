theorem run_g1 {L : Nat} {τ : Nat → qS} (h : RNN L τ) {w : Nat} (hw : w < 6) {t : Nat} (h1 : 7 ≤ t) (h2 : t ≤ 7 * L) : 38 ≤ τ t 62 (w : Int) → 1 ≤ τ t 65 (w : Int) := by
  obtain ⟨u, j, e, hu, hj⟩ : ∃ u j, t = u + 1 + j ∧ u % 7 = w ∧ j ≤ 6 := by
    by_cases c : w < t % 7
    · exact ⟨7 * (t / 7) + w, t % 7 - w - 1, by omega, by omega, by omega⟩
    · exact ⟨7 * (t / 7) - 7 + w, t % 7 + 6 - w, by omega, by omega, by omega⟩
  have k := run_w h hw hu j hj (by omega)
  have s := h.2 u (by omega)
  rw [hu] at s
  rcases s with ⟨-, s⟩ | ⟨e6, -⟩
  · have g := WTK_GR (by omega) s
    rw [e, k 62 (by decide), k 65 (by decide)]
    exact fun z => (g z).1
  · omega
def gq (τ : Nat → qS) (t : Nat) : Nat := if t % 7 < 6 then fe (τ (t + 1)) ((t % 7 : Nat) : Int) else 0
noncomputable def gsq (τ : Nat → qS) (t : Nat) : Nat := @ite Nat (gq τ t = 1 ∧ τ t 62 ((t % 7 : Nat) : Int) = -1) (Classical.propDecidable _) 1 0
noncomputable def gtq (τ : Nat → qS) (t : Nat) : Nat := @ite Nat (gq τ t = 1 ∧ fto (τ t) (τ (t + 1)) ((t % 7 : Nat) : Int)) (Classical.propDecidable _) 1 0
theorem gq_b (τ : Nat → qS) (t : Nat) : gq τ t ≤ 1 := by
  unfold gq fe
  split
  · split <;> omega
  · omega
theorem gsq_b (τ : Nat → qS) (t : Nat) : gsq τ t + gtq τ t ≤ gq τ t := by
  unfold gsq gtq
  by_cases c : gq τ t = 1
  · by_cases d : τ t 62 ((t % 7 : Nat) : Int) = -1
    · rw [if_pos ⟨c, d⟩, if_neg (fun e => by have := e.2.1; omega)]
      omega
    · rw [if_neg (fun e => d e.2)]
      split <;> omega
  · rw [if_neg (fun e => c e.1), if_neg (fun e => c e.1)]
    omega
def RCq (L : Nat) (τ : Nat → qS) (a2 a5 a6 : Nat → Nat) : Prop := ∀ t, 224 ≤ t → t < 7 * L → zF (τ (t + 1)) + a5 t ≤ zF (τ t) + gq τ t ∧ zP (τ (t + 1)) + a6 t ≤ zP (τ t) + a5 t ∧ a2 t + a5 t + a6 t ≤ 3 ∧ (t % 7 < 6 → 3 ≤ cn ((t % 7 : Nat) : Int) (ln (τ t)) → a2 t + a5 t + a6 t = 3) ∧ (gq τ t = 1 → gsq τ t = 1 ∨ gtq τ t = 1 ∨ 1 ≤ a6 t)
theorem RCq_ex {L : Nat} {τ : Nat → qS} (h : RNN L τ) : ∃ a2 a5 a6 : Nat → Nat, RCq L τ a2 a5 a6 := by
  have key : ∀ t, ∃ a : Nat × Nat × Nat, 224 ≤ t → t < 7 * L → zF (τ (t + 1)) + a.2.1 ≤ zF (τ t) + gq τ t ∧ zP (τ (t + 1)) + a.2.2 ≤ zP (τ t) + a.2.1 ∧ a.1 + a.2.1 + a.2.2 ≤ 3 ∧ (t % 7 < 6 → 3 ≤ cn ((t % 7 : Nat) : Int) (ln (τ t)) → a.1 + a.2.1 + a.2.2 = 3) ∧ (gq τ t = 1 → gsq τ t = 1 ∨ gtq τ t = 1 ∨ 1 ≤ a.2.2) := fun t => by
    by_cases c : 224 ≤ t ∧ t < 7 * L
    · have s := h.2 t c.2
      rcases s with ⟨hw, s⟩ | ⟨e6, s⟩
      · have n6 : t % 7 < 6 := by omega
        have eq : gq τ t = fe (τ (t + 1)) ((t % 7 : Nat) : Int) := by unfold gq; exact if_pos n6
        obtain ⟨a2, a5, a6, b1, b2, b3, b4, b5⟩ := WTK_rc (run_g1 h n6 (by omega) (by omega)) (run_ER h c.1 (by omega)) (run_95 h (by omega) (by omega) (by omega)) s
        refine ⟨(a2, a5, a6), fun _ _ => ⟨by rw [eq]; exact b1, b2, b3, fun _ => b4, fun e => ?_⟩⟩
        rcases b5 (by rw [← eq]; exact e) with ⟨z, -⟩ | z | z
        · left; unfold gsq; exact if_pos ⟨e, z⟩
        · exact Or.inr (Or.inr z)
        · right; left; unfold gtq; exact if_pos ⟨e, z⟩
      · have n6 : ¬ t % 7 < 6 := by omega
        have eq : gq τ t = 0 := by unfold gq; exact if_neg n6
        have m := M_rc s
        exact ⟨(0, 0, 0), fun _ _ => ⟨by rw [eq]; exact m.1, m.2, Nat.zero_le 3, fun e => absurd e n6, fun e => by omega⟩⟩
    · exact ⟨(0, 0, 0), fun h1 h2 => absurd ⟨h1, h2⟩ c⟩
  have key' := fun t => Classical.choose_spec (key t)
  exact ⟨fun t => (Classical.choose (key t)).1, fun t => (Classical.choose (key t)).2.1, fun t => (Classical.choose (key t)).2.2, fun t h1 h2 => key' t h1 h2⟩
def smq (g : Nat → Nat) (s : Nat) : Nat → Nat
  | 0 => 0
  | k + 1 => smq g s k + g (s + k)
theorem smq_le {f g : Nat → Nat} {s : Nat} : ∀ k, (∀ i, i < k → f (s + i) ≤ g (s + i)) → smq f s k ≤ smq g s k
  | 0, _ => Nat.le_refl _
  | k + 1, h => by
    have a := smq_le k (fun i hi => h i (by omega))
    have b := h k (by omega)
    simp only [smq]; omega
theorem smq_add {f g : Nat → Nat} {s : Nat} : ∀ k, smq (fun t => f t + g t) s k = smq f s k + smq g s k
  | 0 => rfl
  | k + 1 => by
    have a := smq_add (f := f) (g := g) (s := s) k
    simp only [smq]; omega
theorem RCq_s {L : Nat} {τ : Nat → qS} {a2 a5 a6 : Nat → Nat} (h : RCq L τ a2 a5 a6) {s : Nat} (hs : 224 ≤ s) : ∀ k, s + k ≤ 7 * L → zF (τ (s + k)) + smq a5 s k ≤ zF (τ s) + smq (gq τ) s k ∧ zP (τ (s + k)) + smq a6 s k ≤ zP (τ s) + smq a5 s k
  | 0, _ => by simp only [smq]; exact ⟨Nat.le_refl _, Nat.le_refl _⟩
  | k + 1, hk => by
    obtain ⟨i1, i2⟩ := RCq_s h hs k (by omega)
    obtain ⟨b1, b2, -⟩ := h (s + k) (by omega) (by omega)
    simp only [smq]
    rw [show s + (k + 1) = s + k + 1 by omega]
    omega
theorem zF_b {L : Nat} {τ : Nat → qS} (h : RNN L τ) {t : Nat} (h1 : 7 ≤ t) (h2 : t ≤ 7 * L) : zF (τ t) + zP (τ t) ≤ 95 := by
  have a := run_95 h (by omega) h1 h2
  have b : ∀ M : List Ms, M.countP t5 + M.countP t6 ≤ M.length := fun M => by
    induction M with
    | nil => simp
    | cons x M ih =>
      rw [List.countP_cons, List.countP_cons, List.length_cons]
      by_cases c : t5 x = true
      · have d : t6 x = false := by
          have := (t5_i x).mp c
          unfold t6
          rw [this]; rfl
        rw [c, d]
        simp
        omega
      · rw [if_neg c]
        split <;> omega
  have := b (ln (τ t))
  unfold zF zP
  omega
noncomputable def ffq (τ : Nat → qS) (t : Nat) : Nat := gq τ t - gsq τ t - gtq τ t
theorem TDR {L : Nat} {τ : Nat → qS} (h : RNN L τ) {a2 a5 a6 : Nat → Nat} (hr : RCq L τ a2 a5 a6) {s : Nat} (hs : 224 ≤ s) {d : Nat → Nat} {k : Nat} (hk : s + k ≤ 7 * L) (hd : ∀ t, s ≤ t → t < s + k → d t ≤ 1) (hf : ∀ t, s ≤ t → t < s + k → d t = 1 → t % 7 < 6 ∧ 3 ≤ cn ((t % 7 : Nat) : Int) (ln (τ t))) : smq (fun t => 3 * d t) s k ≤ smq (ffq τ) s k + 2 * smq (gsq τ) s k + 2 * smq (gtq τ) s k + smq (fun t => d t * ffq τ t) s k + smq (fun t => d t * a2 t) s k + 190 := by
  obtain ⟨p1, p2⟩ := RCq_s hr hs k hk
  have b := zF_b h (t := s) (by omega) (by omega)
  have e : ∀ i, i < k → (fun t => 3 * d t + ffq τ t) (s + i) ≤ (fun t => (a5 t + a6 t) + (d t * ffq τ t + d t * a2 t)) (s + i) := fun i hi => by
    obtain ⟨-, -, -, r4, r5⟩ := hr (s + i) (by omega) (by omega)
    have g1 := gq_b τ (s + i)
    have g2 := gsq_b τ (s + i)
    have d1 := hd (s + i) (by omega) (by omega)
    show 3 * d (s + i) + ffq τ (s + i) ≤ (a5 (s + i) + a6 (s + i)) + (d (s + i) * ffq τ (s + i) + d (s + i) * a2 (s + i))
    by_cases c : d (s + i) = 1
    · obtain ⟨f1, f2⟩ := hf (s + i) (by omega) (by omega) c
      have := r4 f1 f2
      rw [c]; omega
    · have c0 : d (s + i) = 0 := by omega
      rw [c0]
      by_cases q : ffq τ (s + i) = 0
      · omega
      · unfold ffq at q ⊢
        have := r5 (by omega)
        rcases this with z | z | z
        · omega
        · omega
        · omega
  have e1 := smq_le (f := fun t => 3 * d t + ffq τ t) (g := fun t => (a5 t + a6 t) + (d t * ffq τ t + d t * a2 t)) (s := s) k e
  rw [smq_add, smq_add, smq_add, smq_add] at e1
  have e2 : smq (gq τ) s k = smq (fun t => (ffq τ t + gsq τ t) + gtq τ t) s k := by
    have : gq τ = fun t => (ffq τ t + gsq τ t) + gtq τ t := funext (fun t => by
      have := gsq_b τ t
      unfold ffq; omega)
    rw [← this]
  rw [smq_add, smq_add] at e2
  omega

