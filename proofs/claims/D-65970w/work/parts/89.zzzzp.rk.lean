theorem nk_ex {k w : Int} {σ : qS} (h : nk k w σ = 1) : ∃ (i : Nat) (x : Ms), (ln σ).findIdx? (fun m => m.1 == w) = some i ∧ (ln σ)[i]? = some x ∧ xw x 1 = σ 31 0 ∧ xw x 0 = k := by
  apply Classical.byContradiction
  intro n
  unfold nk at h
  rw [if_neg n] at h
  omega
theorem FULL3 {L s0 : Nat} {τ : Nat → qS} (hR : RNN L τ) {A : Nat → List (Ms × Nat × Nat)} {ρ : Nat → qS × qS × qS} {B : Nat → List (Ms × Nat × Nat) × List (Ms × Nat × Nat) × List (Ms × Nat × Nat)} (h : ANC L s0 τ A ρ B) {t : Nat} (h0 : 224 ≤ t) (h1 : s0 ≤ t) (h2 : t < 7 * L) (h6 : t % 7 < 6) (hf : 3 ≤ cn ((t % 7 : Nat) : Int) (ln (τ t))) {i : Nat} (hi : i < 3) : ∃ b, rdk τ A ρ B 2 t i b ∨ rdk τ A ρ B 5 t i b ∨ rdk τ A ρ B 6 t i b := by
  have inv : ∀ i, i ≤ 2 → ER (stQ τ ρ t i) ∧ (ln (stQ τ ρ t i)).length ≤ 95 ∧ 3 ≤ cn ((t % 7 : Nat) : Int) (ln (stQ τ ρ t i)) + i := fun i => by
    induction i with
    | zero => intro _; exact ⟨run_ER hR h0 (by omega), run_95 hR (by omega) (by omega) (by omega), hf⟩
    | succ i ih =>
      intro q
      obtain ⟨a1, a2, a3⟩ := ih (by omega)
      obtain ⟨b1, b2, b3, -⟩ := RD_rf (st_r h h1 h2 rfl h6 (by omega : i < 3)).1 a1 a2
      exact ⟨b1, b2, by omega⟩
  obtain ⟨a1, a2, a3⟩ := inv i (by omega)
  obtain ⟨r, p⟩ := st_r h h1 h2 rfl h6 hi
  obtain ⟨-, -, -, e⟩ := RD_rf r a1 a2
  have e := e (by omega)
  have fin : ∀ k, nk k ((t % 7 : Nat) : Int) (stQ τ ρ t i) = 1 → ∃ b, rdk τ A ρ B k t i b := fun k hk => by
    obtain ⟨j, x, x1, x2, x3, x4⟩ := nk_ex hk
    rw [← p] at x1 x2
    obtain ⟨y, y1, y2⟩ := pr_get x2
    subst y2
    exact ⟨y.2.2, h6, y, rfl, ⟨j, x1, y1⟩, x3, x4⟩
  rcases (by omega : nk 2 ((t % 7 : Nat) : Int) (stQ τ ρ t i) = 1 ∨ nk 5 ((t % 7 : Nat) : Int) (stQ τ ρ t i) = 1 ∨ nk 6 ((t % 7 : Nat) : Int) (stQ τ ρ t i) = 1) with q | q | q
  · obtain ⟨b, hb⟩ := fin 2 q; exact ⟨b, Or.inl hb⟩
  · obtain ⟨b, hb⟩ := fin 5 q; exact ⟨b, Or.inr (Or.inl hb)⟩
  · obtain ⟨b, hb⟩ := fin 6 q; exact ⟨b, Or.inr (Or.inr hb)⟩
def RK (τ : Nat → qS) (A : Nat → List (Ms × Nat × Nat)) (ρ : Nat → qS × qS × qS) (B : Nat → List (Ms × Nat × Nat) × List (Ms × Nat × Nat) × List (Ms × Nat × Nat)) (d : Nat → Prop) (P : Nat → Nat → Prop) (k : Int) (i t : Nat) : Prop := d t ∧ ∃ b, rdk τ A ρ B k t i b ∧ P t b
theorem ctq_add {P Q : Nat → Prop} {s : Nat} (k : Nat) : ctq P s k ≤ ctq (fun t => P t ∧ Q t) s k + ctq (fun t => P t ∧ ¬ Q t) s k := ctq_or k fun t _ _ p => by
  by_cases c : Q t
  · exact Or.inl ⟨p, c⟩
  · exact Or.inr ⟨p, c⟩
-- letters read with a property of their name: at most one read for each name
theorem RKn {L s0 : Nat} {τ : Nat → qS} {A : Nat → List (Ms × Nat × Nat)} {ρ : Nat → qS × qS × qS} {B : Nat → List (Ms × Nat × Nat) × List (Ms × Nat × Nat) × List (Ms × Nat × Nat)} (h : ANC L s0 τ A ρ B) {d : Nat → Prop} {P : Nat → Nat → Prop} {Q : Nat → Prop} {k : Int} (hk : k = 5 ∨ k = 6) {s n a m : Nat} (h1 : s0 ≤ s) (h2 : s + n ≤ 7 * L) (hq : ∀ t i b, s ≤ t → t < s + n → i < 3 → d t → rdk τ A ρ B k t i b → P t b → a ≤ b ∧ b < a + m ∧ s0 < b ∧ Q b) : ctq (RK τ A ρ B d P k 0) s n + ctq (RK τ A ρ B d P k 1) s n + ctq (RK τ A ρ B d P k 2) s n ≤ ctq Q a m := by
  have pick : ∀ i t, ∃ b, RK τ A ρ B d P k i t → rdk τ A ρ B k t i b ∧ P t b := fun i t => by
    by_cases c : RK τ A ρ B d P k i t
    · obtain ⟨-, b, hb⟩ := c; exact ⟨b, fun _ => hb⟩
    · exact ⟨0, fun q => absurd q c⟩
  have one : ∀ i, i < 3 → ∃ f : Nat → Nat, ∀ t, RK τ A ρ B d P k i t → rdk τ A ρ B k t i (f t) ∧ P t (f t) := fun i _ => ⟨fun t => Classical.choose (pick i t), fun t => Classical.choose_spec (pick i t)⟩
  have sub : ∀ i, i < 3 → ctq (RK τ A ρ B d P k i) s n ≤ ctq (fun b => Q b ∧ ∃ t, s ≤ t ∧ t < s + n ∧ rdk τ A ρ B k t i b) a m := fun i hi => by
    obtain ⟨f, hf⟩ := one i hi
    refine ctq_inj (f := f) n _ (fun t t1 t2 ht => ?_) (fun t t' t1 t2 t1' t2' ht ht' e => ?_)
    · obtain ⟨r, p⟩ := hf t ht
      obtain ⟨q1, q2, -, q4⟩ := hq t i (f t) t1 t2 hi ht.1 r p
      exact ⟨q1, q2, q4, t, t1, t2, r⟩
    · obtain ⟨r, p⟩ := hf t ht
      obtain ⟨r', -⟩ := hf t' ht'
      obtain ⟨-, -, q3, -⟩ := hq t i (f t) t1 t2 hi ht.1 r p
      rw [← e] at r'
      exact (rd_once h q3 hk (by omega) (by omega) (by omega) (by omega) hi hi r r').1
  have ex : ∀ i j, i < 3 → j < 3 → i ≠ j → ∀ b, ¬ ((Q b ∧ ∃ t, s ≤ t ∧ t < s + n ∧ rdk τ A ρ B k t i b) ∧ s0 < b ∧ (Q b ∧ ∃ t, s ≤ t ∧ t < s + n ∧ rdk τ A ρ B k t j b)) := fun i j hi hj ne b ⟨⟨_, t, t1, t2, r⟩, q, _, t', t1', t2', r'⟩ => ne (rd_once h q hk (by omega) (by omega) (by omega) (by omega) hi hj r r').2
  have z : ∀ i, i < 3 → ctq (RK τ A ρ B d P k i) s n ≤ ctq (fun b => s0 < b ∧ (Q b ∧ ∃ t, s ≤ t ∧ t < s + n ∧ rdk τ A ρ B k t i b)) a m := fun i hi => by
    obtain ⟨f, hf⟩ := one i hi
    refine ctq_inj (f := f) n _ (fun t t1 t2 ht => ?_) (fun t t' t1 t2 t1' t2' ht ht' e => ?_)
    · obtain ⟨r, p⟩ := hf t ht
      obtain ⟨q1, q2, q3, q4⟩ := hq t i (f t) t1 t2 hi ht.1 r p
      exact ⟨q1, q2, q3, q4, t, t1, t2, r⟩
    · obtain ⟨r, p⟩ := hf t ht
      obtain ⟨r', -⟩ := hf t' ht'
      obtain ⟨-, -, q3, -⟩ := hq t i (f t) t1 t2 hi ht.1 r p
      rw [← e] at r'
      exact (rd_once h q3 hk (by omega) (by omega) (by omega) (by omega) hi hi r r').1
  have z0 := z 0 (by omega)
  have z1 := z 1 (by omega)
  have z2 := z 2 (by omega)
  have j1 := ctq_2 (P := fun b => s0 < b ∧ (Q b ∧ ∃ t, s ≤ t ∧ t < s + n ∧ rdk τ A ρ B k t 0 b)) (Q := fun b => s0 < b ∧ (Q b ∧ ∃ t, s ≤ t ∧ t < s + n ∧ rdk τ A ρ B k t 1 b)) (R := fun b => s0 < b ∧ Q b ∧ ((∃ t, s ≤ t ∧ t < s + n ∧ rdk τ A ρ B k t 0 b) ∨ ∃ t, s ≤ t ∧ t < s + n ∧ rdk τ A ρ B k t 1 b)) (s := a) m (fun b _ _ => ⟨fun q => ⟨q.1, q.2.1, Or.inl q.2.2⟩, fun q => ⟨q.1, q.2.1, Or.inr q.2.2⟩, fun q => ex 0 1 (by omega) (by omega) (by omega) b ⟨q.1.2, q.2⟩⟩)
  have j2 := ctq_2 (P := fun b => s0 < b ∧ Q b ∧ ((∃ t, s ≤ t ∧ t < s + n ∧ rdk τ A ρ B k t 0 b) ∨ ∃ t, s ≤ t ∧ t < s + n ∧ rdk τ A ρ B k t 1 b)) (Q := fun b => s0 < b ∧ (Q b ∧ ∃ t, s ≤ t ∧ t < s + n ∧ rdk τ A ρ B k t 2 b)) (R := Q) (s := a) m (fun b _ _ => ⟨fun q => q.2.1, fun q => q.2.1, fun q => by
    obtain ⟨⟨q0, q1, q2⟩, q3⟩ := q
    rcases q2 with c | c
    · exact ex 0 2 (by omega) (by omega) (by omega) b ⟨⟨q1, c⟩, q3⟩
    · exact ex 1 2 (by omega) (by omega) (by omega) b ⟨⟨q1, c⟩, q3⟩⟩)
  omega

