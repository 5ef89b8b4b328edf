def ATk (τ : Nat → qS) (v a : Nat) : Prop := (a - 1) % 7 = v ∧ 1 ≤ a ∧ fe (τ a) (v : Int) = 1 ∧ CHG τ v (a - 1)
def SPk (τ : Nat → qS) (v t : Nat) : Prop := τ t 62 (v : Int) < 38 ∧ 38 ≤ τ (t + 1) 62 (v : Int)
def EDG (τ : Nat → qS) (A : Nat → List (Ms × Nat × Nat)) (ρ : Nat → qS × qS × qS) (B : Nat → List (Ms × Nat × Nat) × List (Ms × Nat × Nat) × List (Ms × Nat × Nat)) (v b a : Nat) : Prop := b < a ∧ ATk τ v a ∧ ∃ t, t % 7 = v ∧ a ≤ t ∧ STY τ v a t ∧ ACC τ A ρ B t b ∧ plc (τ b) (v : Int) = plc (τ a) (v : Int)
theorem fe_r {σ : qS} {w : Int} (h : fe σ w = 1) : 38 ≤ σ 62 w ∧ σ 65 w = 1 := by
  unfold fe at h
  by_cases d : 38 ≤ σ 62 w ∧ σ 65 w = 1
  · exact d
  · rw [if_neg d] at h; omega
theorem plc_cd {σ σ' : qS} {w : Int} (h : plc σ w = plc σ' w) : cd σ w = cd σ' w ∧ σ 62 w = σ' 62 w := by
  unfold plc at h
  have e0 := congrArg (fun q : Int × Int × Int => q.1) h
  have e1 := congrArg (fun q : Int × Int × Int => q.2.1) h
  have e2 := congrArg (fun q : Int × Int × Int => q.2.2) h
  simp only at e0 e1 e2
  unfold cd
  rw [e1, e2]
  exact ⟨rfl, by omega⟩
theorem ctq_pt {P : Nat → Prop} {s x : Nat} : ∀ k, s ≤ x → x < s + k → P x → 1 ≤ ctq P s k
  | 0, h1, h2, _ => by omega
  | k + 1, h1, h2, hp => by
    by_cases c : x < s + k
    · have := ctq_pt k h1 c hp
      simp only [ctq]
      omega
    · have e : x = s + k := by omega
      subst e
      simp only [ctq]
      rw [if_pos hp]
      omega
theorem ctq_jn {P : Nat → Prop} {s : Nat} (k : Nat) : ∀ j, ctq P s (k + j) = ctq P s k + ctq P (s + k) j
  | 0 => by simp [ctq]
  | j + 1 => by
    have ih := ctq_jn (P := P) (s := s) k j
    rw [show k + (j + 1) = k + j + 1 by omega]
    simp only [ctq]
    rw [show s + (k + j) = s + k + j by omega]
    omega
theorem up_x {f : Nat → Int} {b : Nat} : ∀ k, f (b + k) < 38 → ∀ j, 38 ≤ f (b + k + j) → ∃ x, b + k ≤ x ∧ x < b + k + j ∧ f x < 38 ∧ 38 ≤ f (x + 1) := fun k h0 j => by
  induction j with
  | zero => intro h; rw [Nat.add_zero] at h; omega
  | succ j ih =>
    intro h
    by_cases c : 38 ≤ f (b + k + j)
    · obtain ⟨x, x1, x2, x3, x4⟩ := ih c
      exact ⟨x, x1, by omega, x3, x4⟩
    · exact ⟨b + k + j, by omega, by omega, by omega, h⟩
theorem EDG_s {L s0 : Nat} {τ : Nat → qS} (hR : RNN L τ) {A : Nat → List (Ms × Nat × Nat)} {ρ : Nat → qS × qS × qS} {B : Nat → List (Ms × Nat × Nat) × List (Ms × Nat × Nat) × List (Ms × Nat × Nat)} (h : ANC L s0 τ A ρ B) {v : Nat} (hv : v < 6) {b a : Nat} (hb : s0 < b) (hl : a ≤ 7 * L) (he : EDG τ A ρ B v b a) : 1 ≤ ctq (SPk τ v) b (a - b) := by
  obtain ⟨ba, ⟨a1, a2, a3, a4⟩, t, t1, t2, t3, t4, t5⟩ := he
  have ra := fe_r a3
  by_cases c : ∃ x, b ≤ x ∧ x < a ∧ τ x 62 (v : Int) < 38
  · obtain ⟨x, x1, x2, x3⟩ := c
    obtain ⟨k, ek⟩ : ∃ k, x = b + k := ⟨x - b, by omega⟩
    obtain ⟨y, y1, y2, y3, y4⟩ := up_x (f := fun u => τ u 62 (v : Int)) (b := b) k (by rw [← ek]; exact x3) (a - x) (by rw [← ek, show x + (a - x) = a by omega]; exact ra.1)
    exact ctq_pt (a - b) (by omega) (by omega) ⟨y3, y4⟩
  · exfalso
    have sg : SEG τ v b (a - b) := fun u u1 u2 => by
      by_cases e : u = a
      · rw [e]; exact ra.1
      · apply Classical.byContradiction
        intro n
        exact c ⟨u, u1, by omega, by omega⟩
    obtain ⟨p1, p2⟩ := plc_cd t5
    have m1 := cd_run hR hv (t0 := b) (n := a - b) (by omega) sg (a := b) (Nat.le_refl _) (a - 1 - b) (by omega)
    rw [show b + (a - 1 - b) = a - 1 by omega] at m1
    have m2 := cd_t hR hv (t := a - 1) (by omega) (sg (a - 1) (by omega) (by omega)) (by rw [show a - 1 + 1 = a by omega]; exact ra.1)
    rw [show a - 1 + 1 = a by omega] at m2
    rcases a4 with q | q | q
    · have := sg (a - 1) (by omega) (by omega); omega
    · rw [show a - 1 + 1 = a by omega] at q; exact q m2.1.symm
    · rw [show a - 1 + 1 = a by omega] at q
      apply q
      have := m2.2
      omega
def RTk (τ : Nat → qS) (A : Nat → List (Ms × Nat × Nat)) (ρ : Nat → qS × qS × qS) (B : Nat → List (Ms × Nat × Nat) × List (Ms × Nat × Nat) × List (Ms × Nat × Nat)) (v s1 r : Nat) : Prop := ¬ ∃ b, s1 < b ∧ ATk τ v b ∧ EDG τ A ρ B v b r
theorem ROOT {L s0 : Nat} {τ : Nat → qS} (hR : RNN L τ) {A : Nat → List (Ms × Nat × Nat)} {ρ : Nat → qS × qS × qS} {B : Nat → List (Ms × Nat × Nat) × List (Ms × Nat × Nat) × List (Ms × Nat × Nat)} (h : ANC L s0 τ A ρ B) {v : Nat} (hv : v < 6) {s1 Λ : Nat} (hs : s0 ≤ s1) (hL : ∀ t b, s1 < b → t < 7 * L → t % 7 = v → ACC τ A ρ B t b → t ≤ b + Λ) : ∀ a, s1 < a → a < 7 * L → (∀ t, STY τ v a t → t < 7 * L) → ATk τ v a → ∃ r, s1 < r ∧ r ≤ a ∧ ATk τ v r ∧ plc (τ r) (v : Int) = plc (τ a) (v : Int) ∧ RTk τ A ρ B v s1 r ∧ a ≤ r + Λ * ctq (SPk τ v) r (a - r) := fun a => by
  induction a using Nat.strongRecOn with
  | _ a ih =>
    intro h1 h2 h3 ha
    by_cases c : ∃ b, s1 < b ∧ ATk τ v b ∧ EDG τ A ρ B v b a
    · obtain ⟨b, b1, b2, b3⟩ := c
      have e1 := EDG_s hR h hv (by omega) (by omega) b3
      obtain ⟨ba, -, t, t1, t2, t3, t4, t5⟩ := b3
      have tl := h3 t t3
      have li := hL t b b1 tl t1 t4
      have hb3 : ∀ u, STY τ v b u → u < 7 * L := fun u su => by
        apply Classical.byContradiction
        intro n
        have sa := su a (by omega) (by omega)
        have sa' := su (a - 1) (by omega) (by omega)
        obtain ⟨a1, a2, a3, a4⟩ := ha
        rcases a4 with q | q | q
        · omega
        · rw [show a - 1 + 1 = a by omega] at q; exact q (sa'.2.1.trans sa.2.1.symm)
        · rw [show a - 1 + 1 = a by omega] at q; exact q (sa'.2.2.trans sa.2.2.symm)
      obtain ⟨r, r1, r2, r3, r4, r5, r6⟩ := ih b ba b1 (by omega) hb3 b2
      refine ⟨r, r1, by omega, r3, r4.trans t5, r5, ?_⟩
      have jn := ctq_jn (P := SPk τ v) (s := r) (b - r) (a - b)
      rw [show b - r + (a - b) = a - r by omega, show r + (b - r) = b by omega] at jn
      rw [jn, Nat.mul_add]
      have m : Λ * 1 ≤ Λ * ctq (SPk τ v) b (a - b) := Nat.mul_le_mul_left Λ e1
      omega
    · exact ⟨a, h1, Nat.le_refl _, ha, rfl, c, by omega⟩

