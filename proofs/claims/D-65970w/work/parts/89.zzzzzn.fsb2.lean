-- a fresh start uses a C-event at which its worker is idle
theorem FSB2 {L s0 : Nat} {τ : Nat → qS} {A : Nat → List (Ms × Nat × Nat)} {ρ : Nat → qS × qS × qS} {B : Nat → List (Ms × Nat × Nat) × List (Ms × Nat × Nat) × List (Ms × Nat × Nat)} (h : ANC L s0 τ A ρ B) {v : Nat} (v6 : v < 6) {s k : Nat} (h1 : s0 + 7 ≤ s) (h2 : s + k ≤ 7 * L) : ctq (fun x => ∃ κ, FSt τ A B v κ x) s k ≤ ctq (fun c => CEw τ A c ∧ τ c 62 (v : Int) < 38) s k + 1 := by
  have uq : ∀ {κ κ' x x'}, FSt τ A B v κ x → FSt τ A B v κ' x' → x < x' → x < κ' := fun {κ κ' x x'} hf hf' lt => by
    apply Classical.byContradiction
    intro n
    obtain ⟨-, -, -, -, f1, -⟩ := hf
    obtain ⟨-, -, -, f2, -, -⟩ := hf'
    have := f2 (x + 1) (by omega) (by omega)
    omega
  have a := ctq_or (P := fun x => ∃ κ, FSt τ A B v κ x) (Q := fun x => ∃ κ, s ≤ κ ∧ FSt τ A B v κ x) (R := fun x => ∃ κ, κ < s ∧ FSt τ A B v κ x) (s := s) k (fun x _ _ ⟨κ, q⟩ => by
    by_cases c : s ≤ κ
    · exact Or.inl ⟨κ, c, q⟩
    · exact Or.inr ⟨κ, by omega, q⟩)
  have b := ctq_one (P := fun x => ∃ κ, κ < s ∧ FSt τ A B v κ x) (s := s) k (fun x x' x1 x2 x1' x2' ⟨κ, k1, q⟩ ⟨κ', k1', q'⟩ => by
    apply Classical.byContradiction
    intro n
    rcases Nat.lt_or_gt_of_ne n with c | c
    · have := uq q q' c; omega
    · have := uq q' q c; omega)
  have pick : ∀ x, ∃ c, (∃ κ, s ≤ κ ∧ FSt τ A B v κ x) → x < s + k → ∃ κ, s ≤ κ ∧ FSt τ A B v κ x ∧ CEw τ A c ∧ κ < c ∧ c < x := fun x => by
    by_cases c : (∃ κ, s ≤ κ ∧ FSt τ A B v κ x) ∧ x < s + k
    · obtain ⟨⟨κ, k1, q⟩, xl⟩ := c
      obtain ⟨c, c1, c2, c3⟩ := FS_c h v6 (by omega) (by omega) q
      exact ⟨c, fun _ _ => ⟨κ, k1, q, c1, c2, c3⟩⟩
    · exact ⟨0, fun q r => absurd ⟨q, r⟩ c⟩
  obtain ⟨f, hf⟩ : ∃ f : Nat → Nat, ∀ x, (∃ κ, s ≤ κ ∧ FSt τ A B v κ x) → x < s + k → ∃ κ, s ≤ κ ∧ FSt τ A B v κ x ∧ CEw τ A (f x) ∧ κ < f x ∧ f x < x := ⟨fun x => Classical.choose (pick x), fun x => Classical.choose_spec (pick x)⟩
  have c := ctq_inj (P := fun x => ∃ κ, s ≤ κ ∧ FSt τ A B v κ x) (f := f) (s := s) (a := s) (m := k) k (fun c => CEw τ A c ∧ τ c 62 (v : Int) < 38) (fun x x1 x2 q => by
    obtain ⟨κ, k1, k2, k3, k4, k5⟩ := hf x q x2
    obtain ⟨-, -, -, f2, -, -⟩ := k2
    exact ⟨by omega, by omega, k3, f2 (f x) k4 (by omega)⟩) (fun x x' x1 x2 x1' x2' q q' e => by
    obtain ⟨κ, -, k2, -, k4, k5⟩ := hf x q x2
    obtain ⟨κ', -, k2', -, k4', k5'⟩ := hf x' q' x2'
    apply Classical.byContradiction
    intro n
    rcases Nat.lt_or_gt_of_ne n with c | c
    · have := uq k2 k2' c; omega
    · have := uq k2' k2 c; omega)
  omega
theorem STv2 {L s0 : Nat} {τ : Nat → qS} (hR : RNN L τ) {A : Nat → List (Ms × Nat × Nat)} {ρ : Nat → qS × qS × qS} {B : Nat → List (Ms × Nat × Nat) × List (Ms × Nat × Nat) × List (Ms × Nat × Nat)} (h : ANC L s0 τ A ρ B) {v : Nat} (v6 : v < 6) {s k : Nat} (h1 : s0 + 7 ≤ s) (h2 : s + k ≤ 7 * L) : ctq (fun x => x % 7 = v ∧ gsq τ x = 1) s k ≤ ctq (fun c => CEw τ A c ∧ τ c 62 (v : Int) < 38) s k + ctq (PSt τ A B v) s k + 2 := by
  have fb := FSB2 h v6 h1 h2
  have stt : ∀ x, (x % 7 = v ∧ gsq τ x = 1) → τ x 62 (v : Int) = -1 ∧ 38 ≤ τ (x + 1) 62 (v : Int) := fun x ⟨xv, g⟩ => by
    have gs : gq τ x = 1 ∧ τ x 62 ((x % 7 : Nat) : Int) = -1 := by
      apply Classical.byContradiction
      intro n
      unfold gsq at g
      rw [if_neg n] at g
      omega
    have f := gs.1
    unfold gq at f
    rw [if_pos (by omega)] at f
    rw [xv] at gs f
    exact ⟨gs.2, (fe_r f).1⟩
  have a := ctq_or (P := fun x => x % 7 = v ∧ gsq τ x = 1) (Q := fun x => (∃ κ, FSt τ A B v κ x) ∨ PSt τ A B v x) (R := fun x => (∀ u, s ≤ u → u ≤ x → τ u 62 (v : Int) < 38) ∧ 38 ≤ τ (x + 1) 62 (v : Int)) (s := s) k (fun x x1 x2 q => by
    obtain ⟨s1, s2⟩ := stt x q
    obtain ⟨d, ed⟩ : ∃ d, x = s + d := ⟨x - s, by omega⟩
    rcases lst_k (f := fun u => τ u 62 (v : Int)) (s := s) d (by show τ (s + d) 62 (v : Int) < 38; rw [← ed]; omega) with p | ⟨κ, k1, k2, k3, k4, k5⟩
    · exact Or.inr ⟨fun u u1 u2 => p u u1 (by omega), s2⟩
    · left
      have kv := tk_off hR v6 (t := κ) (by omega) (Or.inl ⟨k3, k4⟩)
      obtain ⟨i, i1, y, y1, y2, y3⟩ := G1 h (by omega : s0 ≤ x) (by omega) v6 q.1 s1 s2
      by_cases c : κ < y.2.1
      · exact Or.inl ⟨κ, q.1, by omega, ⟨kv, k3, k4⟩, fun u u1 u2 => k5 u u1 (by omega), s2, i, y, i1, y1, y2, by omega, c⟩
      · exact Or.inr ⟨q.1, s2, κ, i, y, by omega, ⟨kv, k3, k4⟩, fun u u1 u2 => k5 u u1 (by omega), i1, y1, y2, by omega, by omega⟩)
  have b := ctq_or (P := fun x => (∃ κ, FSt τ A B v κ x) ∨ PSt τ A B v x) (Q := fun x => ∃ κ, FSt τ A B v κ x) (R := PSt τ A B v) (s := s) k (fun x _ _ q => q)
  have c := ctq_one (P := fun x => (∀ u, s ≤ u → u ≤ x → τ u 62 (v : Int) < 38) ∧ 38 ≤ τ (x + 1) 62 (v : Int)) (s := s) k (fun x x' x1 x2 x1' x2' q q' => by
    apply Classical.byContradiction
    intro n
    rcases Nat.lt_or_gt_of_ne n with e | e
    · have := q'.1 (x + 1) (by omega) (by omega); have := q.2; omega
    · have := q.1 (x' + 1) (by omega) (by omega); have := q'.2; omega)
  omega
-- a worker in a LACKS wait is a reduce all the time
theorem LK_red {L : Nat} {τ : Nat → qS} (hR : RNN L τ) {t c : Nat} (h1 : 7 * 145 ≤ t) (h2 : t + 1 ≤ 7 * L) (hl : LKt τ t) (c1 : t ≤ c + 1000) (c2 : c ≤ t + 1) : 38 ≤ τ c 62 ((t % 7 : Nat) : Int) := by
  obtain ⟨w6, lk⟩ := hl
  by_cases e : c = t + 1
  · rw [e]; exact lk.1
  · obtain ⟨j, r, ej, hr⟩ : ∃ j r, c = t + 1 - 7 * (j + 1) + r ∧ r ≤ 6 ∧ j ≤ 142 := ⟨(t - c) / 7, 6 - (t - c) % 7, by omega, by omega, by omega⟩
    obtain ⟨-, a1, -⟩ := lk_wait hR (w := t % 7) w6 rfl h1 h2 lk j hr.2
    have vq : (t - 7 * (j + 1)) % 7 = t % 7 := by omega
    have k := run_w hR w6 (t := t - 7 * (j + 1)) vq r hr.1 (by omega) 62 (by decide)
    rw [show t - 7 * (j + 1) + 1 + r = c by omega, show t - 7 * (j + 1) + 1 = t + 1 - 7 * (j + 1) by omega] at k
    rw [k]; exact a1

