theorem fst_mp {A : Nat → List (Ms × Nat × Nat)} {κ : Nat} : ∀ m c, κ < c → c ≤ κ + m → MPt A c → ∃ c', κ < c' ∧ c' ≤ c ∧ MPt A c' ∧ ∀ u, κ < u → u < c' → ¬ MPt A u
  | 0, c, q1, q2, _ => by omega
  | m + 1, c, q1, q2, q3 => by
    by_cases e : ∃ u, κ < u ∧ u < c ∧ MPt A u
    · obtain ⟨u, u1, u2, u3⟩ := e
      obtain ⟨c', c1, c2, c3⟩ := fst_mp m u u1 (by omega) u3
      exact ⟨c', c1, by omega, c3⟩
    · exact ⟨c, q1, Nat.le_refl _, q3, fun u u1 u2 u3 => e ⟨u, u1, u2, u3⟩⟩
-- a fresh start: by a GIVE that was issued after the last kill
def FSt (τ : Nat → qS) (A : Nat → List (Ms × Nat × Nat)) (B : Nat → List (Ms × Nat × Nat) × List (Ms × Nat × Nat) × List (Ms × Nat × Nat)) (v κ x : Nat) : Prop := x % 7 = v ∧ κ < x ∧ KLt τ v κ ∧ (∀ u, κ < u → u ≤ x → τ u 62 (v : Int) < 38) ∧ 38 ≤ τ (x + 1) 62 (v : Int) ∧ ∃ i y, i < 3 ∧ hdA v (stA A B x i) y ∧ xw y.1 0 = 2 ∧ 38 ≤ xw y.1 2 ∧ κ < y.2.1
theorem FS_c {L s0 : Nat} {τ : Nat → qS} {A : Nat → List (Ms × Nat × Nat)} {ρ : Nat → qS × qS × qS} {B : Nat → List (Ms × Nat × Nat) × List (Ms × Nat × Nat) × List (Ms × Nat × Nat)} (h : ANC L s0 τ A ρ B) {v κ x : Nat} (v6 : v < 6) (k0 : s0 + 7 ≤ κ) (hx : x < 7 * L) (hf : FSt τ A B v κ x) : ∃ c, CEw τ A c ∧ κ < c ∧ c < x := by
  obtain ⟨xv, kx, kl, -, -, i, y, hi, hy, y2, yp, ky⟩ := hf
  have mA := st_gv h (by omega) hx (by omega) i (by omega) y (hd_mem hy).1 y2
  have q := GVs h.1 (x - s0) (by omega) y (by rw [show s0 + (x - s0) = x by omega]; exact mA) y2 (by omega)
  have mp : MPt A (y.2.1 - 1) := ⟨by omega, y, by rw [show y.2.1 - 1 + 1 = y.2.1 by omega]; exact q.2.2, y2, yp, by omega⟩
  have kne : κ ≠ y.2.1 - 1 := fun e => by
    have := kl.1
    omega
  obtain ⟨c, c1, c2, c3, c4⟩ := fst_mp (A := A) (κ := κ) (y.2.1 - 1 - κ) (y.2.1 - 1) (by omega) (by omega) mp
  exact ⟨c, ⟨⟨c3, v, κ, v6, kl, c1, c4⟩, v, κ, v6, by omega, kl, c1, c4⟩, c1, by omega⟩
-- (E): each worker has at most one fresh start for each C-event
theorem FSB {L s0 : Nat} {τ : Nat → qS} {A : Nat → List (Ms × Nat × Nat)} {ρ : Nat → qS × qS × qS} {B : Nat → List (Ms × Nat × Nat) × List (Ms × Nat × Nat) × List (Ms × Nat × Nat)} (h : ANC L s0 τ A ρ B) {v : Nat} (v6 : v < 6) {s k : Nat} (h1 : s0 + 7 ≤ s) (h2 : s + k ≤ 7 * L) : ctq (fun x => ∃ κ, FSt τ A B v κ x) s k ≤ ctq (CEw τ A) s k + 1 := by
  have uq : ∀ {κ κ' x x'}, FSt τ A B v κ x → FSt τ A B v κ' x' → x < x' → x < κ' := fun {κ κ' x x'} hf hf' lt => by
    apply Classical.byContradiction
    intro n
    obtain ⟨-, -, -, -, f1, -⟩ := hf
    obtain ⟨-, -, -, f2, -, -⟩ := hf'
    have := f2 (x + 1) (by omega) (by omega)
    omega
  have a := ctq_or (P := fun x => ∃ κ, FSt τ A B v κ x) (Q := fun x => ∃ κ, s ≤ κ ∧ FSt τ A B v κ x) (R := fun x => ∃ κ, κ < s ∧ FSt τ A B v κ x) (s := s) k (fun x _ _ ⟨κ, q⟩ => by
    by_cases c : s ≤ κ
    · exact Or.inl ⟨κ, c, q⟩
    · exact Or.inr ⟨κ, by omega, q⟩)
  have b := ctq_one (P := fun x => ∃ κ, κ < s ∧ FSt τ A B v κ x) (s := s) k (fun x x' x1 x2 x1' x2' ⟨κ, k1, q⟩ ⟨κ', k1', q'⟩ => by
    apply Classical.byContradiction
    intro n
    rcases Nat.lt_or_gt_of_ne n with c | c
    · have := uq q q' c; omega
    · have := uq q' q c; omega)
  have pick : ∀ x, ∃ c, (∃ κ, s ≤ κ ∧ FSt τ A B v κ x) → x < s + k → ∃ κ, s ≤ κ ∧ FSt τ A B v κ x ∧ CEw τ A c ∧ κ < c ∧ c < x := fun x => by
    by_cases c : (∃ κ, s ≤ κ ∧ FSt τ A B v κ x) ∧ x < s + k
    · obtain ⟨⟨κ, k1, q⟩, xl⟩ := c
      obtain ⟨c, c1, c2, c3⟩ := FS_c h v6 (by omega) (by omega) q
      exact ⟨c, fun _ _ => ⟨κ, k1, q, c1, c2, c3⟩⟩
    · exact ⟨0, fun q r => absurd ⟨q, r⟩ c⟩
  obtain ⟨f, hf⟩ : ∃ f : Nat → Nat, ∀ x, (∃ κ, s ≤ κ ∧ FSt τ A B v κ x) → x < s + k → ∃ κ, s ≤ κ ∧ FSt τ A B v κ x ∧ CEw τ A (f x) ∧ κ < f x ∧ f x < x := ⟨fun x => Classical.choose (pick x), fun x => Classical.choose_spec (pick x)⟩
  have c := ctq_inj (P := fun x => ∃ κ, s ≤ κ ∧ FSt τ A B v κ x) (f := f) (s := s) (a := s) (m := k) k (CEw τ A) (fun x x1 x2 q => by
    obtain ⟨κ, k1, -, k3, k4, k5⟩ := hf x q x2
    exact ⟨by omega, by omega, k3⟩) (fun x x' x1 x2 x1' x2' q q' e => by
    obtain ⟨κ, -, k2, -, k4, k5⟩ := hf x q x2
    obtain ⟨κ', -, k2', -, k4', k5'⟩ := hf x' q' x2'
    apply Classical.byContradiction
    intro n
    rcases Nat.lt_or_gt_of_ne n with c | c
    · have := uq k2 k2' c; omega
    · have := uq k2' k2 c; omega)
  omega

