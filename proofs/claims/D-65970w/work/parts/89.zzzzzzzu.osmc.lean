-- letters sent in a stretch: three for each master's tick, one for each tick with an own letter, one more for each LACKS
def OWt (τ : Nat → qS) (t : Nat) : Prop := t % 7 < 6 ∧ 1 ≤ ow (τ (t + 1)) ((t % 7 : Nat) : Int)
theorem osm_c (τ : Nat → qS) (s : Nat) : ∀ k, osm false τ s k ≤ 3 * ctq (fun t => t % 7 = 6) s k + ctq (OWt τ) s k + ctq (LKt τ) s k
  | 0 => by simp [osm]
  | k + 1 => by
    have ih := osm_c τ s k
    have j1 := ctq_jn (P := fun t => t % 7 = 6) (s := s) k 1
    have j2 := ctq_jn (P := OWt τ) (s := s) k 1
    have j3 := ctq_jn (P := LKt τ) (s := s) k 1
    rw [j1, j2, j3]
    simp only [osm]
    by_cases c : (s + k) % 7 = 6
    · rw [if_pos c]
      have e3 : mi false = 3 := rfl
      have p := ctq_pt (P := fun t => t % 7 = 6) (s := s + k) (x := s + k) 1 (by omega) (by omega) c
      omega
    · rw [if_neg c]
      have o2 := ow_2 (τ (s + k + 1)) (((s + k) % 7 : Nat) : Int)
      by_cases d : LKs (τ (s + k + 1)) (((s + k) % 7 : Nat) : Int)
      · have p := ctq_pt (P := LKt τ) (s := s + k) (x := s + k) 1 (by omega) (by omega) ⟨by omega, d⟩
        by_cases e : 1 ≤ ow (τ (s + k + 1)) (((s + k) % 7 : Nat) : Int)
        · have q := ctq_pt (P := OWt τ) (s := s + k) (x := s + k) 1 (by omega) (by omega) ⟨by omega, e⟩
          omega
        · omega
      · have o1 := ow_1 d
        by_cases e : 1 ≤ ow (τ (s + k + 1)) (((s + k) % 7 : Nat) : Int)
        · have q := ctq_pt (P := OWt τ) (s := s + k) (x := s + k) 1 (by omega) (by omega) ⟨by omega, e⟩
          omega
        · omega
theorem ctq_m7 {v s : Nat} (hv : v < 7) : ∀ n, ctq (fun t => t % 7 = v) s (7 * n) ≤ n
  | 0 => by simp [ctq]
  | n + 1 => by
    have ih := ctq_m7 (s := s) hv n
    have j := ctq_jn (P := fun t => t % 7 = v) (s := s) (7 * n) 7
    have o := ctq_one (P := fun t => t % 7 = v) (s := s + 7 * n) 7 (fun t t' _ _ _ _ p p' => by
      have p : t % 7 = v := p
      have p' : t' % 7 = v := p'
      omega)
    rw [show 7 * (n + 1) = 7 * n + 7 by omega, j]
    omega
-- the waiter is silent between its samples
theorem lk_sil {L : Nat} {τ : Nat → qS} (hR : RNN L τ) {w : Nat} (hw : w < 6) {t : Nat} (ht : t % 7 = w) (h1 : 7 * 145 ≤ t) (h2 : t + 1 ≤ 7 * L) (hl : LKs (τ (t + 1)) w) {u : Nat} (hu : u % 7 = w) (u1 : u ≤ t) (u2 : t ≤ u + 7 * 142) (hn : ¬ (t - u) % 91 = 0) : ¬ OWt τ u := fun ⟨_, c⟩ => by
  obtain ⟨k, ek⟩ : ∃ k, u + 7 * k = t := ⟨(t - u) / 7, by omega⟩
  obtain ⟨-, v1, -, -, -, v5, v6, v7, v8⟩ := lk_wait hR hw ht h1 h2 hl (k - 1) (by omega)
  have e1 : t + 1 - 7 * k = u + 1 := by omega
  rw [show k - 1 + 1 = k by omega, e1] at v1 v5 v6 v7
  unfold wtg at v5
  rw [hu] at c
  have a2 : 2 ≤ τ (u + 1) 65 (w : Int) := by omega
  rw [ow_0 v1 a2] at c
  omega

