-- ticks of LACKS waits: 142 for each LACKS
def WTm (τ : Nat → qS) (E m u : Nat) : Prop := ∃ i, i < m ∧ LKt τ (u + 7 * i) ∧ u + 7 * i < E
theorem WT_m {L : Nat} {τ : Nat → qS} (hR : RNN L τ) {s k : Nat} (h1 : 7 * 145 ≤ s) (h2 : s + 1001 + k ≤ 7 * L) : ∀ m, m ≤ 142 → m * ctq (LKt τ) (s + 1001) k ≤ ctq (WTm τ (s + 1001 + k) m) s (k + 1001)
  | 0, _ => by rw [Nat.zero_mul]; exact Nat.zero_le _
  | m + 1, hm => by
    have ih := WT_m hR (s := s) (k := k) h1 h2 m (by omega)
    have a := ctq_inj (P := LKt τ) (f := fun t => t - 7 * m) (s := s + 1001) (a := s) (m := k + 1001) k (fun u => LKt τ (u + 7 * m) ∧ u + 7 * m < s + 1001 + k) (fun t t1 t2 ht => by
      refine ⟨by omega, by omega, ?_, by omega⟩
      rw [show t - 7 * m + 7 * m = t by omega]
      exact ht) (fun t t' t1 t2 t1' t2' _ _ e => by
      have e' : t - 7 * m = t' - 7 * m := e
      omega)
    have b := ctq_2 (P := WTm τ (s + 1001 + k) m) (Q := fun u => LKt τ (u + 7 * m) ∧ u + 7 * m < s + 1001 + k) (R := WTm τ (s + 1001 + k) (m + 1)) (s := s) (k + 1001) (fun u q1 q2 => ⟨fun ⟨j, j1, j2⟩ => ⟨j, by omega, j2⟩, fun q => ⟨m, by omega, q⟩, fun ⟨⟨j, j1, j2, _⟩, q3, q4⟩ => by
      have sp := LK_sp hR (t := u + 7 * j) (t' := u + 7 * m) (by omega) (by omega) j2 q3 (by omega) (by omega)
      omega⟩)
    rw [Nat.succ_mul]
    omega
theorem WT_N {L : Nat} {τ : Nat → qS} (hR : RNN L τ) {s k : Nat} (h1 : 7 * 145 ≤ s) (h2 : s + 1001 + k ≤ 7 * L) : 142 * ctq (LKt τ) (s + 1001) k ≤ ctq (WTt τ) s (k + 1001) := by
  have a := WT_m hR (s := s) (k := k) h1 h2 142 (Nat.le_refl _)
  have b := ctq_mo (P := WTm τ (s + 1001 + k) 142) (Q := WTt τ) (s := s) (k + 1001) (fun u _ _ ⟨i, i1, i2, _⟩ => by
    have := i2.1
    exact ⟨by omega, u + 7 * i, i2, by omega, by omega, by omega⟩)
  exact Nat.le_trans a b
-- rounds in which somebody is in a LACKS wait
def JGr (τ : Nat → qS) (r : Nat) : Prop := ∃ v, v < 6 ∧ WTt τ (7 * r + v)
theorem WT_6 {τ : Nat → qS} {r0 : Nat} : ∀ n, ctq (WTt τ) (7 * r0) (7 * n) ≤ 6 * ctq (JGr τ) r0 n
  | 0 => by simp [ctq]
  | n + 1 => by
    have ih := WT_6 (τ := τ) (r0 := r0) n
    have j := ctq_jn (P := WTt τ) (s := 7 * r0) (7 * n) 7
    rw [show 7 * (n + 1) = 7 * n + 7 by omega, j]
    rw [show 7 * r0 + 7 * n = 7 * (r0 + n) by omega]
    have j6 := ctq_jn (P := WTt τ) (s := 7 * (r0 + n)) 6 1
    have l6 := ctq_le (P := WTt τ) (s := 7 * (r0 + n)) 6
    have o : ctq (WTt τ) (7 * (r0 + n) + 6) 1 = 0 := ctq_off _ (fun u u1 u2 q => by have := q.1; omega)
    rw [show 6 + 1 = 7 by omega] at j6
    have jj := ctq_jn (P := JGr τ) (s := r0) n 1
    by_cases c : JGr τ (r0 + n)
    · have p := ctq_pt (P := JGr τ) (s := r0 + n) (x := r0 + n) 1 (by omega) (by omega) c
      omega
    · have z : ctq (WTt τ) (7 * (r0 + n)) 6 = 0 := ctq_off _ (fun u u1 u2 q => c ⟨u - 7 * (r0 + n), by omega, by rw [show 7 * (r0 + n) + (u - 7 * (r0 + n)) = u by omega]; exact q⟩)
      omega

