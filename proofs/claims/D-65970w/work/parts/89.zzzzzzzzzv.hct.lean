-- HCT: hearings of a window are at most the LACKS sent in it and in the 32 rounds before
theorem t7_run {L : Nat} {τ : Nat → qS} {S : Nat → List Ms} (hS : SNH L τ S) (s : Nat) : ∀ k, s + k ≤ 7 * L → (sns S s k).countP t7 ≤ ctq (LKt τ) s k
  | 0, _ => by simp [sns]
  | k + 1, hk => by
    have ih := t7_run hS s k (by omega)
    obtain ⟨-, -, h1, h2, -⟩ := hS (s + k) (by omega)
    have j := ctq_jn (P := LKt τ) (s := s) k 1
    rw [j]
    simp only [sns, List.countP_append]
    by_cases c : (s + k) % 7 = 6
    · have h3 := (h2 (by omega)).2.2
      omega
    · rcases (h1 (by omega)).2.2 with z | ⟨z1, z2⟩
      · omega
      · have l : LKt τ (s + k) := ⟨by omega, z2⟩
        have e := ctq_pt (P := LKt τ) (s := s + k) (x := s + k) 1 (by omega) (by omega) l
        omega
theorem c7_lk {L : Nat} {τ : Nat → qS} (hR : RNN L τ) {s : Nat} (h2 : s + 224 ≤ 7 * L) : c7 (τ (s + 224)) ≤ ctq (LKt τ) s 224 := by
  obtain ⟨S, hS⟩ := SNH_ex hR
  have o := old_gone hR (SNH_d hS) s 224 h2 (by omega)
  have a := List.Sublist.countP_le (p := t7) o
  have b := t7_run hS s 224 h2
  unfold c7
  omega
theorem HCT {L : Nat} {τ : Nat → qS} (hR : RNN L τ) {s k : Nat} (h1 : 224 ≤ s) (h2 : s + k ≤ 7 * L) : ctq (H7t τ) s k ≤ ctq (LKt τ) (s - 224) (k + 224) := by
  have b := H7B hR (s := s) k h2
  have c := c7_lk hR (s := s - 224) (by omega)
  rw [show s - 224 + 224 = s by omega] at c
  have l := lkc_c τ s k
  have j := ctq_jn (P := LKt τ) (s := s - 224) 224 k
  rw [show s - 224 + 224 = s by omega, show 224 + k = k + 224 by omega] at j
  omega
-- LK_1: one worker sends at most one LACKS in 1001 ticks
theorem LK_1 {L : Nat} {τ : Nat → qS} (hR : RNN L τ) {u s k : Nat} (h1 : 7 * 145 ≤ s) (h2 : s + k ≤ 7 * L) (hk : k ≤ 1001) : ctq (fun t => LKt τ t ∧ t % 7 = u) s k ≤ 1 :=
  ctq_one k (fun t t' a1 a2 b1 b2 p q => by
    rcases Nat.lt_trichotomy t t' with c | c | c
    · have := LK_sp hR (t := t) (t' := t') (by omega) (by omega) p.1 q.1 (by rw [p.2, q.2]) c
      omega
    · exact c
    · have := LK_sp hR (t := t') (t' := t) (by omega) (by omega) q.1 p.1 (by rw [p.2, q.2]) c
      omega)
-- HS6: in 111 rounds at most as many LACKS are heard as there are workers that sent one in these and the 32 rounds before
theorem HS6 {L : Nat} {τ : Nat → qS} (hR : RNN L τ) {s k : Nat} (h1 : 7 * 177 ≤ s) (h2 : s + k ≤ 7 * L) (hk : k ≤ 777) : ctq (H7t τ) s k ≤ ctq (fun t => LKt τ t ∧ t % 7 = 0) (s - 224) (k + 224) + ctq (fun t => LKt τ t ∧ t % 7 = 1) (s - 224) (k + 224) + ctq (fun t => LKt τ t ∧ t % 7 = 2) (s - 224) (k + 224) + ctq (fun t => LKt τ t ∧ t % 7 = 3) (s - 224) (k + 224) + ctq (fun t => LKt τ t ∧ t % 7 = 4) (s - 224) (k + 224) + ctq (fun t => LKt τ t ∧ t % 7 = 5) (s - 224) (k + 224) := by
  have a := HCT hR (s := s) (k := k) (by omega) h2
  have b := ctq_six (P := LKt τ) (s := s - 224) (k := k + 224) (fun t q => q.1)
  omega

