-- the eleven time-outs of a LACKS wait
theorem XT1 {L : Nat} {τ : Nat → qS} (hR : RNN L τ) {t j : Nat} (h1 : 7 * 145 ≤ t) (h2 : t + 1 ≤ 7 * L) (hl : LKt τ t) (j2 : j ≤ 10) : gtq τ (t - 91 * j) = 1 := by
  obtain ⟨w6, lk⟩ := hl
  have em : (t - 91 * j) % 7 = t % 7 := by omega
  obtain ⟨-, a1, a2, a3, a4, a5, a6, a7, a8⟩ := lk_wait hR (w := t % 7) w6 rfl h1 h2 lk (13 * j) (by omega)
  unfold wtg at a5
  have age13 : τ (t + 1 - 7 * (13 * j + 1)) 65 ((t % 7 : Nat) : Int) = 13 := by omega
  have eq : t + 1 - 7 * (13 * j + 1) = t - 91 * j - 7 + 1 := by omega
  rw [eq] at a1 a2 a3 a4 age13
  have vq : (t - 91 * j - 7) % 7 = t % 7 := by omega
  have k : ∀ k ∈ wK, τ (t - 91 * j) k ((t % 7 : Nat) : Int) = τ (t - 91 * j - 7 + 1) k ((t % 7 : Nat) : Int) := fun k m => by
    have := run_w hR w6 (t := t - 91 * j - 7) vq 6 (by omega) (by omega) k m
    rw [show t - 91 * j - 7 + 1 + 6 = t - 91 * j by omega] at this
    exact this
  have kp : ps (τ (t - 91 * j)) ((t % 7 : Nat) : Int) = ps (τ (t - 91 * j - 7 + 1)) ((t % 7 : Nat) : Int) := by
    have := run_ps hR w6 (t := t - 91 * j - 7) vq (by omega) 6 (by omega) (by omega)
    rw [show t - 91 * j - 7 + 1 + 6 = t - 91 * j by omega] at this
    exact this
  have post : 38 ≤ τ (t - 91 * j + 1) 62 ((t % 7 : Nat) : Int) ∧ τ (t - 91 * j + 1) 62 ((t % 7 : Nat) : Int) = τ (t + 1) 62 ((t % 7 : Nat) : Int) ∧ τ (t - 91 * j + 1) 64 ((t % 7 : Nat) : Int) = τ (t + 1) 64 ((t % 7 : Nat) : Int) ∧ ps (τ (t - 91 * j + 1)) ((t % 7 : Nat) : Int) = ps (τ (t + 1)) ((t % 7 : Nat) : Int) ∧ τ (t - 91 * j + 1) 65 ((t % 7 : Nat) : Int) = 1 := by
    by_cases j0 : j = 0
    · subst j0
      rw [show t - 91 * 0 + 1 = t + 1 by omega]
      exact ⟨lk.1, rfl, rfl, rfl, lk.2.1⟩
    · obtain ⟨-, b1, b2, b3, b4, b5, b6, b7, b8⟩ := lk_wait hR (w := t % 7) w6 rfl h1 h2 lk (13 * j - 1) (by omega)
      rw [show 13 * j - 1 + 1 = 13 * j by omega, show t + 1 - 7 * (13 * j) = t - 91 * j + 1 by omega] at b1 b2 b3 b4 b5 b6 b7 b8
      unfold wtg at b5
      exact ⟨b1, b2, b3, b4, by omega⟩
  obtain ⟨p1, p2, p3, p4, p5⟩ := post
  unfold gtq
  refine if_pos ⟨?_, ?_⟩
  · unfold gq
    rw [if_pos (by omega), em]
    unfold fe
    exact if_pos ⟨p1, p5⟩
  · rw [em]
    refine ⟨?_, ?_, ?_, ?_, ?_, p5⟩
    · rw [k 62 (by decide)]; exact a1
    · rw [k 65 (by decide)]; exact age13
    · rw [k 62 (by decide), p2, a2]
    · rw [k 64 (by decide), p3, a3]
    · rw [kp, p4, a4]
def XTm (τ : Nat → qS) (E m u : Nat) : Prop := ∃ j, j < m ∧ LKt τ (u + 91 * j) ∧ u + 91 * j < E
theorem XTc {L : Nat} {τ : Nat → qS} (hR : RNN L τ) {s k : Nat} (h1 : 7 * 145 ≤ s) (h2 : s + 1001 + k ≤ 7 * L) : ∀ m, m ≤ 11 → m * ctq (LKt τ) (s + 1001) k ≤ ctq (XTm τ (s + 1001 + k) m) s (k + 1001)
  | 0, _ => by rw [Nat.zero_mul]; exact Nat.zero_le _
  | m + 1, hm => by
    have ih := XTc hR (s := s) (k := k) h1 h2 m (by omega)
    have a := ctq_inj (P := LKt τ) (f := fun t => t - 91 * m) (s := s + 1001) (a := s) (m := k + 1001) k (fun u => (LKt τ (u + 91 * m) ∧ u + 91 * m < s + 1001 + k)) (fun t t1 t2 ht => by
      refine ⟨by omega, by omega, ?_, by omega⟩
      rw [show t - 91 * m + 91 * m = t by omega]
      exact ht) (fun t t' t1 t2 t1' t2' _ _ e => by
      have e' : t - 91 * m = t' - 91 * m := e
      omega)
    have b := ctq_2 (P := XTm τ (s + 1001 + k) m) (Q := fun u => LKt τ (u + 91 * m) ∧ u + 91 * m < s + 1001 + k) (R := XTm τ (s + 1001 + k) (m + 1)) (s := s) (k + 1001) (fun u q1 q2 => ⟨fun ⟨j, j1, j2⟩ => ⟨j, by omega, j2⟩, fun q => ⟨m, by omega, q⟩, fun ⟨⟨j, j1, j2, _⟩, q3, q4⟩ => by
      have := LK_sp hR (t := u + 91 * j) (t' := u + 91 * m) (by omega) (by omega) j2 q3 (by omega) (by omega)
      omega⟩)
    rw [Nat.succ_mul]
    omega
theorem TO11 {L : Nat} {τ : Nat → qS} (hR : RNN L τ) {s k : Nat} (h1 : 7 * 290 ≤ s) (h2 : s + 1001 + k ≤ 7 * L) : 11 * ctq (LKt τ) (s + 1001) k ≤ smq (gtq τ) s (k + 1001) := by
  have a := XTc hR (s := s) (k := k) (by omega) h2 11 (Nat.le_refl _)
  have b := ctq_sm' (P := XTm τ (s + 1001 + k) 11) (f := gtq τ) (s := s) (k + 1001) (fun u u1 u2 ⟨j, j1, j2, j3⟩ => by
    have := XT1 hR (t := u + 91 * j) (j := j) (by omega) (by omega) j2 (by omega)
    rw [show u + 91 * j - 91 * j = u by omega] at this
    omega)
  omega

