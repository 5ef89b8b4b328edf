theorem RDn_nw {w e : Int} {t : Nat} {A A' : List (Ms × Nat × Nat)} (h : RDn w e t A A') : ∀ x ∈ A', x ∈ A ∨ x.2.1 = t + 1 := by
  intro x hx
  rcases h with ⟨-, e⟩ | ⟨i, y, -, -, c⟩
  · rw [e] at hx; exact Or.inl hx
  · rcases c with ⟨-, e⟩ | ⟨-, -, z, -, -, -, -, -, -, e⟩
    · rw [e] at hx; exact Or.inl ((List.eraseIdx_sublist _ i).subset hx)
    · rw [e] at hx
      rcases List.mem_append.mp hx with c | c
      · exact Or.inl ((List.eraseIdx_sublist _ i).subset ((tlA_sub _).subset c))
      · rw [List.mem_singleton] at c
        subst c
        exact Or.inr rfl
theorem ACn_nw {t : Nat} {A A' : List (Ms × Nat × Nat)} {s : List Ms} (h : ACn t A A' s) : ∀ x ∈ A', x ∈ A ∨ x.2.1 = t + 1 := by
  intro x hx
  rcases h with ⟨e, -⟩ | ⟨z, e, -⟩ | ⟨z, z', e, -⟩
  · rw [e] at hx; exact Or.inl hx
  · rw [e] at hx
    rcases List.mem_append.mp hx with c | c
    · exact Or.inl ((tlA_sub _).subset c)
    · rw [List.mem_singleton] at c
      subst c
      exact Or.inr rfl
  · rw [e] at hx
    rcases List.mem_append.mp hx with c | c
    · rcases List.mem_append.mp ((tlA_sub _).subset c) with c | c
      · exact Or.inl ((tlA_sub _).subset c)
      · rw [List.mem_singleton] at c
        subst c
        exact Or.inr rfl
    · rw [List.mem_singleton] at c
      subst c
      exact Or.inr rfl
-- a letter of the next line is on this line, or it is new
theorem AN_nw {L s0 : Nat} {τ : Nat → qS} (hR : RNN L τ) {A : Nat → List (Ms × Nat × Nat)} {ρ : Nat → qS × qS × qS} {B : Nat → List (Ms × Nat × Nat) × List (Ms × Nat × Nat) × List (Ms × Nat × Nat)} (h : ANC L s0 τ A ρ B) {t : Nat} (h1 : s0 ≤ t) (h2 : t < 7 * L) : ∀ x ∈ A (t + 1), x ∈ A t ∨ x.2.1 = t + 1 := by
  intro x hx
  by_cases h6 : t % 7 < 6
  · obtain ⟨-, -, r1, r2, r3, s, a, -⟩ := h.2 t h1 h2 h6
    rcases ACn_nw a x hx with c | c
    · rcases RDn_nw r3 x c with c | c
      · rcases RDn_nw r2 x c with c | c
        · exact RDn_nw r1 x c
        · exact Or.inr c
      · exact Or.inr c
    · exact Or.inr c
  · rcases h.1.2.2 t h1 h2 with ⟨e, -⟩ | ⟨-, σ1, σ2, A1, A2, -, -, -, -, n1, n2, n3⟩
    · omega
    · rcases HRn_n n3 hx with c | c
      · rcases HRn_n n2 c with c | c
        · exact HRn_n n1 c
        · exact Or.inr c
      · exact Or.inr c
theorem AN_all {L s0 : Nat} {τ : Nat → qS} (hR : RNN L τ) {A : Nat → List (Ms × Nat × Nat)} {ρ : Nat → qS × qS × qS} {B : Nat → List (Ms × Nat × Nat) × List (Ms × Nat × Nat) × List (Ms × Nat × Nat)} (h : ANC L s0 τ A ρ B) {g t : Nat} (h1 : s0 ≤ t) (hg : g ≤ t + 1) (ha : ∀ x ∈ A t, g ≤ x.2.1) : ∀ k, t + k ≤ 7 * L → ∀ x ∈ A (t + k), g ≤ x.2.1
  | 0, _ => ha
  | k + 1, hl => fun x hx => by
    have ih := AN_all hR h h1 hg ha k (by omega)
    rcases AN_nw hR h (t := t + k) (by omega) (by omega) x hx with c | c
    · exact ih x c
    · omega
theorem JV_t {L s0 : Nat} {τ : Nat → qS} (hR : RNN L τ) {A : Nat → List (Ms × Nat × Nat)} {ρ : Nat → qS × qS × qS} {B : Nat → List (Ms × Nat × Nat) × List (Ms × Nat × Nat) × List (Ms × Nat × Nat)} (h : ANC L s0 τ A ρ B) {g t : Nat} {v : Int} (h1 : s0 ≤ t) (h7 : 7 ≤ t) (h2 : t < 7 * L) (hg : g < t + 1) (hq : JVz g (τ 0 31 0) v (A t)) : JVz g (τ 0 31 0) v (A (t + 1)) := by
  have k := ANR_srt h.1 (t - s0) (by omega)
  rw [show s0 + (t - s0) = t by omega] at k
  have k1 : SRT (t + 1) (A t) := ⟨k.1, fun y hy => Nat.le_succ_of_le (k.2 y hy)⟩
  by_cases h6 : t % 7 < 6
  · obtain ⟨-, -, r1, r2, r3, s, a, o⟩ := h.2 t h1 h2 h6
    have w6 : ((t % 7 : Nat) : Int) ≠ 6 := by omega
    have s1 := RDn_srt r1 k1
    have s2 := RDn_srt r2 s1
    have s3 := RDn_srt r3 s2
    exact JV_AC a o hg s3 (JV_RD r3 w6 hg s2 (JV_RD r2 w6 hg s1 (JV_RD r1 w6 hg k1 hq)))
  · rcases h.1.2.2 t h1 h2 with ⟨e, -⟩ | ⟨-, σ1, σ2, A1, A2, r1, r2, r3, ⟨p0, p1, p2, p3⟩, n1, n2, n3⟩
    · omega
    · have e0 : (clk (τ t)) 31 0 = τ 0 31 0 := by
        rw [(clk_x (τ t)).2.1, run_era hR (by omega)]
      have e1 : σ1 31 0 = τ 0 31 0 := by rw [r1.2.1 31 (by decide)]; exact e0
      have e2 : σ2 31 0 = τ 0 31 0 := by rw [r2.2.1 31 (by decide)]; exact e1
      have l0 : (ln (clk (τ t))).length ≤ 95 := by rw [(clk_x (τ t)).1]; exact run_95 hR (by omega) h7 (by omega)
      have l1 := HR_len r1 l0
      have l2 := HR_len r2 l1
      have s1 := HRn_srt n1 k1
      have s2 := HRn_srt n2 s1
      have q1 := JV_HR r1 (by rw [(clk_x (τ t)).1]; exact p0) p1 l0 n1 hg k1 (by rw [e0]; exact hq)
      rw [e0, ← e1] at q1
      have q2 := JV_HR r2 p1 p2 l1 n2 hg s1 q1
      rw [e1, ← e2] at q2
      have q3 := JV_HR r3 p2 p3 l2 n3 hg s2 q2
      rw [e2] at q3
      exact q3
theorem JVR {L s0 : Nat} {τ : Nat → qS} (hR : RNN L τ) {A : Nat → List (Ms × Nat × Nat)} {ρ : Nat → qS × qS × qS} {B : Nat → List (Ms × Nat × Nat) × List (Ms × Nat × Nat) × List (Ms × Nat × Nat)} (h : ANC L s0 τ A ρ B) {g : Nat} {v : Int} (h1 : s0 ≤ g) (h7 : 7 ≤ g) (hq : JVz g (τ 0 31 0) v (A g)) : ∀ k, g + k ≤ 7 * L → JVz g (τ 0 31 0) v (A (g + k))
  | 0, _ => hq
  | k + 1, hl => by
    have ih := JVR hR h h1 h7 hq k (by omega)
    exact JV_t hR h (t := g + k) (by omega) (by omega) (by omega) (by omega) ih
-- v has an ASK or a GIVE on the line at t
def SLT1 (τ : Nat → qS) (A : Nat → List (Ms × Nat × Nat)) (v t : Nat) : Prop := ∃ x ∈ A t, sA (τ 0 31 0) (v : Int) x ∨ sG (v : Int) x
-- TRF: a reduce that ends by a TRAP without a slot on the line: when a GIVE for it is on the line, all letters are younger than the TRAP
theorem TRF {L s0 : Nat} {τ : Nat → qS} (hR : RNN L τ) {A : Nat → List (Ms × Nat × Nat)} {ρ : Nat → qS × qS × qS} {B : Nat → List (Ms × Nat × Nat) × List (Ms × Nat × Nat) × List (Ms × Nat × Nat)} (h : ANC L s0 τ A ρ B) (hs : ∀ t, t ≤ 7 * L → psame (τ 0) (τ t)) {v κ u : Nat} (hv : v < 6) (h7 : 7 ≤ κ) (h1 : s0 ≤ κ) (h2 : κ < 7 * L) (hk : KLt τ v κ) (hm : mapd (τ κ)) (ns : ¬ SLT1 τ A v (κ + 1)) (u1 : κ < u) (u2 : u ≤ 7 * L) {y : Ms × Nat × Nat} (hy : y ∈ A u) (yg : sG (v : Int) y) : ∀ x ∈ A u, κ + 1 ≤ x.2.1 := by
  have tq : TQz (κ + 1) (τ 0 31 0) (A (κ + 1)) := by
    rcases kil_2 hR h hs hv h7 h1 h2 hk with q | q
    · exact absurd hm q
    · exact q
  have j0 : JVz (κ + 1) (τ 0 31 0) (v : Int) (A (κ + 1)) := ⟨tq, fun x hx q => absurd ⟨x, hx, Or.inl q⟩ ns, fun ⟨x, hx, q⟩ => absurd ⟨x, hx, Or.inr q⟩ ns⟩
  have j := JVR hR h (by omega) (by omega) j0 (u - (κ + 1)) (by omega)
  rw [show κ + 1 + (u - (κ + 1)) = u by omega] at j
  exact j.2.2 ⟨y, hy, yg⟩

