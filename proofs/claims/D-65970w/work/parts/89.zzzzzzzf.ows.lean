theorem sg_tk {L : Nat} {τ : Nat → qS} (h : RNN L τ) {v : Nat} (hv : v < 6) {t0 n : Nat} (hl : t0 + n ≤ 7 * L) (hs : SEG τ v t0 n) : ∀ k, k ≤ n → τ (t0 + k) 62 (v : Int) = τ t0 62 (v : Int)
  | 0, _ => rfl
  | k + 1, hk => by
    have ih := sg_tk h hv hl hs k (by omega)
    have a := (cd_t h hv (t := t0 + k) (by omega) (hs _ (by omega) (by omega)) (hs (t0 + k + 1) (by omega) (by omega))).1
    rw [show t0 + (k + 1) = t0 + k + 1 by omega, a, ih]
-- an own token that is on its way at time s: its worker stands where it was born
theorem ow_at {L s0 : Nat} {τ : Nat → qS} (hR : RNN L τ) {A : Nat → List (Ms × Nat × Nat)} {ρ : Nat → qS × qS × qS} {B : Nat → List (Ms × Nat × Nat) × List (Ms × Nat × Nat) × List (Ms × Nat × Nat)} (h : ANC L s0 τ A ρ B) {b t s : Nat} (hb : s0 < b) (q1 : b ≤ s) (q2 : s ≤ t) (h2 : t < 7 * L) (ha : ACC τ A ρ B t b) (hs : SEG τ (t % 7) b (t - b)) : plc (τ b) ((t % 7 : Nat) : Int) = plc (τ s) ((t % 7 : Nat) : Int) := by
  have v6 := ha.1
  obtain ⟨bt, o⟩ := OWNP hR h hb (by omega) h2 ha hs
  have c1 := cd_run hR v6 (t0 := b) (n := t - b) (by omega) hs (a := b) (by omega) (s - b) (by omega)
  have c2 := cd_run hR v6 (t0 := b) (n := t - b) (by omega) hs (a := s) (by omega) (t - s) (by omega)
  rw [show b + (s - b) = s by omega] at c1
  rw [show s + (t - s) = t by omega] at c2
  have k := sg_tk hR v6 (t0 := b) (n := t - b) (by omega) hs (s - b) (by omega)
  rw [show b + (s - b) = s by omega] at k
  exact plc_of hR v6 (by omega) (by omega) (hs b (by omega) (by omega)) (hs s (by omega) (by omega)) k.symm (by omega)
theorem OW_s {L s0 : Nat} {τ : Nat → qS} (hR : RNN L τ) {A : Nat → List (Ms × Nat × Nat)} {ρ : Nat → qS × qS × qS} {B : Nat → List (Ms × Nat × Nat) × List (Ms × Nat × Nat) × List (Ms × Nat × Nat)} (h : ANC L s0 τ A ρ B) {b t b' t' s : Nat} (hb : s0 < b) (hb' : s0 < b') (q1 : b ≤ s) (q1' : b' ≤ s) (q2 : s ≤ t) (q2' : s ≤ t') (h2 : t < 7 * L) (h2' : t' < 7 * L) (e : t % 7 = t' % 7) (ha : ACC τ A ρ B t b) (ha' : ACC τ A ρ B t' b') (hs : SEG τ (t % 7) b (t - b)) (hs' : SEG τ (t' % 7) b' (t' - b')) : b = b' := by
  have p1 := ow_at hR h hb q1 q2 h2 ha hs
  have p2 := ow_at hR h hb' q1' q2' h2' ha' hs'
  have pp : plc (τ b) ((t % 7 : Nat) : Int) = plc (τ b') ((t % 7 : Nat) : Int) := by rw [p1, e, ← p2]
  rcases Nat.lt_trichotomy t t' with c | c | c
  · refine absurd ?_ (ACC_2 hR h hb hb' (by omega) h2' e (by rw [← e]; exact pp) ha ha' c)
    intro u u1 u2
    exact hs' u (by omega) (by omega)
  · subst c
    exact ACC_1 hR h hb hb' (by omega) h2 pp ha ha'
  · refine absurd ?_ (ACC_2 hR h hb' hb (by omega) h2 e.symm pp.symm ha' ha c)
    intro u u1 u2
    exact hs u (by omega) (by omega)
-- own tokens on their way at time s: at most one for each worker
def OWs (L : Nat) (τ : Nat → qS) (A : Nat → List (Ms × Nat × Nat)) (ρ : Nat → qS × qS × qS) (B : Nat → List (Ms × Nat × Nat) × List (Ms × Nat × Nat) × List (Ms × Nat × Nat)) (s b : Nat) : Prop := b ≤ s ∧ ∃ t, s ≤ t ∧ t < 7 * L ∧ ACC τ A ρ B t b ∧ SEG τ (t % 7) b (t - b)
theorem OWs_6 {L s0 : Nat} {τ : Nat → qS} (hR : RNN L τ) {A : Nat → List (Ms × Nat × Nat)} {ρ : Nat → qS × qS × qS} {B : Nat → List (Ms × Nat × Nat) × List (Ms × Nat × Nat) × List (Ms × Nat × Nat)} (h : ANC L s0 τ A ρ B) {s x : Nat} (hx : s0 < x) (m : Nat) : ctq (OWs L τ A ρ B s) x m ≤ 6 := by
  have a := ctq_inj (P := OWs L τ A ρ B s) (f := fun b => (b - 1) % 7) (s := x) (a := 0) (m := 6) m (fun _ => True) (fun b b1 b2 ⟨q1, t, q2, q3, q4, q5⟩ => by
    obtain ⟨v, v1, v2, -⟩ := ACC_tk h (by omega : s0 < b) (by omega) q3 q4
    exact ⟨Nat.zero_le _, by omega, trivial⟩) (fun b b' b1 b2 b1' b2' ⟨q1, t, q2, q3, q4, q5⟩ ⟨q1', t', q2', q3', q4', q5'⟩ e => by
    have e : (b - 1) % 7 = (b' - 1) % 7 := e
    obtain ⟨v, v1, v2, v3, -⟩ := ACC_tk h (by omega : s0 < b) (by omega) q3 q4
    obtain ⟨v', v1', v2', v3', -⟩ := ACC_tk h (by omega : s0 < b') (by omega) q3' q4'
    exact OW_s hR h (by omega) (by omega) q1 q1' q2 q2' q3 q3' (by omega) q4 q4' q5 q5')
  exact Nat.le_trans a (ctq_le 6)

