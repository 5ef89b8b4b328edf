def SNH (L : Nat) (τ : Nat → qS) (S : Nat → List Ms) : Prop := ∀ t, t < 7 * L → GH ((t % 7 : Nat) : Int) (τ t) (τ (t + 1)) (S t)
theorem SNH_ex {L : Nat} {τ : Nat → qS} (h : RNN L τ) : ∃ S, SNH L τ S := by
  have : ∀ t, ∃ s, t < 7 * L → GH ((t % 7 : Nat) : Int) (τ t) (τ (t + 1)) s := fun t => by
    by_cases c : t < 7 * L
    · obtain ⟨s, hs⟩ := STP_h (h.2 t c)
      exact ⟨s, fun _ => hs⟩
    · exact ⟨[], fun e => absurd e c⟩
  exact Classical.skolem.mp this
theorem SNH_d {L : Nat} {τ : Nat → qS} {S : Nat → List Ms} (h : SNH L τ S) : SND L τ S := fun t ht => (h t ht).1
theorem ge_run {L : Nat} {τ : Nat → qS} {S : Nat → List Ms} (hS : SNH L τ S) (s : Nat) : ∀ k, s + k ≤ 7 * L → (sns S s k).countP t34 + (g2 (τ (s + k)) + bT (τ (s + k))) ≤ g2 (τ s) + bT (τ s) + (sns S s k).countP t2
  | 0, _ => by simp [sns]
  | k + 1, hk => by
    have ih := ge_run hS s k (by omega)
    have h1 := (hS (s + k) (by omega)).2.1
    simp only [sns, List.countP_append]
    rw [show s + (k + 1) = s + k + 1 by omega]
    omega
theorem gv_run {L : Nat} {τ : Nat → qS} {S : Nat → List Ms} (hS : SNH L τ S) (s : Nat) : ∀ k, s + k ≤ 7 * L → (sns S s k).countP t2 ≤ 3 * ntk 6 s k
  | 0, _ => by simp [sns]
  | k + 1, hk => by
    have ih := gv_run hS s k (by omega)
    obtain ⟨-, -, h1, h2, -⟩ := hS (s + k) (by omega)
    simp only [sns, List.countP_append, ntk]
    by_cases c : (s + k) % 7 = 6
    · rw [if_pos c]
      have h3 := (h2 (by omega)).1
      have h4 : (S (s + k)).countP t2 ≤ (S (s + k)).length := List.countP_le_length
      omega
    · rw [if_neg c]
      have := (h1 (by omega)).1
      omega
theorem ty_run {L : Nat} {τ : Nat → qS} {S : Nat → List Ms} (hS : SNH L τ S) {s k : Nat} (hk : s + k ≤ 7 * L) : ∀ x ∈ sns S s k, ty7 x := sns_m k (fun t h1 h2 => (hS t (by omega)).2.2.2.2)
theorem new_b {L : Nat} {τ : Nat → qS} {S : Nat → List Ms} (hS : SNH L τ S) {s k : Nat} (hk : s + k ≤ 7 * L) {o n : List Ms} (e : ln (τ (s + k)) = o ++ n) (hn : n.Sublist (sns S s k)) : n.length + bT (τ (s + k)) ≤ (sns S s k).countP t1 + (sns S s k).countP t7 + g2 (τ s) + bT (τ s) + 3 * ntk 6 s k + (ln (τ (s + k))).countP t56 := by
  have h1 := ty_sum n (fun x hx => ty_run hS hk x (hn.subset hx))
  have h2 := hn.countP_le (p := t1)
  have h3 := hn.countP_le (p := t34)
  have h4 := hn.countP_le (p := t7)
  have h5 : n.countP t2 ≤ g2 (τ (s + k)) := by unfold g2; rw [e, List.countP_append]; omega
  have h6 : n.countP t56 ≤ (ln (τ (s + k))).countP t56 := by rw [e, List.countP_append]; omega
  have h7 := ge_run hS s k hk
  have h8 := gv_run hS s k hk
  omega
def aT (S : Nat → List Ms) (v s : Nat) : Nat → Nat
  | 0 => 0
  | k + 1 => aT S v s k + (if (s + k) % 7 = v then (S (s + k)).countP t1 else 0)
theorem aT_sum {L : Nat} {τ : Nat → qS} {S : Nat → List Ms} (hS : SNH L τ S) (s : Nat) : ∀ k, s + k ≤ 7 * L → (sns S s k).countP t1 = aT S 0 s k + aT S 1 s k + aT S 2 s k + aT S 3 s k + aT S 4 s k + aT S 5 s k
  | 0, _ => by simp [sns, aT]
  | k + 1, hk => by
    have ih := aT_sum hS s k (by omega)
    obtain ⟨-, -, -, h2, -⟩ := hS (s + k) (by omega)
    simp only [sns, List.countP_append, aT]
    have hc : (s + k) % 7 = 0 ∨ (s + k) % 7 = 1 ∨ (s + k) % 7 = 2 ∨ (s + k) % 7 = 3 ∨ (s + k) % 7 = 4 ∨ (s + k) % 7 = 5 ∨ (s + k) % 7 = 6 := by omega
    rcases hc with c | c | c | c | c | c | c
    · rw [c]; simp; omega
    · rw [c]; simp; omega
    · rw [c]; simp; omega
    · rw [c]; simp; omega
    · rw [c]; simp; omega
    · rw [c]; simp; omega
    · have := (h2 (by omega)).2.1
      rw [c]; simp; omega
theorem t56_kv (e : Int) : ∀ L : List Ms, (∀ x ∈ L, xw x 1 = e ∧ (xw x 0 = 5 → 0 ≤ xw x 5 ∧ xw x 5 < 6) ∧ (xw x 0 = 6 → 0 ≤ x.1 ∧ x.1 < 6)) → L.countP t56 ≤ kL e 0 L + kL e 1 L + kL e 2 L + kL e 3 L + kL e 4 L + kL e 5 L
  | [], _ => by simp
  | x :: L, h => by
    have ih := t56_kv e L (fun y hy => h y (List.mem_cons_of_mem x hy))
    obtain ⟨h1, h5, h6⟩ := h x List.mem_cons_self
    have sp : ∀ v, kL e v (x :: L) = kL e v [x] + kL e v L := fun v => by rw [show x :: L = [x] ++ L from rfl, kL_app]
    rw [sp, sp, sp, sp, sp, sp, List.countP_cons]
    by_cases c5 : xw x 0 = 5
    · have hv := h5 c5
      have f : ∀ v, xw x 5 = v → 1 ≤ kL e v [x] := fun v ev => by
        have : kF e v x = true := by unfold kF; exact decide_eq_true ⟨h1, c5, ev⟩
        rw [kL_1, if_pos this]; omega
      have hb : (if t56 x = true then 1 else 0) ≤ 1 := by split <;> omega
      have hc : xw x 5 = 0 ∨ xw x 5 = 1 ∨ xw x 5 = 2 ∨ xw x 5 = 3 ∨ xw x 5 = 4 ∨ xw x 5 = 5 := by omega
      rcases hc with c | c | c | c | c | c
      · have := f _ c; omega
      · have := f _ c; omega
      · have := f _ c; omega
      · have := f _ c; omega
      · have := f _ c; omega
      · have := f _ c; omega
    · by_cases c6 : xw x 0 = 6
      · have hv := h6 c6
        have f : ∀ v, x.1 = v → 1 ≤ kL e v [x] := fun v ev => by
          have : kP e v x = true := by unfold kP; exact decide_eq_true ⟨h1, c6, ev⟩
          rw [kL_1, if_pos this]; omega
        have hb : (if t56 x = true then 1 else 0) ≤ 1 := by split <;> omega
        have hc : x.1 = 0 ∨ x.1 = 1 ∨ x.1 = 2 ∨ x.1 = 3 ∨ x.1 = 4 ∨ x.1 = 5 := by omega
        rcases hc with c | c | c | c | c | c
        · have := f _ c; omega
        · have := f _ c; omega
        · have := f _ c; omega
        · have := f _ c; omega
        · have := f _ c; omega
        · have := f _ c; omega
      · have : t56 x = false := by unfold t56; rw [beq_eq_false_iff_ne.mpr c5, beq_eq_false_iff_ne.mpr c6]; rfl
        rw [this]
        simp only [Bool.false_eq_true, if_false]
        omega
def kA (σ : qS) : Nat := kv σ 0 + kv σ 1 + kv σ 2 + kv σ 3 + kv σ 4 + kv σ 5
theorem kA_b {L : Nat} {τ : Nat → qS} (h : RNN L τ) {t : Nat} (h1 : 224 ≤ t) (h2 : t ≤ 7 * L) : (ln (τ t)).countP t56 ≤ kA (τ t) := by
  have gs := h.1 t h2
  refine t56_kv (τ t 31 0) (ln (τ t)) (fun x hx => ?_)
  have hE := run_ER h h1 h2 x hx
  have hL := (gs.1.2.2.2.2.2.2.2.1 x hx).2 hE
  refine ⟨hE, fun e => ?_, fun e => ?_⟩
  · rcases hL with ⟨-, g⟩ | ⟨-, g⟩
    · rcases g with ⟨g, -⟩ | ⟨g, -⟩ | ⟨g, -⟩ | ⟨g, -⟩ <;> omega
    · rcases g with ⟨g, -⟩ | ⟨-, g⟩ | ⟨g, -⟩
      · omega
      · exact g.2.2.2
      · omega
  · rcases hL with ⟨-, g⟩ | ⟨g0, -⟩
    · rcases g with ⟨g, -⟩ | ⟨g, -⟩ | ⟨g, -⟩ | ⟨g, -⟩ <;> omega
    · exact g0

