-- DONE letters on the line
def t3k (x : Ms) : Bool := xw x 0 == 3
def c3k (σ : qS) : Nat := (ln σ).countP t3k
theorem t3_f {x : Ms} (h : xw x 0 ≠ 3) : t3k x = false := by unfold t3k; exact beq_eq_false_iff_ne.mpr h
theorem HR_3 {σ σ' : qS} (h : HR σ σ') : c3k σ' ≤ c3k σ := by
  obtain ⟨-, -, c⟩ := h
  unfold c3k
  have er : ∀ i, ln σ' = (ln σ).eraseIdx i → (ln σ').countP t3k ≤ (ln σ).countP t3k := fun i e => by
    rw [e]; exact (List.eraseIdx_sublist _ i).countP_le
  rcases c with ⟨-, c, -⟩ | ⟨i, x, -, c2, c⟩
  · rw [c]; exact Nat.le_refl _
  · rcases c with ⟨-, c, -⟩ | ⟨-, k1, -, -, fi, en, -, c⟩ | ⟨-, -, c, -⟩ | ⟨-, -, c, -⟩
    · exact er i c
    · rcases c with ⟨c, -⟩ | ⟨u, -, -, -, -, -, kv, c⟩
      · exact er i c
      · rw [c, List.countP_append]
        have e := cp_tl t3k ((ln σ).eraseIdx i)
        have e2 : ((ln σ).eraseIdx i).countP t3k ≤ (ln σ).countP t3k := (List.eraseIdx_sublist _ i).countP_le
        have q : [((xw x 2, [2, σ 31 0, u, 0, 0, 0], kv) : Ms)].countP t3k = 0 := rfl
        omega
    · exact er i c
    · exact er i c
theorem HR_um {σ σ' : qS} (h : HR σ σ') (hm : ¬ mapd σ) : ¬ mapd σ' ∨ c3k σ' + 1 ≤ c3k σ := by
  obtain ⟨-, hk, c⟩ := h
  have sp : spl σ' = spl σ := (st_c (fun k m => hk k ((by decide : ∀ k ∈ stC, k ∈ hrK) k m))).1
  have un : ∃ k, 0 ≤ k ∧ k < spl σ ∧ σ 33 k = -1 := by
    apply Classical.byContradiction
    intro n
    exact hm (fun k k0 k1 e => n ⟨k, k0, k1, e⟩)
  obtain ⟨k, k0, k1, ke⟩ := un
  have same' : σ' 33 = σ 33 → ¬ mapd σ' := fun e m => m k k0 (by omega) (by rw [e]; exact ke)
  rcases c with ⟨-, -, c⟩ | ⟨i, x, c1, c2, c⟩
  · exact Or.inl (same' (c _ (by decide)))
  · rcases c with ⟨-, -, c⟩ | ⟨-, -, c, -⟩ | ⟨e3, k3, d, -⟩ | ⟨e7, k7, -, -, -, c⟩
    · exact Or.inl (same' (c _ (by decide)))
    · exact Or.inl (same' c)
    · right
      unfold c3k
      rw [d]
      have p := cp_er t3k (ln σ) i x c2
      rw [if_pos (by unfold t3k; rw [k3]; rfl)] at p
      omega
    · rcases c with ⟨-, -, c, -⟩ | ⟨-, c, -⟩
      · left
        intro m
        refine m k k0 (by omega) ?_
        rw [c k]
        split
        · rfl
        · exact ke
      · exact Or.inl (same' c)
def D3t (τ : Nat → qS) (t : Nat) : Prop := t % 7 = 6 ∧ c3k (τ (t + 1)) + 1 ≤ c3k (τ t)
theorem um_t {L : Nat} {τ : Nat → qS} (hR : RNN L τ) {t : Nat} (h2 : t < 7 * L) (hm : ¬ mapd (τ t)) : ¬ mapd (τ (t + 1)) ∨ D3t τ t := by
  rcases hR.2 t h2 with ⟨h6, s⟩ | ⟨e6, σ1, σ2, r1, r2, r3, -⟩
  · left
    have st := (st_c (σ := τ t) (σ' := τ (t + 1)) (fun k m => STP_st (w := ((t % 7 : Nat) : Int)) (Or.inl ⟨h6, s⟩) k m)).1
    intro m
    refine hm (fun k k0 k1 => ?_)
    have e : τ (t + 1) 33 = τ t 33 := by
      obtain ⟨σ1, σ2, σ3, r1, r2, r3, a, -⟩ := s
      exact ((a.2.2.1 _ (by decide)).trans (r3.2.2.1 _ (by decide))).trans ((r2.2.2.1 _ (by decide)).trans (r1.2.2.1 _ (by decide)))
    rw [← e]
    exact m k k0 (by omega)
  · obtain ⟨x1, x2, x3, x4, x5⟩ := clk_x (τ t)
    have m0 : ¬ mapd (clk (τ t)) := fun m => hm (fun k k0 k1 => by
      have := m k k0 (by omega)
      rw [x3] at this
      exact this)
    have c0 : c3k (clk (τ t)) = c3k (τ t) := by unfold c3k; rw [x1]
    have a1 := HR_3 r1
    have a2 := HR_3 r2
    have a3 := HR_3 r3
    have e : t % 7 = 6 := by omega
    rcases HR_um r1 m0 with q | q
    · rcases HR_um r2 q with q | q
      · rcases HR_um r3 q with q | q
        · exact Or.inl q
        · exact Or.inr ⟨e, by omega⟩
      · exact Or.inr ⟨e, by omega⟩
    · exact Or.inr ⟨e, by omega⟩
theorem MP_um {L s0 : Nat} {τ : Nat → qS} (hR : RNN L τ) {A : Nat → List (Ms × Nat × Nat)} (h : ANR L s0 τ A) {c : Nat} (h0 : 7 ≤ c) (h1 : s0 ≤ c) (h2 : c < 7 * L) (hm : MPt A c) (hu : ¬ mapd (τ c)) : D3t τ c := by
  obtain ⟨e6, y, hy, y2, yp, ys⟩ := hm
  obtain ⟨-, sp⟩ := run_dx hR (t := c) (by omega)
  obtain ⟨x1, x2, x3, x4, x5⟩ := clk_x (τ c)
  have l := run_95 hR (by omega) h0 (by omega : c ≤ 7 * L)
  have old : y ∉ A c := fun q => by
    have k := ANR_srt h (c - s0) (by omega)
    rw [show s0 + (c - s0) = c by omega] at k
    have := k.2 y q
    omega
  rcases h.2.2 c h1 h2 with ⟨h6, -⟩ | ⟨-, σ1, σ2, A1, A2, r1, r2, r3, ⟨p0, p1, p2, p3⟩, n1, n2, n3⟩
  · omega
  · have p0' : prA (A c) = ln (clk (τ c)) := by rw [x1]; exact p0
    have l0 : (ln (clk (τ c))).length ≤ 95 := by rw [x1]; exact l
    have l1 := HR_len r1 l0
    have l2 := HR_len r2 l1
    have s1 : spl σ1 ≤ 38 := by
      have := (st_c (fun k m => r1.2.1 k ((by decide : ∀ k ∈ stC, k ∈ hrK) k m))).1
      omega
    have s2 : spl σ2 ≤ 38 := by
      have := (st_c (fun k m => r2.2.1 k ((by decide : ∀ k ∈ stC, k ∈ hrK) k m))).1
      omega
    have m0 : ¬ mapd (clk (τ c)) := fun m => hu (fun k k0 k1 => by
      have := m k k0 (by omega)
      rw [x3] at this
      exact this)
    have c0 : c3k (clk (τ c)) = c3k (τ c) := by unfold c3k; rw [x1]
    have a1 := HR_3 r1
    have a2 := HR_3 r2
    have a3 := HR_3 r3
    have f1 : mapd σ1 → D3t τ c := fun m => by
      rcases HR_um r1 m0 with q | q
      · exact absurd m q
      · exact ⟨e6, by omega⟩
    have f2 : mapd σ2 → D3t τ c := fun m => by
      rcases HR_um r1 m0 with q | q
      · rcases HR_um r2 q with q | q
        · exact absurd m q
        · exact ⟨e6, by omega⟩
      · exact ⟨e6, by omega⟩
    rcases HR_gq s2 r3 l2 p2 p3 n3 hy y2 yp with q | ⟨-, q⟩
    · rcases HR_gq s1 r2 l1 p1 p2 n2 q y2 yp with q | ⟨-, q⟩
      · rcases HR_gq (by omega) r1 l0 p0' p1 n1 q y2 yp with q | ⟨-, q⟩
        · exact absurd q old
        · exact absurd q m0
      · exact f1 q
    · exact f2 q
-- between a kill proper and its C-event a DONE is heard
theorem CE_d3 {L s0 : Nat} {τ : Nat → qS} (hR : RNN L τ) {A : Nat → List (Ms × Nat × Nat)} (h : ANR L s0 τ A) {κ c : Nat} (h0 : 7 ≤ κ) (h1 : s0 ≤ κ) (h2 : c < 7 * L) (hk : κ < c) (hu : ¬ mapd (τ κ)) (hm : MPt A c) : ∃ d, κ ≤ d ∧ d ≤ c ∧ D3t τ d := by
  apply Classical.byContradiction
  intro n
  have st : ∀ j, κ + j ≤ c → ¬ mapd (τ (κ + j)) := fun j => by
    induction j with
    | zero => intro _; exact hu
    | succ j ih =>
      intro q
      rcases um_t hR (t := κ + j) (by omega) (ih (by omega)) with z | z
      · exact z
      · exact absurd ⟨κ + j, by omega, by omega, z⟩ n
  have z := st (c - κ) (by omega)
  rw [show κ + (c - κ) = c by omega] at z
  exact n ⟨c, by omega, Nat.le_refl _, MP_um hR h (by omega) (by omega) h2 hm z⟩
theorem CED {L s0 : Nat} {τ : Nat → qS} (hR : RNN L τ) {A : Nat → List (Ms × Nat × Nat)} (h : ANR L s0 τ A) {s k : Nat} (h7 : 7 ≤ s) (h1 : s0 ≤ s) (h2 : s + k ≤ 7 * L) : ctq (CEk τ A) s k ≤ ctq (D3t τ) s k + 1 := by
  have sp := ctq_or (P := CEk τ A) (Q := fun c => MPt A c ∧ ∃ κ, s ≤ κ ∧ κ < c ∧ (κ % 7 < 6 ∧ ¬ mapd (τ κ)) ∧ ∀ u, κ < u → u < c → ¬ MPt A u) (R := fun c => MPt A c ∧ ∃ κ, κ < s ∧ κ < c ∧ ∀ u, κ < u → u < c → ¬ MPt A u) (s := s) k (fun c _ _ q => by
    obtain ⟨m, v, κ, ⟨v6, -, kl, nm⟩, k1, k2⟩ := q
    have kv := kl.1
    by_cases e : s ≤ κ
    · exact Or.inl ⟨m, κ, e, k1, ⟨by omega, nm⟩, k2⟩
    · exact Or.inr ⟨m, κ, by omega, k1, k2⟩)
  have one := ctq_one (P := fun c => MPt A c ∧ ∃ κ, κ < s ∧ κ < c ∧ ∀ u, κ < u → u < c → ¬ MPt A u) (s := s) k (fun c c' c1 c2 c1' c2' q q' => by
    obtain ⟨m, κ, a1, a2, a3⟩ := q
    obtain ⟨m', κ', a1', a2', a3'⟩ := q'
    rcases Nat.lt_trichotomy c c' with z | z | z
    · exact absurd m (a3' c (by omega) z)
    · exact z
    · exact absurd m' (a3 c' (by omega) z))
  have pick : ∀ c, ∃ d, (c < 7 * L ∧ MPt A c ∧ ∃ κ, s ≤ κ ∧ κ < c ∧ (κ % 7 < 6 ∧ ¬ mapd (τ κ)) ∧ ∀ u, κ < u → u < c → ¬ MPt A u) → D3t τ d ∧ ∃ κ, (s ≤ κ ∧ κ % 7 < 6) ∧ κ ≤ d ∧ d ≤ c ∧ ∀ u, κ < u → u < c → ¬ MPt A u := fun c => by
    by_cases e : c < 7 * L ∧ MPt A c ∧ ∃ κ, s ≤ κ ∧ κ < c ∧ (κ % 7 < 6 ∧ ¬ mapd (τ κ)) ∧ ∀ u, κ < u → u < c → ¬ MPt A u
    · obtain ⟨cl, m, κ, a1, a2, a3, a4⟩ := e
      obtain ⟨d, d1, d2, d3⟩ := CE_d3 hR h (by omega) (by omega) cl a2 a3.2 m
      exact ⟨d, fun _ => ⟨d3, κ, ⟨a1, a3.1⟩, d1, d2, a4⟩⟩
    · exact ⟨0, fun q => absurd q e⟩
  obtain ⟨f, hf⟩ : ∃ f : Nat → Nat, ∀ c, (c < 7 * L ∧ MPt A c ∧ ∃ κ, s ≤ κ ∧ κ < c ∧ (κ % 7 < 6 ∧ ¬ mapd (τ κ)) ∧ ∀ u, κ < u → u < c → ¬ MPt A u) → D3t τ (f c) ∧ ∃ κ, (s ≤ κ ∧ κ % 7 < 6) ∧ κ ≤ f c ∧ f c ≤ c ∧ ∀ u, κ < u → u < c → ¬ MPt A u := ⟨fun c => Classical.choose (pick c), fun c => Classical.choose_spec (pick c)⟩
  have i := ctq_inj (P := fun c => MPt A c ∧ ∃ κ, s ≤ κ ∧ κ < c ∧ (κ % 7 < 6 ∧ ¬ mapd (τ κ)) ∧ ∀ u, κ < u → u < c → ¬ MPt A u) (f := f) (s := s) (a := s) (m := k) k (D3t τ) (fun c c1 c2 q => by
    obtain ⟨z, κ, z1, z2, z3, -⟩ := hf c ⟨by omega, q⟩
    exact ⟨by omega, by omega, z⟩) (fun c c' c1 c2 c1' c2' q q' e => by
    obtain ⟨z, κ, z1, z2, z3, z4⟩ := hf c ⟨by omega, q⟩
    obtain ⟨z', κ', z1', z2', z3', z4'⟩ := hf c' ⟨by omega, q'⟩
    have m6 := q.1.1
    have m6' := q'.1.1
    rw [← e] at z2' z3'
    rcases Nat.lt_trichotomy c c' with y | y | y
    · by_cases w : κ' < c
      · exact absurd q.1 (z4' c w y)
      · omega
    · exact y
    · by_cases w : κ < c'
      · exact absurd q'.1 (z4 c' w y)
      · omega)
  omega

