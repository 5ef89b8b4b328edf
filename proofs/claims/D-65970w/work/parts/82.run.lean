def INVr (RJ : Nat → Nat → qS → Prop) (N c : Nat) (σ : qS) : Prop := BR σ ∧ (0 ≤ σ 31 0 ∧ σ 31 0 ≤ 8 * N) ∧ σ 26 0 = 1 ∧ RJ N c σ
def RES (σ : qS) : Int × (Int → List Pr) := runF (jfD σ) (σ 110) (ordL σ 0 (σ 117 0).toNat) (fD σ)
def RIOK (RJ : Nat → Nat → qS → Prop) : Prop :=
  (∀ N c N' c' σ, RJ N c σ → N ≤ N' → c ≤ c' → RJ N' c' σ) ∧
  (∀ N c σ σ', RJ N c σ → (∀ k, k ≠ 118 → k ≠ 140 → σ' k = σ k) → RJ N c σ') ∧
  (∀ N c σ, RJ N c σ → RJ N c (su σ 36 0 0)) ∧ (∀ N c σ w, RJ N c σ → 0 ≤ w → w < 6 → RJ N c (su σ 61 w 0)) ∧
  (∀ N c σ a b, RJ N c σ → (0 ≤ a ∧ a ≤ 65535) → (0 ≤ b ∧ b ≤ 65535) → RJ N c (su (su σ 49 0 a) 50 0 b)) ∧
  RIb (fun N σ => RJ N (200 * N) σ) ∧
  (∀ N c σ w, N ≤ 4096 → INVr RJ N c σ → c < c + 1 → 0 ≤ w → w ≤ 6 → P_M_one w σ ∧ ∀ σ', Q_M_one w σ σ' → INVr RJ N (if w = 6 then c + 1 else c) σ') ∧
  (∀ N c σ, INVr RJ N c σ → P_M_check σ) ∧
  (∀ N c σ, N ≤ 4096 → INVr RJ N c σ → c ≤ 900000 → σ 49 0 = 0 → σ 50 0 = 0 → ∃ n : Nat, c + n ≤ c + n ∧ FinP n σ) ∧
  (∀ N c σ, INVr RJ N c σ → σ 27 0 = 0 → (σ 28 0, fM σ) = RES σ ∧ CH σ)
theorem z_and_b (a : Int) : 0 ≤ z_and a 65535 ∧ z_and a 65535 ≤ 65535 := by
  have h1 : (Int32.ofInt a &&& Int32.ofInt 65535).toBitVec.toNat ≤ 65535 := by
    rw [Int32.toBitVec_and, BitVec.toNat_and]
    exact Nat.le_trans Nat.and_le_right (by decide)
  have h2 : (Int32.ofInt a &&& Int32.ofInt 65535).toInt = ((Int32.ofInt a &&& Int32.ofInt 65535).toBitVec.toNat : Int) := by
    show (Int32.ofInt a &&& Int32.ofInt 65535).toBitVec.toInt = _
    exact BitVec.toInt_eq_toNat_of_lt (by omega)
  unfold z_and
  omega
theorem l_check {RJ : Nat → Nat → qS → Prop} (hO : RIOK RJ) {N : Nat} {σ : qS} (h : INVo (fun N σ => RJ N (200 * N) σ) N σ) : P_M_check σ := by
  obtain ⟨-, -, -, -, -, -, -, hc, -⟩ := hO
  by_cases hb : σ 26 0 = 1
  · exact hc N _ σ ⟨h.1, h.2.1, hb, h.2.2.2 hb⟩
  · exact fun hg => absurd (h.1.1.1.2 (by have := h.1.1.1.1; omega)) hg
theorem ticks_ok {RJ : Nat → Nat → qS → Prop} (hO : RIOK RJ) {N : Nat} (hN : N ≤ 4096) {w : Int} (hw : 0 ≤ w ∧ w ≤ 6) : ∀ (n c : Nat) (σ : qS), INVr RJ N c σ → c + n ≤ c + n → Ticks w n σ ∧ ∀ σ', TickQ w n σ σ' → INVr RJ N (c + n) σ'
  | 0, c, σ, h, _ => ⟨trivial, fun σ' e => by have : σ' = σ := e; subst this; exact h⟩
  | n + 1, c, σ, h, hb => by
    have hm := hO.1
    have h1 := hO.2.2.2.2.2.2.1
    have hO' : RIOK RJ := hO
    obtain ⟨p1, p2⟩ := h1 N c σ w hN h (by omega) hw.1 hw.2
    have up : ∀ σ', Q_M_one w σ σ' → INVr RJ N (c + 1) σ' := fun σ' q => by
      obtain ⟨x1, x2, x3, x4⟩ := p2 σ' q
      exact ⟨x1, x2, x3, hm _ _ _ _ _ x4 (Nat.le_refl _) (by split <;> omega)⟩
    refine ⟨⟨p1, fun σ' q => (ticks_ok hO' hN hw n (c + 1) σ' (up σ' q) (by omega)).1⟩, fun σ' q => ?_⟩
    obtain ⟨σ1, q1, q2⟩ := q
    have := (ticks_ok hO' hN hw n (c + 1) σ1 (up σ1 q1) (by omega)).2 σ' q2
    rw [show c + (n + 1) = c + 1 + n by omega]
    exact this
theorem rnd_ok {RJ : Nat → Nat → qS → Prop} (hO : RIOK RJ) {N : Nat} (hN : N ≤ 4096) : ∀ (n : Nat) (w : Int) (c : Nat) (K : qS → Prop) (σ σ' : qS), (w + n : Int) = 7 → 0 ≤ w → INVr RJ N c σ → c < c + 1 → RndP n w K σ → RndQ n w σ σ' → INVr RJ N (if n = 0 then c else c + 1) σ' ∧ K σ'
  | 0, w, c, K, σ, σ', hw, w0, h, hc, hp, hq => by
    have : σ' = σ := hq
    subst this
    exact ⟨h, hp⟩
  | n + 1, w, c, K, σ, σ', hw, w0, h, hc, hp, hq => by
    have h1 := hO.2.2.2.2.2.2.1
    obtain ⟨σ1, q1, q2⟩ := hq
    have g := (h1 N c σ w hN h hc w0 (by omega)).2 σ1 q1
    have hp1 := hp.2 σ1 q1
    by_cases e : n = 0
    · subst e
      rw [if_pos (show w = 6 by omega)] at g
      have : σ' = σ1 := q2
      subst this
      exact ⟨g, hp1⟩
    · rw [if_neg (show ¬ w = 6 by omega)] at g
      have := rnd_ok hO hN n (w + 1) c K σ1 σ' (by omega) (by omega) g hc hp1 q2
      rw [if_neg e] at this
      rw [if_neg (by omega)]
      exact this
theorem fin_ok {RJ : Nat → Nat → qS → Prop} (hO : RIOK RJ) {N : Nat} (hN : N ≤ 4096) : ∀ (n m c : Nat) (σ σ' : qS), INVr RJ N c σ → c + n ≤ c + n → FinP n σ → FinQ m σ σ' → INVr RJ N (c + n) σ' ∧ σ' 27 0 = 0 := by
  have mono := hO.1
  have stop : ∀ (n c : Nat) (σ : qS), INVr RJ N c σ → INVr RJ N (c + n) σ := fun n c σ h => ⟨h.1, h.2.1, h.2.2.1, mono _ _ _ _ _ h.2.2.2 (Nat.le_refl _) (by omega)⟩
  intro n
  induction n with
  | zero =>
    intro m c σ σ' h hb hp hq
    have hp : σ 27 0 = 0 := hp
    cases m with
    | zero => obtain ⟨-, rfl⟩ := hq; exact ⟨stop _ _ _ h, hp⟩
    | succ m =>
      rcases hq with ⟨-, rfl⟩ | ⟨g, -⟩
      · exact ⟨stop _ _ _ h, hp⟩
      · exact absurd hp g
  | succ n ih =>
    intro m c σ σ' h hb hp hq
    cases m with
    | zero => obtain ⟨g, rfl⟩ := hq; exact ⟨stop _ _ _ h, g⟩
    | succ m =>
      rcases hq with ⟨g, rfl⟩ | ⟨g, σ1, q1, q2⟩
      · exact ⟨stop _ _ _ h, g⟩
      · rcases hp with hp | ⟨-, hp⟩
        · exact absurd hp g
        · obtain ⟨r1, r2⟩ := rnd_ok hO hN 7 0 c (FinP n) σ σ1 (by omega) (by omega) h (by omega) hp q1
          rw [if_neg (by omega)] at r1
          have := ih m (c + 1) σ1 σ' r1 (by omega) r2 q2
          rw [show c + (n + 1) = c + 1 + n by omega]
          exact this
theorem RI_f {RJ : Nat → Nat → qS → Prop} (hO : RIOK RJ) : RIf (fun N σ => RJ N (200 * N) σ) := fun N σ σ' h hk => hO.1 _ _ _ _ _ (hO.2.1 _ _ _ _ h hk) (by omega) (by omega)
theorem l_line {RJ : Nat → Nat → qS → Prop} (hO : RIOK RJ) {N : Nat} {σ : qS} (h : INVo (fun N σ => RJ N (200 * N) σ) N σ) (a b : Int) : stpV (INVo (fun N σ => RJ N (200 * N) σ) (N + 1)) (P_L_line 900 a b σ) (Q_L_line 900 a b σ) (P_D_line a b) (Q_D_line a b) := by
  have hR := RI_f hO
  have hB := h.1.1
  refine ⟨⟨rfl, trivial⟩, fun r σ1 h1 => ⟨trivial, fun σ2 h2 => ?_⟩⟩
  rcases h1 with ⟨⟨c1, rfl⟩, rfl⟩ | ⟨t, ⟨rfl, c1, rfl⟩, a2⟩
  · have hb1 : σ 26 0 = 1 := by have := hB.1.1; omega
    have hRJ := hO.2.2.2.2.1 _ _ _ _ _ (h.2.2.2 hb1) (z_and_b a) (z_and_b b)
    have hk : ∀ k, k ∉ [49, 50] → su (su σ 49 0 (z_and a 65535)) 50 0 (z_and b 65535) k = σ k := fun k m => by
      simp only [List.mem_cons, List.not_mem_nil, or_false, not_or] at m
      rw [su_k (by omega), su_k (by omega)]
    have h' : INVo (fun N σ => RJ N (200 * N) σ) N (su (su σ 49 0 (z_and a 65535)) 50 0 (z_and b 65535)) := ⟨BR_k h.1 (kp hk (by decide)), by rw [hk 31 (by decide)]; exact h.2.1, fun hb => by rw [hk 26 (by decide)] at hb; omega, fun _ => hRJ⟩
    have h2 : σ2 = _ := h2
    subst h2
    rw [if_neg (by rw [hk 119 (by decide), hB.2]; exact c1)]
    exact ⟨su_s, INV_f hR h' (th_f1 _ _)⟩
  · have hr : (1 : Int) = r := Option.some.inj a2
    have h2 : σ2 = _ := h2
    subst h2
    rw [if_pos (by rw [hB.2]; exact c1)]
    exact ⟨by rw [su_s]; exact hr, INV_f hR h (th_f1 _ _)⟩
theorem l_crash {RJ : Nat → Nat → qS → Prop} (hO : RIOK RJ) {N : Nat} {σ : qS} (h : INVo (fun N σ => RJ N (200 * N) σ) N σ) (w : Int) : stpV (INVo (fun N σ => RJ N (200 * N) σ) (N + 1)) (P_L_crash 900 w σ) (Q_L_crash 900 w σ) (P_D_crash w) (Q_D_crash w) := by
  have hR := RI_f hO
  have hB := h.1.1
  refine ⟨⟨rfl, trivial⟩, fun r σ1 h1 => ⟨trivial, fun σ2 h2 => ?_⟩⟩
  have h2 : σ2 = _ := h2
  rcases h1 with ⟨⟨c0, c1, rfl⟩, rfl⟩ | ⟨t, ⟨rfl, a1⟩, a2⟩
  · have hb1 : σ 26 0 = 1 := by have := hB.1.1; omega
    have hRJ : RJ N (200 * N) (if w = 6 then su σ 36 0 0 else su σ 61 w 0) := by
      split
      · exact hO.2.2.1 _ _ _ (h.2.2.2 hb1)
      · exact hO.2.2.2.1 _ _ _ _ (h.2.2.2 hb1) c0.1 (by omega)
    have hk : ∀ k, k ∉ [36, 61] → (if w = 6 then su σ 36 0 0 else su σ 61 w 0) k = σ k := fun k m => by
      simp only [List.mem_cons, List.not_mem_nil, or_false, not_or] at m
      split
      · rw [su_k (by omega)]
      · rw [su_k (by omega)]
    generalize (if w = 6 then su σ 36 0 0 else su σ 61 w 0) = τ at *
    have h' : INVo (fun N σ => RJ N (200 * N) σ) N τ := ⟨BR_k h.1 (kp hk (by decide)), by rw [hk 31 (by decide)]; exact h.2.1, fun hb => by rw [hk 26 (by decide)] at hb; omega, fun _ => hRJ⟩
    subst h2
    have e : tcr τ w = 0 := by unfold tcr; rw [if_neg (fun hn => hn c0), if_neg (by rw [hk 119 (by decide), hB.2]; exact c1)]
    rw [e]
    exact ⟨su_s, INV_f hR h' (th_f1 _ _)⟩
  · subst h2
    have e : tcr σ1 w = r := by
      unfold tcr
      rcases a1 with ⟨x1, rfl⟩ | ⟨x1, x2, rfl⟩
      · rw [if_pos x1]; exact Option.some.inj a2
      · rw [if_neg (fun hn => hn x1), if_pos (by rw [hB.2]; exact x2)]; exact Option.some.inj a2
    rw [e]
    exact ⟨su_s, INV_f hR h (th_f1 _ _)⟩
theorem l_tick {RJ : Nat → Nat → qS → Prop} (hO : RIOK RJ) {N : Nat} {σ : qS} (hN : N < 4096) (h : INVo (fun N σ => RJ N (200 * N) σ) N σ) (w n : Int) : stpV (INVo (fun N σ => RJ N (200 * N) σ) (N + 1)) (P_L_tick 900 w n σ) (Q_L_tick 900 w n σ) (P_D_tick w n) (Q_D_tick w n) := by
  have hR := RI_f hO
  have hB := h.1.1
  have hr : ∀ (hb : σ 26 0 ≠ 0), INVr RJ N (200 * N) σ := fun hb => by
    have hb1 : σ 26 0 = 1 := by have := hB.1.1; omega
    exact ⟨h.1, h.2.1, hb1, h.2.2.2 hb1⟩
  refine ⟨⟨rfl, fun hw hn hb => (ticks_ok hO (by omega) hw n.toNat (200 * N) σ (hr hb) (by omega)).1⟩, fun r σ1 h1 => ⟨trivial, fun σ2 h2 => ?_⟩⟩
  have h2 : σ2 = _ := h2
  subst h2
  rcases h1 with ⟨⟨c0, c1, c2, c3⟩, rfl⟩ | ⟨t, ⟨rfl, a1⟩, a2⟩
  · obtain ⟨x1, x2, x3, x4⟩ := (ticks_ok hO (by omega) c0 n.toNat (200 * N) σ (hr c2) (by omega)).2 σ1 c3
    have e : ttk σ1 w n = 0 := by unfold ttk; rw [if_neg (fun hn => hn c0), if_neg (fun hn => hn c1), if_neg (by rw [x1.1.2, x3]; decide)]
    rw [e]
    have x5 : RJ (N + 1) (200 * (N + 1)) σ1 := hO.1 _ _ _ _ _ x4 (by omega) (by omega)
    have hk := th_f1 σ1 0
    refine ⟨su_s, BR_k x1 (fun k m => ?_), by rw [su_k (by decide)]; omega, fun hb => by rw [su_k (by decide), x3] at hb; omega, fun _ => hO.2.1 _ _ _ _ x5 hk⟩
    have key : ∀ k ∈ s1 ++ s2 ++ s3 ++ s4 ++ s5 ++ s6, k ≠ 118 := by decide
    exact su_k (key k m)
  · have e : ttk σ1 w n = r := by
      unfold ttk
      rcases a1 with ⟨x1, rfl⟩ | ⟨x1, x2, rfl⟩ | ⟨x1, x2, x3, rfl⟩
      · rw [if_pos x1]; exact Option.some.inj a2
      · rw [if_neg (fun hn => hn x1), if_pos x2]; exact Option.some.inj a2
      · rw [if_neg (fun hn => hn x1), if_neg (fun hn => hn x2), if_pos (by rw [hB.2]; exact x3)]; exact Option.some.inj a2
    rw [e]
    exact ⟨su_s, INV_f hR h (th_f1 _ _)⟩

