def itb (σ : qS) (k : Int) : Nat := (ln σ).countP (isD (σ 31 0) k) + (gk σ k + bk σ k)
theorem ts_ca {w : Int} {L L' s : List Ms} (p : Ms → Bool) (h : TS w L L' s) : L'.countP p ≤ L.countP p + s.countP p := by
  obtain ⟨L1, L2, L3, s1, s2, s3, s4, h1, h2, h3, h4, rfl⟩ := h
  have a1 := rd_ca p h1
  have a2 := rd_ca p h2
  have a3 := rd_ca p h3
  have a4 := ac_ca p h4
  simp only [List.countP_append]
  omega
theorem itb_r {L : Nat} {τ : Nat → qS} {S : Nat → List Ms} (h : RNN L τ) (hS : SNC L τ S) {k : Int} (k0 : 0 ≤ k) (t0 : Nat) : ∀ n, t0 + n ≤ 7 * L → itb (τ (t0 + n)) k ≤ itb (τ t0) k + (sns S t0 n).countP (isG (τ 0 31 0) k)
  | 0, _ => by simp [sns]
  | n + 1, hn => by
    have ih := itb_r h hS k0 t0 n (by omega)
    obtain ⟨c0, c, -⟩ := hS (t0 + n) (by omega)
    have c' := c k k0
    have a := ts_ca (isD (τ 0 31 0) k) c0
    unfold itb at ih ⊢
    rw [run_era h (by omega)] at c' ih
    rw [show t0 + (n + 1) = t0 + n + 1 by omega, run_era h (by omega)]
    simp only [sns, List.countP_append]
    omega
theorem itb_o {L : Nat} {τ : Nat → qS} {S : Nat → List Ms} (h : RNN L τ) (hS : SNC L τ S) {b : Int} (hb : 0 ≤ b) {t : Nat} (h1 : 448 ≤ t) (h2 : t ≤ 7 * L) : itb (τ t) b ≤ (sns S (t - 448) 448).countP (isG (τ 0 31 0) b) + 6 := by
  have s1 := old_gone h (SNC_d hS) (t - 224) 224 (by omega) (by omega)
  rw [show t - 224 + 224 = t by omega] at s1
  have i2 := s1.countP_le (p := isD (τ 0 31 0) b)
  have i3 := gd_le h hS hb (t - 224) 224 (by omega)
  rw [show t - 224 + 224 = t by omega] at i3
  have s2 := old_gone h (SNC_d hS) (t - 448) 224 (by omega) (by omega)
  rw [show t - 448 + 224 = t - 224 by omega] at s2
  have i4 := s2.countP_le (p := isG (τ 0 31 0) b)
  have i5 := bk_6 (τ (t - 224)) b
  have e1 : gk (τ (t - 224)) b = (ln (τ (t - 224))).countP (isG (τ 0 31 0) b) := by unfold gk; rw [run_era h (by omega)]
  have e3 := sns_add S (t - 448) 224 224
  rw [show t - 448 + 224 = t - 224 by omega] at e3
  unfold itb
  rw [run_era h (by omega)]
  rw [show 448 = 224 + 224 by omega, e3, List.countP_append]
  omega
theorem itb_ph {L : Nat} {τ : Nat → qS} {S : Nat → List Ms} (h : RNN L τ) {s1 s2 : Nat → qS} (hS : SNO L τ S s1 s2) {k : Int} (k0 : 0 ≤ k) (k1 : k < 38) {s n : Nat} (h0 : 224 ≤ s) (hl : s + n + 14 ≤ 7 * L) (hu : ∀ t, s ≤ t → t < s + n → t % 7 = 6 → UN τ s1 s2 k t) : itb (τ (s + n)) k ≤ itb (τ s) k + 65 := by
  by_cases c : n ≤ 448
  · have a := itb_r h hS.1 k0 s n (by omega)
    have g := gk_ph h hS k0 k1 h0 hl hu
    have f : Fg n ≤ 59 := by unfold Fg; omega
    omega
  · have a := itb_o h hS.1 k0 (t := s + n) (by omega) (by omega)
    have g := gk_ph h hS k0 k1 (s := s + n - 448) (n := 448) (by omega) (by omega) (fun t t1 t2 t3 => hu t (by omega) (by omega) t3)
    have f : Fg 448 = 59 := rfl
    omega
theorem wn_cl {σ σ' : qS} {b : Int} (hk : ∀ k ∈ [62, 65], σ' k = σ k) (hm : ∀ t, isdn σ' t ≠ 0 → isdn σ t ≠ 0 ∨ t = b) (v : Int) : wn σ' v ≤ wn σ v + 2 * b1 σ b v := by
  have e : (if 0 ≤ σ 62 v ∧ isdn σ' (σ 62 v) ≠ 0 then 2 else 0) ≤ (if 0 ≤ σ 62 v ∧ isdn σ (σ 62 v) ≠ 0 then 2 else 0) + 2 * (if σ 62 v = b then 1 else 0) := by
    by_cases c : 0 ≤ σ 62 v ∧ isdn σ' (σ 62 v) ≠ 0
    · rw [if_pos c]
      rcases hm _ c.2 with g | g
      · rw [if_pos (⟨c.1, g⟩ : 0 ≤ σ 62 v ∧ isdn σ (σ 62 v) ≠ 0)]; omega
      · rw [if_pos g]; omega
    · rw [if_neg c]; omega
  unfold wn b1
  rw [hk _ (by decide), hk _ (by decide)]
  omega
theorem wn_lk {σ σ' : qS} {b : Int} (hb : 0 ≤ b) (hk : ∀ k ∈ [62, 65], σ' k = σ k) (h1 : isdn σ b ≠ 0) (h2 : isdn σ' b = 0) (hm : ∀ t, isdn σ' t ≠ 0 → isdn σ t ≠ 0) (v : Int) : wn σ' v + 2 * b1 σ b v ≤ wn σ v := by
  have e : (if 0 ≤ σ 62 v ∧ isdn σ' (σ 62 v) ≠ 0 then 2 else 0) + 2 * (if σ 62 v = b then 1 else 0) ≤ (if 0 ≤ σ 62 v ∧ isdn σ (σ 62 v) ≠ 0 then 2 else 0) := by
    by_cases e : σ 62 v = b
    · rw [if_pos e, e, if_neg (fun z => z.2 h2 : ¬ (0 ≤ b ∧ isdn σ' b ≠ 0)), if_pos (⟨hb, h1⟩ : 0 ≤ b ∧ isdn σ b ≠ 0)]; omega
    · rw [if_neg e]
      by_cases c : 0 ≤ σ 62 v ∧ isdn σ' (σ 62 v) ≠ 0
      · rw [if_pos c, if_pos (⟨c.1, hm _ c.2⟩ : 0 ≤ σ 62 v ∧ isdn σ (σ 62 v) ≠ 0)]; omega
      · rw [if_neg c]; omega
  unfold wn b1
  rw [hk _ (by decide), hk _ (by decide)]
  omega
theorem itm_e {σ : qS} {b : Int} : ∀ M : List Ms, M.countP (itm σ b) ≤ M.countP (isD (σ 31 0) b) + M.countP (isG (σ 31 0) b) := fun M => itm_2 M
theorem HR_cl2 {σ σ' : qS} (h : HR σ σ') {x : Ms} (hx : hd6 σ x) (he' : xw x 1 = σ 31 0) (hc : clos σ x) : We σ' ≤ We σ + 2 * itb σ' (xw x 3) := by
  obtain ⟨h0, hk, c⟩ := h
  have he : σ' 31 = σ 31 := hk _ (by decide)
  have hk3 : ∀ k ∈ [62, 65], σ' k = σ k := fun k m => hk k ((by decide : ∀ k ∈ [62, 65], k ∈ hrK) k m)
  have htk : σ' 62 = σ 62 := hk _ (by decide)
  obtain ⟨j, b1', b2'⟩ := hx
  rcases c with ⟨c1, -⟩ | ⟨i, y, c1, c2, c⟩
  · rw [c1] at b1'; cases b1'
  · rw [c1] at b1'
    have ej := Option.some.inj b1'
    subst ej
    rw [c2] at b2'
    have ex := Option.some.inj b2'
    subst ex
    have hs := wl_er σ (ln σ) i y c2
    rcases c with ⟨d0, -⟩ | ⟨-, d1, -⟩ | ⟨d0, d1, d2, -, -, d3⟩ | ⟨-, d1, -⟩
    · exact absurd he' d0
    · have := hc.1; omega
    · have hm : ∀ t, isdn σ' t ≠ 0 → isdn σ t ≠ 0 ∨ t = xw y 3 := fun t e => by
        by_cases et : t = xw y 3
        · exact Or.inr et
        refine Or.inl ?_
        unfold isdn at e ⊢
        rcases d3 with ⟨b1, b2, b3⟩ | ⟨b1, b2, b3⟩
        · by_cases ct : t < 38
          · rw [if_pos ct] at e ⊢
            rw [b3, if_neg et] at e; exact e
          · rw [if_neg ct] at e ⊢
            rw [b2] at e; exact e
        · by_cases ct : t < 38
          · rw [if_pos ct] at e ⊢
            rw [b2] at e; exact e
          · rw [if_neg ct] at e ⊢
            rw [b3, if_neg (by omega)] at e; exact e
      have h1 := wl_cl he hm (ln σ')
      have h2 : wl σ (ln σ') ≤ wl σ (ln σ) := by rw [d2]; omega
      have h3 := itm_e (σ := σ) (b := xw y 3) (ln σ')
      have w := wn_cl hk3 hm
      have w0 := w 0
      have w1 := w 1
      have w2 := w 2
      have w3 := w 3
      have w4 := w 4
      have w5 := w 5
      have eb : bk σ' (xw y 3) = bk σ (xw y 3) := by unfold bk b1; rw [htk]
      unfold itb gk
      rw [eb, he]
      unfold We wns bk
      omega
    · have := hc.1; omega
theorem HR_lk2 {σ σ' : qS} (h : HR σ σ') {x : Ms} (hx : hd6 σ x) (he' : xw x 1 = σ 31 0) (h7 : xw x 0 = 7) (h0' : 0 ≤ xw x 2) (h38 : xw x 2 < 38) (h1 : isdn σ (xw x 2) ≠ 0) (h2 : isdn σ' (xw x 2) = 0) : We σ' + 2 + 2 * ((ln σ').countP (itm σ (xw x 2)) + bk σ' (xw x 2)) ≤ We σ := by
  obtain ⟨h0, hk, c⟩ := h
  have he : σ' 31 = σ 31 := hk _ (by decide)
  have hk3 : ∀ k ∈ [62, 65], σ' k = σ k := fun k m => hk k ((by decide : ∀ k ∈ [62, 65], k ∈ hrK) k m)
  have htk : σ' 62 = σ 62 := hk _ (by decide)
  obtain ⟨j, b1', b2'⟩ := hx
  rcases c with ⟨c1, -⟩ | ⟨i, y, c1, c2, c⟩
  · rw [c1] at b1'; cases b1'
  · rw [c1] at b1'
    have ej := Option.some.inj b1'
    subst ej
    rw [c2] at b2'
    have ex := Option.some.inj b2'
    subst ex
    have hs := wl_er σ (ln σ) i y c2
    rcases c with ⟨d0, -⟩ | ⟨-, d1, -⟩ | ⟨-, d1, -⟩ | ⟨d0, d1, d2, d3, -, d4⟩
    · exact absurd he' d0
    · omega
    · omega
    · have hm : ∀ t, isdn σ' t ≠ 0 → isdn σ t ≠ 0 := fun t e => by
        unfold isdn at e ⊢
        by_cases ct : t < 38
        · rw [if_pos ct] at e ⊢
          rcases d4 with ⟨-, -, b, -⟩ | ⟨-, b, -⟩
          · rw [b] at e
            by_cases et : t = xw y 2
            · rw [if_pos et] at e; exact absurd rfl e
            · rw [if_neg et] at e; exact e
          · rw [b] at e; exact e
        · rw [if_neg ct] at e ⊢
          rw [d3] at e; exact e
      have hw := wt_ge d0 (Or.inr (Or.inl d1))
      have i1 := wl_lk he h1 h2 hm (ln σ')
      have w := wn_lk h0' hk3 h1 h2 hm
      have w0 := w 0
      have w1 := w 1
      have w2 := w 2
      have w3 := w 3
      have w4 := w 4
      have w5 := w 5
      have eb : bk σ' (xw y 2) = bk σ (xw y 2) := by unfold bk b1; rw [htk]
      have i3 : wl σ (ln σ') + 2 = wl σ (ln σ) := by rw [d2]; omega
      rw [eb]
      unfold We wns bk
      omega

