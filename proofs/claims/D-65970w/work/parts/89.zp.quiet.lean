def pt (σ0 σ : qS) : Nat → Nat
  | 0 => 0
  | n + 1 => pt σ0 σ n + (if isdn σ0 (n : Int) = 0 then 0 else gk σ (n : Int) + bk σ (n : Int))
def ds (σ0 : qS) (e : Int) (s : List Ms) : Nat → Nat
  | 0 => 0
  | n + 1 => ds σ0 e s n + (if isdn σ0 (n : Int) = 0 then 0 else s.countP (isD e (n : Int)))
theorem pt_b {σ0 σ : qS} (hl : (ln σ).length ≤ 95) : ∀ n, pt σ0 σ n ≤ 101 * n
  | 0 => Nat.le_refl _
  | n + 1 => by
    have ih := pt_b (σ0 := σ0) hl n
    have h1 : gk σ (n : Int) ≤ (ln σ).length := List.countP_le_length
    have h2 := bk_6 σ (n : Int)
    simp only [pt]
    split <;> omega
theorem pt_s {σ0 σ σ' : qS} {e : Int} {s : List Ms} (h : ∀ b : Int, 0 ≤ b → isdn σ0 b ≠ 0 → s.countP (isD e b) + (gk σ' b + bk σ' b) ≤ gk σ b + bk σ b) : ∀ n, pt σ0 σ' n + ds σ0 e s n ≤ pt σ0 σ n
  | 0 => Nat.le_refl _
  | n + 1 => by
    have ih := pt_s h n
    simp only [pt, ds]
    by_cases c : isdn σ0 (n : Int) = 0
    · rw [if_pos c, if_pos c, if_pos c]; omega
    · rw [if_neg c, if_neg c, if_neg c]
      have := h n (by omega) c
      omega
theorem ds_0 {σ0 : qS} {e : Int} {s : List Ms} : ∀ n, ds σ0 e s n = 0 → ∀ b : Nat, b < n → isdn σ0 b ≠ 0 → s.countP (isD e b) = 0
  | 0, _ => fun b hb => absurd hb (by omega)
  | n + 1, h => fun b hb hd => by
    simp only [ds] at h
    by_cases c : b = n
    · subst c
      rw [if_neg hd] at h
      omega
    · exact ds_0 n (by omega) b (by omega) hd
theorem UD_z {τ : Nat → qS} {L a b : Nat} (h : RNN L τ) (hb : b ≤ L) (hz : ZC τ a b) : MC τ a b := fun t t' t1 t2 t3 t4 hu => by
  obtain ⟨k, k0, k1, k2⟩ := hu
  have st : ∀ k ∈ stC, τ t' k = τ t k := fun k m => (run_st h _ (by omega) k m).trans (run_st h _ (by omega) k m).symm
  have hsp := spl_b (h.1 t (by omega)).1.1
  have e1 : isdn (τ t) k = 0 := by unfold isdn; rw [if_pos (by omega), if_pos k2]
  have e2 := (hz t' t3 t4 k k0 (by omega)).mpr ((hz t t1 t2 k k0 (by omega)).mp e1)
  refine ⟨k, k0, by rw [(st_c st).1]; exact k1, ?_⟩
  unfold isdn at e2
  rw [if_pos (by omega)] at e2
  apply Classical.byContradiction
  intro hn
  rw [if_neg hn] at e2
  exact absurd e2 (by decide)
theorem UD_m {σ : qS} (h : UD σ) : ¬ mapd σ := fun hm => by
  obtain ⟨k, k0, k1, k2⟩ := h
  exact hm k k0 k1 k2
theorem win2 {L V a : Nat} {τ : Nat → qS} (h : RNN L τ) (hk : ∀ t, t < 7 * L → t % 7 < 6 → ¬ LKs (τ (t + 1)) ((t % 7 : Nat) : Int)) (h1 : 32 ≤ a) (hL : a + 4445 * V ≤ L) (hz : ZC τ a (a + 4445 * V)) : ∃ c, a ≤ c ∧ c + V ≤ a + 4445 * V ∧ ∀ t, 7 * c + 224 ≤ t → t ≤ 7 * (c + V) → ∀ x ∈ ln (τ t), xw x 0 = 3 → isdn (τ (7 * a)) (xw x 3) = 0 := by
  obtain ⟨S, hS⟩ := SNC_ex h
  have dn : ∀ t, 7 * a ≤ t → t < 7 * (a + 4445 * V) → ∀ b : Int, 0 ≤ b → isdn (τ (7 * a)) b ≠ 0 → (S t).countP (isD (τ 0 31 0) b) + (gk (τ (t + 1)) b + bk (τ (t + 1)) b) ≤ gk (τ t) b + bk (τ t) b := fun t t1 t2 b b0 hb => by
    obtain ⟨c1, c2, c3, c4, -⟩ := hS t (by omega)
    rw [run_era h (by omega)] at c2 c3
    by_cases c : t % 7 = 6
    · have hs := h.2 t (by omega)
      rcases hs with ⟨e, -⟩ | ⟨-, hs⟩
      · omega
      · have nb : isdn (τ t) b ≠ 0 := by
          have := run_nk h hk (t := 7 * a) (by omega) b hb (t - 7 * a) (by omega)
          rw [show 7 * a + (t - 7 * a) = t by omega] at this
          exact this
        have g := (MT_m (run_ER h (by omega) (by omega)) (run_95 h (by omega) (by omega) (by omega)) (N7_run h hk (by omega) (by omega)) hs).2.1 b nb
        have z : (S t).countP (isD (τ 0 31 0) b) = 0 := by
          rw [List.countP_eq_zero]
          intro x hx hp
          have e1 := c4 (by omega) x hx
          have e2 := (of_decide_eq_true hp).2.1
          omega
        omega
    · have g := c2 b b0
      have z := (c3 (by omega)).1 b
      omega
  have st : ∀ t, 7 * a ≤ t → t < 7 * (a + 4445 * V) → pt (τ (7 * a)) (τ (t + 1)) 44 + ds (τ (7 * a)) (τ 0 31 0) (S t) 44 ≤ pt (τ (7 * a)) (τ t) 44 := fun t t1 t2 => pt_s (dn t t1 t2) 44
  have le7 : ∀ i, a ≤ i → i < a + 4445 * V → pt (τ (7 * a)) (τ (7 * (i + 1))) 44 ≤ pt (τ (7 * a)) (τ (7 * i)) 44 := fun i i1 i2 => by
    have := dec_le (f := fun t => pt (τ (7 * a)) (τ t) 44) (a := 7 * i) (b := 0) 7 (fun j j1 j2 => by have := st j (by omega) (by omega); omega)
    rw [show 7 * (i + 1) = 7 * i + 7 by omega]
    exact this
  obtain ⟨c, c1, c2, c3⟩ := dec_pig (f := fun r => pt (τ (7 * a)) (τ (7 * r)) 44) (V := V) 4444 a (fun i i1 i2 => le7 i i1 (by omega)) (by
    have := pt_b (σ0 := τ (7 * a)) (run_95 h (t := 7 * a) (by omega) (by omega) (by omega)) 44
    omega)
  refine ⟨c, c1, by omega, fun t t1 t2 x hx x3 => ?_⟩
  have d0 : ∀ u, 7 * c ≤ u → u < 7 * (c + V) → ds (τ (7 * a)) (τ 0 31 0) (S u) 44 = 0 := fun u u1 u2 => by
    have g1 := dec_le (f := fun t => pt (τ (7 * a)) (τ t) 44) (a := 7 * c) (b := 0) (u - 7 * c) (fun j j1 j2 => by have := st j (by omega) (by omega); omega)
    have g2 := dec_le (f := fun t => pt (τ (7 * a)) (τ t) 44) (a := u + 1) (b := 0) (7 * (c + V) - (u + 1)) (fun j j1 j2 => by have := st j (by omega) (by omega); omega)
    have g3 := st u (by omega) (by omega)
    simp only [show 7 * c + (u - 7 * c) = u by omega, show u + 1 + (7 * (c + V) - (u + 1)) = 7 * (c + V) by omega] at g1 g2 c3
    omega
  apply Classical.byContradiction
  intro hn
  have gs := h.1 t (by omega)
  have hE := run_ER h (t := t) (by omega) (by omega) x hx
  have hL' := (gs.1.2.2.2.2.2.2.2.1 x hx).2 hE
  have hr : 0 ≤ xw x 3 ∧ xw x 3 < 44 := by
    have hp := gs.1.1.2.2.2.2.2.1
    rcases hL' with ⟨-, e⟩ | ⟨e0, e⟩
    · rcases e with ⟨e, -⟩ | ⟨-, e⟩ | ⟨e, -⟩ | ⟨e, -⟩
      · omega
      · rcases e.2 with e | e <;> omega
      · omega
      · omega
    · rcases e with ⟨e, -⟩ | ⟨e, -⟩ | ⟨e, -⟩ <;> omega
  have hs := old_gone h (SNC_d hS) (t - 224) 224 (by omega) (by omega)
  rw [show t - 224 + 224 = t by omega] at hs
  have key := sns_m (S := S) (t0 := t - 224) (P := fun y => isD (τ 0 31 0) (xw x 3) y = false) 224 (fun u u1 u2 y hy => by
    have z := ds_0 44 (d0 u (by omega) (by omega)) (xw x 3).toNat (by omega) (by rw [show (((xw x 3).toNat : Nat) : Int) = xw x 3 by omega]; exact hn)
    rw [show (((xw x 3).toNat : Nat) : Int) = xw x 3 by omega, List.countP_eq_zero] at z
    have := z y hy
    simpa using this) x (hs.subset hx)
  unfold isD at key
  rw [run_era h (by omega)] at hE
  exact of_decide_eq_false key ⟨hE, x3, rfl⟩
theorem gp_run {L : Nat} {τ : Nat → qS} (h : RNN L τ) (hk : ∀ t, t < 7 * L → t % 7 < 6 → ¬ LKs (τ (t + 1)) ((t % 7 : Nat) : Int)) {t : Nat} (h1 : 448 ≤ t) (h2 : t ≤ 7 * L) (hu : ∀ u, t ≤ u + 224 → u ≤ t → UD (τ u)) : ¬ ∃ x ∈ ln (τ t), xw x 0 = 2 ∧ 38 ≤ xw x 2 := by
  have hex : ∀ t, ∃ s, t < 7 * L → TS ((t % 7 : Nat) : Int) (ln (τ t)) (ln (τ (t + 1))) s ∧ (224 ≤ t → ∀ x ∈ s, xw x 0 = 2 → 38 ≤ xw x 2 → mapd (τ (t + 1))) := fun t => by
    by_cases c : t < 7 * L
    · by_cases c2 : 224 ≤ t ∧ t % 7 = 6
      · rcases h.2 t c with ⟨e, -⟩ | ⟨e, hs⟩
        · omega
        · obtain ⟨s, s1, s2⟩ := (MT_m (run_ER h (by omega) (by omega)) (run_95 h (by omega) (by omega) (by omega)) (N7_run h hk (by omega) (by omega)) hs).2.2.2
          rw [← e] at s1
          exact ⟨s, fun _ => ⟨s1, fun _ x hx _ => (s2 x hx).2⟩⟩
      · obtain ⟨s, s1, s2⟩ := STP_7 (h.2 t c)
        exact ⟨s, fun _ => ⟨s1, fun e x hx e2 => by have := (s2 x hx).2 e2; omega⟩⟩
    · exact ⟨[], fun e => absurd e c⟩
  obtain ⟨S, hS⟩ := Classical.skolem.mp hex
  have hd : SND L τ S := fun t ht => (hS t ht).1
  have hs := old_gone h hd (t - 224) 224 (by omega) (by omega)
  rw [show t - 224 + 224 = t by omega] at hs
  rintro ⟨x, hx, e1, e2⟩
  refine sns_m (S := S) (t0 := t - 224) (P := fun y => ¬ (xw y 0 = 2 ∧ 38 ≤ xw y 2)) 224 (fun u u1 u2 y hy e => ?_) x (hs.subset hx) ⟨e1, e2⟩
  have hm := (hS u (by omega)).2 (by omega) y hy e.1 e.2
  exact UD_m (hu (u + 1) (by omega) (by omega)) hm
theorem QW {L V : Nat} {τ : Nat → qS} (h : RNN L τ) (hs : ∀ t, t ≤ 7 * L → psame (τ 0) (τ t)) (hk : ∀ t, t < 7 * L → t % 7 < 6 → ¬ LKs (τ (t + 1)) ((t % 7 : Nat) : Int)) (hV : V = 4400000100) (hL : 32 + 39 * (4445 * V) ≤ L) : False := by
  obtain ⟨a, a1, a2, a3⟩ := win1 h hs hk (V := 4445 * V) hL
  obtain ⟨c, c1, c2, c3⟩ := win2 h hk a1 (V := V) a2 a3
  have mc := UD_z h (by omega) a3
  refine QWa h (a := c + 64) (b := c + V) (by omega) (by omega) (by omega) ⟨fun r r1 r2 x hx => ?_, fun t t1 t2 t3 => ⟨hk t (by omega) t3, fun hf => ?_⟩⟩ (fun t t' b1 b2 b3 b4 => mc t t' (by omega) (by omega) (by omega) (by omega))
  · have hx' : x ∈ ln (τ (7 * r + 6)) := by
      obtain ⟨j, -, hj⟩ := hx
      have := List.mem_of_getElem? hj
      unfold mq at this
      exact (List.mem_filter.mp this).1
    rcases (MT_m (run_ER h (by omega) (by omega)) (run_95 h (by omega) (by omega) (by omega)) (N7_run h hk (by omega) (by omega)) (stp_mtk h (r := r) (by omega))).2.2.1 x hx with e | ⟨e1, e2⟩
    · exact e
    · exfalso
      have z := c3 (7 * r + 6) (by omega) (by omega) x hx' e1
      have gs := h.1 (7 * r + 6) (by omega)
      have hE := run_ER h (t := 7 * r + 6) (by omega) (by omega) x hx'
      have hL' := (gs.1.2.2.2.2.2.2.2.1 x hx').2 hE
      have hr : 0 ≤ xw x 3 ∧ xw x 3 < 44 := by
        have hp := gs.1.1.2.2.2.2.2.1
        rcases hL' with ⟨-, e⟩ | ⟨e0, e⟩
        · rcases e with ⟨e, -⟩ | ⟨-, e⟩ | ⟨e, -⟩ | ⟨e, -⟩
          · omega
          · rcases e.2 with e | e <;> omega
          · omega
          · omega
        · rcases e with ⟨e, -⟩ | ⟨e, -⟩ | ⟨e, -⟩ <;> omega
      exact e2 ((a3 (7 * r + 7) (by omega) (by omega) _ hr.1 hr.2).mpr z)
  · exact gp_run h hk (t := t) (by omega) (by omega) (fun u u1 u2 => mc (t + 1) u (by omega) (by omega) (by omega) (by omega) hf.1) hf.2

