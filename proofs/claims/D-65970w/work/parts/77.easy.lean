theorem INV_0 {RI : Nat → qS → Prop} {N : Nat} {σ σ' : qS} (h : INVo RI N σ) (hb : σ' 26 0 = 0) (he : σ' 31 = σ 31) (hB : BR σ') (hI : IDL σ') : INVo RI (N + 1) σ' :=
  ⟨hB, by rw [he]; have := h.2.1; omega, fun _ => hI, fun h1 => by omega⟩
theorem kp {T S : List Nat} {σ σ' : qS} (hk : ∀ k, k ∉ T → σ' k = σ k) (hd : ∀ k ∈ S, k ∉ T) : ∀ k ∈ S, σ' k = σ k := fun k m => hk k (hd k m)
theorem l_clear {RI : Nat → qS → Prop} (hR : RIf RI) {N : Nat} {σ : qS} (h : INVo RI N σ) (f : Int) : stp (INVo RI (N + 1)) (P_L_clear 900 f 140 σ) (Q_L_clear 900 f 140 σ) (P_D_clear f) (Q_D_clear f) := by
  refine ⟨⟨rfl, rfl, trivial⟩, fun r σ1 h1 => ⟨trivial, fun q σ2 h2 => ?_⟩⟩
  have hB := h.1.1
  rcases h1 with ⟨q1, τ, ⟨a1, a2, a3, rfl⟩, rfl, rfl⟩ | ⟨t, ⟨rfl, a1⟩, a2⟩
  · have e1 : su (su σ 2 f 0) 140 0 q1 119 0 = 0 := by rw [su_k (by decide), su_k (by decide), hB.2, a2]
    have e2 : tsz (su (su σ 2 f 0) 140 0 q1) f = 0 := by unfold tsz; rw [if_neg (by omega), if_neg (by rw [e1]; decide)]
    rcases h2 with ⟨g1, -, -⟩ | ⟨-, rfl, rfl⟩
    · omega
    have hk : ∀ k, k ∉ [2, 140, 118, 102] → su (su (su (su σ 2 f 0) 140 0 q1) 118 0 0) 102 f 0 k = σ k := fun k m => by
      simp only [List.mem_cons, List.not_mem_nil, or_false, not_or] at m
      rw [su_k (by omega), su_k (by omega), su_k (by omega), su_k (by omega)]
    obtain ⟨b1, b2, b3, b4, b5, b6⟩ := h.1
    have hI := h.2.2.1 a2
    refine ⟨by rw [su_k (by decide), su_s], fun _ => ?_, INV_0 h (by rw [hk 26 (by decide)]; exact a2) (hk _ (by decide)) ⟨B1_k b1 (kp hk (by decide)), ⟨?_, ?_⟩, B3_k b3 (kp hk (by decide)), B4_k b4 (kp hk (by decide)), B5_k b5 (kp hk (by decide)), B6_k b6 (kp hk (by decide))⟩ ?_⟩
    · rw [su_k (by decide), su_k (by decide), su_s, su_k (by decide), su_k (by decide), a3, (hI f (by omega) (by omega)).1]
    · intro x x0 x1
      rw [su_k (by decide), su_k (by decide), su_k (by decide), su_e]
      split
      · omega
      · exact b2.1 x x0 x1
    · intro x x0 x1
      rw [su_e]
      split
      · omega
      · rw [su_k (by decide), su_k (by decide), su_k (by decide)]; exact b2.2 x x0 x1
    · intro x x0 x1
      obtain ⟨i1, i2⟩ := hI x x0 x1
      rw [su_e, su_k (by decide), su_k (by decide), su_k (by decide), su_k (by decide), su_k (by decide), su_k (by decide), su_e]
      rw [hk 100 (by decide), hk 0 (by decide), hk 101 (by decide), hk 1 (by decide)]
      by_cases e : x = f
      · rw [if_pos e, if_pos e]; exact ⟨rfl, fun i j0 j1 => by omega⟩
      · rw [if_neg e, if_neg e]; exact ⟨i1, i2⟩
  · have e2 : tsz σ1 f = r ∧ 0 < r := by
      unfold tsz
      rcases a1 with ⟨b1, rfl⟩ | ⟨b1, b2, rfl⟩
      · rw [if_pos b1]; have := Option.some.inj a2; omega
      · rw [if_neg (fun h => h b1), if_pos (by rw [hB.2]; exact b2)]; have := Option.some.inj a2; omega
    rcases h2 with ⟨-, rfl, rfl⟩ | ⟨g1, -, -⟩
    · rw [e2.1]; exact ⟨su_s, fun hr => by omega, INV_f hR h (th_f1 _ _)⟩
    · omega
theorem l_told {RI : Nat → qS → Prop} (hR : RIf RI) {N : Nat} {σ : qS} (h : INVo RI N σ) (f i v : Int) : stp (INVo RI (N + 1)) (P_L_told 900 f i v 140 σ) (Q_L_told 900 f i v 140 σ) (P_D_told f i v) (Q_D_told f i v) := by
  have hB := h.1.1
  refine ⟨⟨rfl, rfl, h.1.2.1.1⟩, fun r σ1 h1 => ?_⟩
  rcases h1 with ⟨q1, τ, ⟨a1, a2, a3, rfl, a4⟩, rfl, rfl⟩ | ⟨t, ⟨rfl, a1⟩, a2⟩
  · refine ⟨fun x x0 x1 => by rw [su_k (by decide)]; exact h.1.2.1.2 x x0 x1, fun q σ2 h2 => ?_⟩
    obtain ⟨rfl, h2⟩ := h2
    obtain ⟨i1, i2⟩ := (h.2.2.1 a2) f (by omega) (by omega)
    have e2 : ttl (su τ 140 0 q1) f i = 0 := by unfold ttl; rw [su_k (by decide), su_k (by decide), if_neg (by omega), if_neg (by rw [hB.2, a2]; decide), if_neg (by rw [i1]; omega)]
    rw [e2] at h2 ⊢
    rcases h2 with ⟨g, -⟩ | ⟨-, rfl⟩
    · omega
    refine ⟨su_s, fun _ => ?_, INV_f hR h (th_f _ _ _)⟩
    obtain ⟨j1, j2⟩ := i2 i (by omega) (by omega)
    rw [su_k (by decide), su_s, su_k (by decide), su_k (by decide), j1, j2, a4]
  · refine ⟨h.1.2.1.2, fun q σ2 h2 => ?_⟩
    obtain ⟨rfl, h2⟩ := h2
    have e2 : ttl σ1 f i = r ∧ 0 < r := by
      unfold ttl
      rcases a1 with ⟨b1, rfl⟩ | ⟨b1, b2, rfl⟩ | ⟨b1, b2, b3, rfl⟩
      · rw [if_pos b1]; have := Option.some.inj a2; omega
      · rw [if_neg (fun h => h b1), if_pos (by rw [hB.2]; exact b2)]; have := Option.some.inj a2; omega
      · rw [if_neg (fun h => h b1), if_neg (by rw [hB.2, b2]; decide), if_pos (by rw [((h.2.2.1 b2) f (by omega) (by omega)).1]; exact b3)]; have := Option.some.inj a2; omega
    rw [e2.1]
    exact ⟨su_s, fun hr => by omega, INV_f hR h (th_f1 _ _)⟩
theorem l_drop {RI : Nat → qS → Prop} (hR : RIf RI) {N : Nat} {σ : qS} (h : INVo RI N σ) (j : Int) : stpZ (INVo RI (N + 1)) (P_L_drop 900 j 140 σ) (Q_L_drop 900 j 140 σ) (P_D_drop j) (Q_D_drop j) := by
  refine ⟨⟨rfl, rfl, trivial⟩, fun r σ1 h1 => ⟨trivial, fun q σ2 h2 => ?_⟩⟩
  have hB := h.1.1
  rcases h1 with ⟨q1, τ, ⟨a1, a2, a3, rfl⟩, rfl, rfl⟩ | ⟨t, ⟨rfl, a1⟩, a2⟩
  · generalize hv : (if q1 = 0 then (0 : Int) else 1) = v at *
    have e2 : tdr (su (su σ 9 j 0) 140 0 v) j = 0 := by unfold tdr; rw [su_k (by decide), su_k (by decide), if_neg (by omega), if_neg (by rw [hB.2, a2]; decide)]
    rcases h2 with ⟨g1, -, -⟩ | ⟨-, rfl, rfl⟩
    · omega
    have hk : ∀ k, k ∉ [9, 140, 118, 113] → su (su (su (su σ 9 j 0) 140 0 v) 118 0 0) 113 j 0 k = σ k := fun k m => by
      simp only [List.mem_cons, List.not_mem_nil, or_false, not_or] at m
      rw [su_k (by omega), su_k (by omega), su_k (by omega), su_k (by omega)]
    obtain ⟨b1, b2, b3, b4, b5, b6⟩ := h.1
    refine ⟨by rw [su_k (by decide), su_s], fun _ => ?_, INV_0 h (by rw [hk 26 (by decide)]; exact a2) (hk _ (by decide)) ⟨B1_k b1 (kp hk (by decide)), B2_k b2 (kp hk (by decide)), B3_k b3 (kp hk (by decide)), B4_k b4 (kp hk (by decide)), ?_, B6_k b6 (kp hk (by decide))⟩ (IDL_k (h.2.2.1 a2) (kp hk (by decide)))⟩
    · rw [su_k (by decide), su_k (by decide), su_s, su_k (by decide), su_k (by decide), (b5 j (by omega) (by omega)).2.1, ← a3, hv]
    · intro x x0 x1
      obtain ⟨c1, c2, c3, c4⟩ := b5 x x0 x1
      rw [hk 108 (by decide), hk 10 (by decide), hk 109 (by decide), hk 11 (by decide), hk 110 (by decide), hk 12 (by decide), hk 111 (by decide), hk 13 (by decide), hk 8 (by decide)]
      rw [su_k (by decide), su_k (by decide), su_k (by decide), su_e, su_e, su_k (by decide), su_k (by decide), su_k (by decide)]
      by_cases e : x = j
      · rw [if_pos e, if_pos e]; exact ⟨Or.inl rfl, rfl, c3, fun h => by omega⟩
      · rw [if_neg e, if_neg e]; exact ⟨c1, c2, c3, c4⟩
  · have e2 : tdr σ1 j = r ∧ 0 < r := by
      unfold tdr
      rcases a1 with ⟨b1, rfl⟩ | ⟨b1, b2, rfl⟩
      · rw [if_pos b1]; have := Option.some.inj a2; omega
      · rw [if_neg (fun h => h b1), if_pos (by rw [hB.2]; exact b2)]; have := Option.some.inj a2; omega
    rcases h2 with ⟨-, rfl, rfl⟩ | ⟨g1, -, -⟩
    · rw [e2.1]; exact ⟨su_s, fun hr => by omega, INV_f hR h (th_f1 _ _)⟩
    · omega
theorem l_record {RI : Nat → qS → Prop} (hR : RIf RI) {N : Nat} {σ : qS} (h : INVo RI N σ) (f k v : Int) : stp (INVo RI (N + 1)) (P_L_record 900 f k v 140 σ) (Q_L_record 900 f k v 140 σ) (P_D_record f k v) (Q_D_record f k v) := by
  have hB := h.1.1
  refine ⟨⟨rfl, rfl, h.1.2.1.1⟩, fun r σ1 h1 => ?_⟩
  rcases h1 with ⟨q1, τ, ⟨a1, a2, a3, a4, rfl⟩, rfl, rfl⟩ | ⟨t, ⟨rfl, a1⟩, a2⟩
  · have eD : ∀ x, su (su (su (su σ 0 (f * 300 + σ 2 f) k) 1 (f * 300 + σ 2 f) v) 2 f (σ 2 f + 1)) 140 0 q1 102 x = σ 102 x := fun x => by rw [su_k (by decide), su_k (by decide), su_k (by decide), su_k (by decide)]
    have eO : su (su (su (su σ 0 (f * 300 + σ 2 f) k) 1 (f * 300 + σ 2 f) v) 2 f (σ 2 f + 1)) 140 0 q1 119 0 = 0 := by rw [su_k (by decide), su_k (by decide), su_k (by decide), su_k (by decide), hB.2, a2]
    refine ⟨fun x x0 x1 => by rw [eD]; exact h.1.2.1.2 x x0 x1, fun q σ2 h2 => ?_⟩
    have hI := h.2.2.1 a2
    obtain ⟨i1, i2⟩ := hI f (by omega) (by omega)
    have hsz := h.1.2.1.1 f (by omega) (by omega)
    have e2 : trc (su (su (su (su σ 0 (f * 300 + σ 2 f) k) 1 (f * 300 + σ 2 f) v) 2 f (σ 2 f + 1)) 140 0 q1) f = 0 := by unfold trc; rw [if_neg (by omega), eD, eO, if_neg (by rw [i1]; omega)]
    rcases h2 with ⟨g1, -, -⟩ | ⟨-, rfl, rfl⟩
    · omega
    rw [eD]
    have hk : ∀ x, x ∉ [0, 1, 2, 140, 118, 100, 101, 102] → su (su (su (su (su (su (su (su σ 0 (f * 300 + σ 2 f) k) 1 (f * 300 + σ 2 f) v) 2 f (σ 2 f + 1)) 140 0 q1) 118 0 0) 100 (300 * f + σ 102 f) k) 101 (300 * f + σ 102 f) v) 102 f (σ 102 f + 1) x = σ x := fun x m => by
      simp only [List.mem_cons, List.not_mem_nil, or_false, not_or] at m
      rw [su_k (by omega), su_k (by omega), su_k (by omega), su_k (by omega), su_k (by omega), su_k (by omega), su_k (by omega), su_k (by omega)]
    obtain ⟨b1, b2, b3, b4, b5, b6⟩ := h.1
    refine ⟨by rw [su_k (by decide), su_k (by decide), su_k (by decide), su_s], fun _ => ?_, INV_0 h (by rw [hk 26 (by decide)]; exact a2) (hk _ (by decide)) ⟨B1_k b1 (kp hk (by decide)), ⟨?_, ?_⟩, B3_k b3 (kp hk (by decide)), B4_k b4 (kp hk (by decide)), B5_k b5 (kp hk (by decide)), B6_k b6 (kp hk (by decide))⟩ ?_⟩
    · rw [su_k (by decide), su_k (by decide), su_k (by decide), su_k (by decide), su_s, a4, i1]
    · intro x x0 x1
      rw [su_k (by decide), su_k (by decide), su_k (by decide), su_k (by decide), su_k (by decide), su_e]
      split
      · omega
      · rw [su_k (by decide), su_k (by decide)]; exact b2.1 x x0 x1
    · intro x x0 x1
      rw [su_e]
      split
      · omega
      · rw [su_k (by decide), su_k (by decide), su_k (by decide), eD]; exact b2.2 x x0 x1
    · intro x x0 x1
      obtain ⟨j1, j2⟩ := hI x x0 x1
      have hx := b2.1 x x0 x1
      have hd := b2.2 x x0 x1
      rw [su_e, su_k (show 102 ≠ 101 by decide), su_k (show 102 ≠ 100 by decide), su_k (show 102 ≠ 118 by decide), eD]
      rw [su_k (show 2 ≠ 102 by decide), su_k (show 2 ≠ 101 by decide), su_k (show 2 ≠ 100 by decide), su_k (show 2 ≠ 118 by decide), su_k (show 2 ≠ 140 by decide), su_e, su_k (show 2 ≠ 1 by decide), su_k (show 2 ≠ 0 by decide)]
      rw [su_k (show 100 ≠ 102 by decide), su_k (show 100 ≠ 101 by decide), su_k (show 101 ≠ 102 by decide)]
      rw [su_k (show 0 ≠ 102 by decide), su_k (show 0 ≠ 101 by decide), su_k (show 0 ≠ 100 by decide), su_k (show 0 ≠ 118 by decide), su_k (show 0 ≠ 140 by decide), su_k (show 0 ≠ 2 by decide), su_k (show 0 ≠ 1 by decide)]
      rw [su_k (show 1 ≠ 102 by decide), su_k (show 1 ≠ 101 by decide), su_k (show 1 ≠ 100 by decide), su_k (show 1 ≠ 118 by decide), su_k (show 1 ≠ 140 by decide), su_k (show 1 ≠ 2 by decide)]
      refine ⟨?_, fun i k0 k1 => ?_⟩
      · by_cases e : x = f
        · rw [if_pos e, if_pos e, i1]
        · rw [if_neg e, if_neg e]; exact j1
      · rw [su_e, su_e, su_k (show 100 ≠ 118 by decide), su_k (show 100 ≠ 140 by decide), su_k (show 100 ≠ 2 by decide), su_k (show 100 ≠ 1 by decide), su_k (show 100 ≠ 0 by decide), su_e, su_k (show 101 ≠ 100 by decide), su_k (show 101 ≠ 118 by decide), su_k (show 101 ≠ 140 by decide), su_k (show 101 ≠ 2 by decide), su_e, su_k (show 101 ≠ 1 by decide), su_k (show 101 ≠ 0 by decide), su_k (show 1 ≠ 0 by decide)]
        by_cases e : x = f
        · rw [if_pos e] at k1
          subst e
          by_cases e2 : i = σ 2 x
          · rw [if_pos (by omega), if_pos (by omega), if_pos (by omega), if_pos (by omega)]; exact ⟨rfl, rfl⟩
          · rw [if_neg (by omega), if_neg (by omega), if_neg (by omega), if_neg (by omega)]; exact j2 i k0 (by omega)
        · rw [if_neg e] at k1
          rw [if_neg (by omega), if_neg (by omega), if_neg (by omega), if_neg (by omega)]; exact j2 i k0 k1
  · refine ⟨h.1.2.1.2, fun q σ2 h2 => ?_⟩
    have e2 : trc σ1 f = r ∧ 0 < r := by
      unfold trc
      rcases a1 with ⟨b1, rfl⟩ | ⟨b1, b2, rfl⟩
      · rw [if_pos b1]; have := Option.some.inj a2; omega
      · rw [if_neg (fun h => h b1), if_pos ?_]
        · have := Option.some.inj a2; omega
        · by_cases hb : σ1 26 0 = 0
          · have i1 := ((h.2.2.1 hb) f (by omega) (by omega)).1
            have hs := h.1.2.1.1 f (by omega) (by omega)
            rcases b2 with b2 | b2
            · exact absurd hb b2
            · exact Or.inl (by omega)
          · exact Or.inr (by rw [hB.2]; exact hb)
    rcases h2 with ⟨-, rfl, rfl⟩ | ⟨g1, -, -⟩
    · rw [e2.1]; exact ⟨su_s, fun hr => by omega, INV_f hR h (th_f1 _ _)⟩
    · omega

