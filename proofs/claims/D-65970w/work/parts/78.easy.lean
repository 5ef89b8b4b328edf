theorem l_count {RI : Nat → qS → Prop} (hR : RIf RI) {N : Nat} {σ : qS} (h : INVo RI N σ) (w : Int) : stp (INVo RI (N + 1)) (P_L_count 900 w 140 σ) (Q_L_count 900 w 140 σ) (P_D_count w) (Q_D_count w) := by
  refine ⟨⟨rfl, rfl, trivial⟩, fun r σ1 h1 => ⟨trivial, fun q σ2 h2 => ?_⟩⟩
  obtain ⟨b1, b2, b3, b4, b5, b6⟩ := h.1
  rcases h1 with ⟨q1, τ, ⟨a1, a2, rfl⟩, rfl, rfl⟩ | ⟨t, ⟨a1, rfl, rfl⟩, a2⟩
  · rcases h2 with ⟨g, -, -⟩ | ⟨-, rfl, rfl⟩
    · exact absurd a1 g
    refine ⟨su_s, fun _ => ?_, INV_f hR h (th_f _ _ _)⟩
    rw [su_k (by decide), su_s]
    refine a2.trans ?_
    have em : ∀ n : Nat, n ≤ 8 → dmd (su τ 140 0 q1) n = nmd τ n := by
      intro n
      induction n with
      | zero => intro _; rfl
      | succ n ih =>
        intro hn
        rw [dmd, nmd, ih (by omega), su_k (by decide), (b5 n (by omega) (by omega)).2.1]
    unfold cnt dcnt
    rw [em 8 (by omega)]
    simp (disch := decide) only [su_k]
    unfold cok at a1
    by_cases c1 : 20 ≤ w
    · rw [if_pos c1, if_pos c1, (b4 _ (by omega) (by omega)).2.1]
    · rw [if_neg c1, if_neg c1]
      by_cases c2 : 10 ≤ w
      · rw [if_pos c2, if_pos c2, (b5 (w - 10) (by omega) (by omega)).2.1]
      · rw [if_neg c2, if_neg c2, b1.2, b3.2.1, b6.1]
  · rcases h2 with ⟨-, rfl, rfl⟩ | ⟨g, -, -⟩
    · have : (1 : Int) = r := Option.some.inj a2
      refine ⟨by rw [su_s]; exact this, fun hr => by omega, INV_f hR h (th_f1 _ _)⟩
    · exact absurd g a1
theorem l_code {RI : Nat → qS → Prop} (hR : RIf RI) {N : Nat} {σ : qS} (h : INVo RI N σ) (o a : Int) : stp (INVo RI (N + 1)) (P_L_code 900 o a 140 σ) (Q_L_code 900 o a 140 σ) (P_D_code o a) (Q_D_code o a) := by
  obtain ⟨b1, b2, b3, b4, b5, b6⟩ := h.1
  refine ⟨⟨rfl, rfl, b3.1⟩, fun r σ1 h1 => ?_⟩
  rcases h1 with ⟨q1, τ, ⟨a1, a2, a3, a4, rfl⟩, rfl, rfl⟩ | ⟨t, ⟨rfl, a1⟩, a2⟩
  · have eN : su (su (su (su σ 3 (σ 5 0) o) 4 (σ 5 0) a) 5 0 (σ 5 0 + 1)) 140 0 q1 115 0 = σ 5 0 := by rw [su_k (by decide), su_k (by decide), su_k (by decide), su_k (by decide), b3.2.1]
    refine ⟨by unfold P_D_code; rw [eN]; exact b3.1, fun q σ2 h2 => ?_⟩
    have e2 : tcd (su (su (su (su σ 3 (σ 5 0) o) 4 (σ 5 0) a) 5 0 (σ 5 0 + 1)) 140 0 q1) o a = 0 := by
      unfold tcd
      rw [if_neg (fun hn => hn a1), eN, su_k (by decide), su_k (by decide), su_k (by decide), su_k (by decide), b1.2, a3, if_neg (by omega)]
    rcases h2 with ⟨g1, -, -⟩ | ⟨-, rfl, rfl⟩
    · omega
    rw [eN]
    have hk : ∀ x, x ∉ [3, 4, 5, 140, 118, 105, 107, 115] → su (su (su (su (su (su (su (su σ 3 (σ 5 0) o) 4 (σ 5 0) a) 5 0 (σ 5 0 + 1)) 140 0 q1) 118 0 0) 105 (σ 5 0) o) 107 (σ 5 0) a) 115 0 (σ 5 0 + 1) x = σ x := fun x m => by
      simp only [List.mem_cons, List.not_mem_nil, or_false, not_or] at m
      rw [su_k (by omega), su_k (by omega), su_k (by omega), su_k (by omega), su_k (by omega), su_k (by omega), su_k (by omega), su_k (by omega)]
    refine ⟨by rw [su_k (by decide), su_k (by decide), su_k (by decide), su_s], fun _ => ?_, INV_0 h (by rw [hk 26 (by decide)]; exact a3) (hk _ (by decide)) ⟨B1_k b1 (kp hk (by decide)), B2_k b2 (kp hk (by decide)), ?_, B4_k b4 (kp hk (by decide)), B5_k b5 (kp hk (by decide)), B6_k b6 (kp hk (by decide))⟩ (IDL_k (h.2.2.1 a3) (kp hk (by decide)))⟩
    · rw [su_k (by decide), su_k (by decide), su_k (by decide), su_k (by decide), su_s, a4]
    · unfold B3
      simp (disch := decide) only [su_k, su_s]
      obtain ⟨c1, c2, c3⟩ := b3
      refine ⟨by omega, trivial, fun i i0 i1 => ?_⟩
      rw [su_e, su_e, su_e, su_e]
      by_cases e : i = σ 5 0
      · rw [if_pos e, if_pos e, if_pos e, if_pos e]; exact ⟨rfl, rfl, a1⟩
      · rw [if_neg e, if_neg e, if_neg e, if_neg e]; exact c3 i i0 (by omega)
  · refine ⟨by unfold P_D_code; rw [b3.2.1]; exact b3.1, fun q σ2 h2 => ?_⟩
    have e2 : tcd σ1 o a = r ∧ 0 < r := by
      unfold tcd
      rcases a1 with ⟨c1, rfl⟩ | ⟨c1, c2, rfl⟩
      · unfold codok at c1; rw [if_pos c1]; have := Option.some.inj a2; omega
      · rw [if_neg (fun hn => hn c1), if_pos ?_]
        · have := Option.some.inj a2; omega
        · have := b3.1; have := b3.2.1; have := b1.2
          rcases c2 with c2 | c2
          · right; omega
          · left; omega
    rcases h2 with ⟨-, rfl, rfl⟩ | ⟨g1, -, -⟩
    · rw [e2.1]; exact ⟨su_s, fun hr => by omega, INV_f hR h (th_f1 _ _)⟩
    · omega
theorem l_job {RI : Nat → qS → Prop} (hR : RIf RI) {N : Nat} {σ : qS} (h : INVo RI N σ) (j a b o n : Int) : stpV (INVo RI (N + 1)) (P_L_job 900 j a b o n σ) (Q_L_job 900 j a b o n σ) (P_D_job j a b o n) (Q_D_job j a b o n) := by
  obtain ⟨b1, b2, b3, b4, b5, b6⟩ := h.1
  refine ⟨⟨rfl, trivial⟩, fun r σ1 h1 => ⟨trivial, fun σ2 h2 => ?_⟩⟩
  have mk : ∀ j, 0 ≤ j ∧ j ≤ 7 → σ 104 (3 * j) = σ 8 (j * 3) ∧ σ 104 (3 * j + 2) = σ 8 (j * 3 + 2) ∧ 0 ≤ σ 8 (j * 3) ∧ 0 ≤ σ 8 (j * 3 + 2) := fun j hj => by
    have p1 := b4 (3 * j) (by omega) (by omega)
    have p2 := b4 (3 * j + 2) (by omega) (by omega)
    rw [show j * 3 = 3 * j by omega]
    exact ⟨p1.2.1, p2.2.1, p1.1.2.1.1, p2.1.2.1.1⟩
  rcases h1 with ⟨⟨a1, a2, a3, rfl⟩, rfl⟩ | ⟨t, ⟨rfl, a1⟩, a2⟩
  · have hkm : ∀ x, x ∉ [9, 10, 11, 12, 13] → su (su (su (su (su σ 9 j 1) 10 j a) 11 j b) 12 j o) 13 j n x = σ x := fun x m => by
      simp only [List.mem_cons, List.not_mem_nil, or_false, not_or] at m
      rw [su_k (by omega), su_k (by omega), su_k (by omega), su_k (by omega), su_k (by omega)]
    obtain ⟨m1, m2, m3, m4⟩ := mk j a1
    have e2 : tjb (su (su (su (su (su σ 9 j 1) 10 j a) 11 j b) 12 j o) 13 j n) j a b o n = 0 := by
      unfold tjb
      rw [hkm 104 (by decide), hkm 119 (by decide), if_neg (fun hn => hn a1), if_neg (fun hn => hn ⟨a2.1, a2.2.2.1, a2.2.1, a2.2.2.2⟩), if_neg (by obtain ⟨x1, x2, x3⟩ := a3; have := b1.2; omega)]
    rcases h2 with ⟨g1, -⟩ | ⟨-, rfl⟩
    · omega
    generalize hτ : su (su (su (su (su σ 9 j 1) 10 j a) 11 j b) 12 j o) 13 j n = τ at *
    have hk : ∀ x, x ∉ [9, 10, 11, 12, 13, 118, 113, 108, 109, 110, 111] → su (su (su (su (su (su τ 118 0 0) 113 j 1) 108 j a) 109 j b) 110 j o) 111 j n x = σ x := fun x m => by
      simp only [List.mem_cons, List.not_mem_nil, or_false, not_or] at m
      rw [su_k (by omega), su_k (by omega), su_k (by omega), su_k (by omega), su_k (by omega), su_k (by omega), hkm x (by simp only [List.mem_cons, List.not_mem_nil, or_false, not_or]; omega)]
    have hb0 : σ 26 0 = 0 := a3.2.2
    refine ⟨by simp (disch := decide) only [su_k, su_s], INV_0 h (by rw [hk 26 (by decide)]; exact hb0) (hk _ (by decide)) ⟨B1_k b1 (kp hk (by decide)), B2_k b2 (kp hk (by decide)), B3_k b3 (kp hk (by decide)), B4_k b4 (kp hk (by decide)), ?_, B6_k b6 (kp hk (by decide))⟩ (IDL_k (h.2.2.1 hb0) (kp hk (by decide)))⟩
    intro x x0 x1
    obtain ⟨c1, c2, c3, c4⟩ := b5 x x0 x1
    rw [hk 8 (by decide)]
    subst hτ
    simp (disch := decide) only [su_k]
    simp only [su_e]
    by_cases e : x = j
    · subst e
      simp only [if_true]
      exact ⟨Or.inr trivial, trivial, ⟨trivial, trivial, trivial, trivial⟩, fun _ => ⟨a2, a3.1, a3.2.1⟩⟩
    · simp only [e, if_false]
      exact ⟨c1, c2, c3, c4⟩
  · have e2 : tjb σ1 j a b o n = r ∧ 0 < r := by
      unfold tjb
      rcases a1 with ⟨c1, rfl⟩ | ⟨c1, c2, rfl⟩ | ⟨c1, c2, c3, rfl⟩
      · rw [if_pos c1]; have := Option.some.inj a2; omega
      · rw [if_neg (fun hn => hn c1), if_pos (fun hn => c2 ⟨hn.1, hn.2.2.1, hn.2.1, hn.2.2.2⟩)]; have := Option.some.inj a2; omega
      · rw [if_neg (fun hn => hn c1), if_neg (fun hn => hn ⟨c2.1, c2.2.2.1, c2.2.1, c2.2.2.2⟩), if_pos ?_]
        · have := Option.some.inj a2; omega
        · obtain ⟨m1, m2, m3, m4⟩ := mk j c1
          unfold jbmay at c3
          have := b1.2
          omega
    rcases h2 with ⟨-, rfl⟩ | ⟨g1, -⟩
    · rw [e2.1]; exact ⟨su_s, INV_f hR h (th_f1 _ _)⟩
    · omega
theorem l_program {RI : Nat → qS → Prop} (hR : RIf RI) {N : Nat} {σ : qS} (h : INVo RI N σ) (j w : Int) : stp (INVo RI (N + 1)) (P_L_program 900 j w 140 σ) (Q_L_program 900 j w 140 σ) (P_D_program j w) (Q_D_program j w) := by
  obtain ⟨b1, b2, b3, b4, b5, b6⟩ := h.1
  refine ⟨⟨rfl, rfl, b3.1⟩, fun r σ1 h1 => ?_⟩
  have pw : ∀ τ : qS, τ 115 0 = σ 5 0 → (dwok τ w ↔ pwok σ w) := fun τ e => by unfold dwok pwok; rw [e]
  have pj : ∀ τ : qS, τ 115 = σ 115 → τ 105 = σ 105 → τ 107 = σ 107 → (djok τ ↔ pjok σ) := fun τ e1 e2 e3 => by
    unfold djok pjok dj1 pj1
    rw [e1, e2, e3, b3.2.1]
    constructor
    · intro hh k k0 k1; obtain ⟨x1, x2, -⟩ := b3.2.2 k k0 k1; rw [← x1, ← x2]; exact hh k k0 k1
    · intro hh k k0 k1; obtain ⟨x1, x2, -⟩ := b3.2.2 k k0 k1; rw [x1, x2]; exact hh k k0 k1
  rcases h1 with ⟨q1, τ, ⟨a1, a2, a3, a4, a5, rfl⟩, rfl, rfl⟩ | ⟨t, ⟨rfl, a1⟩, a2⟩
  · have hw : 0 ≤ w ∧ w ≤ 2 := a2.1
    have hkm : ∀ x, x ∉ [6, 7, 8, 5, 140] → su (su (su (pgm σ (j * 3 + w) (σ 5 0)) 8 (j * 3 + w) (σ 5 0)) 5 0 0) 140 0 q1 x = σ x := fun x m => by
      simp only [List.mem_cons, List.not_mem_nil, or_false, not_or] at m
      rw [su_k (by omega), su_k (by omega), su_k (by omega)]
      unfold pgm
      rw [ra_k (by omega), ra_k (by omega)]
    generalize hτ : su (su (su (pgm σ (j * 3 + w) (σ 5 0)) 8 (j * 3 + w) (σ 5 0)) 5 0 0) 140 0 q1 = τ at *
    have eN : τ 115 = σ 115 := hkm _ (by decide)
    have eO : τ 105 = σ 105 := hkm _ (by decide)
    have eA : τ 107 = σ 107 := hkm _ (by decide)
    have e140 : τ 140 0 = q1 := by rw [← hτ, su_s]
    refine ⟨by unfold P_D_program; rw [eN, b3.2.1]; exact b3.1, fun q σ2 h2 => ?_⟩
    have hok : dwok τ w ∧ djok τ := ⟨(pw τ (by rw [eN, b3.2.1])).mpr a2, (pj τ eN eO eA).mpr a3⟩
    have hon : τ 119 0 = 0 := by rw [hkm 119 (by decide), b1.2, a4]
    rcases h2 with ⟨g, -, -⟩ | ⟨-, g, -, -⟩ | ⟨-, -, g, -, -⟩ | ⟨-, -, -, rfl, rfl⟩
    · exact absurd a1 g
    · exact absurd hok g
    · exact absurd hon g
    rw [eN, b3.2.1]
    have hk : ∀ x, x ∉ [6, 7, 8, 5, 140, 118, 103, 106, 104, 115] → su (su (dgm (su τ 118 0 0) (3 * j + w) (σ 5 0)) 104 (3 * j + w) (σ 5 0)) 115 0 0 x = σ x := fun x m => by
      simp only [List.mem_cons, List.not_mem_nil, or_false, not_or] at m
      rw [su_k (by omega), su_k (by omega)]
      unfold dgm
      rw [ra_k (by omega), ra_k (by omega), su_k (by omega), hkm x (by simp only [List.mem_cons, List.not_mem_nil, or_false, not_or]; omega)]
    have hj3 : 0 ≤ j * 3 + w ∧ j * 3 + w < 24 := by omega
    have hcd := b3.1
    -- the mill's rows
    have mL : ∀ x, τ 8 x = if x = j * 3 + w then σ 5 0 else σ 8 x := fun x => by rw [← hτ, su_k (by decide), su_k (by decide), su_e]; unfold pgm; rw [ra_k (by decide), ra_k (by decide)]
    have mO : ∀ x, τ 6 x = if (j * 3 + w) * 40 ≤ x ∧ x < (j * 3 + w) * 40 + σ 5 0 then σ 3 (x - (j * 3 + w) * 40) else σ 6 x := fun x => by rw [← hτ, su_k (by decide), su_k (by decide), su_k (by decide)]; unfold pgm; rw [ra_k (by decide), ra_e]
    have mA : ∀ x, τ 7 x = if (j * 3 + w) * 40 ≤ x ∧ x < (j * 3 + w) * 40 + σ 5 0 then σ 4 (x - (j * 3 + w) * 40) else σ 7 x := fun x => by rw [← hτ, su_k (by decide), su_k (by decide), su_k (by decide)]; unfold pgm; rw [ra_e, ra_k (by decide)]
    generalize hρ : su (su (dgm (su τ 118 0 0) (3 * j + w) (σ 5 0)) 104 (3 * j + w) (σ 5 0)) 115 0 0 = ρ at *
    have rL : ρ 8 = τ 8 := by rw [← hρ, su_k (by decide), su_k (by decide)]; unfold dgm; rw [ra_k (by decide), ra_k (by decide), su_k (by decide)]
    have rO : ρ 6 = τ 6 := by rw [← hρ, su_k (by decide), su_k (by decide)]; unfold dgm; rw [ra_k (by decide), ra_k (by decide), su_k (by decide)]
    have rA : ρ 7 = τ 7 := by rw [← hρ, su_k (by decide), su_k (by decide)]; unfold dgm; rw [ra_k (by decide), ra_k (by decide), su_k (by decide)]
    have rC : ρ 5 0 = 0 := by rw [← hρ, su_k (by decide), su_k (by decide)]; unfold dgm; rw [ra_k (by decide), ra_k (by decide), su_k (by decide), ← hτ, su_k (by decide), su_s]
    have r140 : ρ 140 0 = q1 := by rw [← hρ, su_k (by decide), su_k (by decide)]; unfold dgm; rw [ra_k (by decide), ra_k (by decide), su_k (by decide), e140]
    have rT : ρ 118 0 = 0 := by rw [← hρ, su_k (by decide), su_k (by decide)]; unfold dgm; rw [ra_k (by decide), ra_k (by decide), su_s]
    have rN : ρ 115 0 = 0 := by rw [← hρ, su_s]
    have dL : ∀ x, ρ 104 x = if x = 3 * j + w then σ 5 0 else σ 104 x := fun x => by
      rw [← hρ, su_k (by decide), su_e]; unfold dgm; rw [ra_k (by decide), ra_k (by decide), su_k (by decide), hkm 104 (by decide)]
    have dO : ∀ x, ρ 103 x = if 40 * (3 * j + w) ≤ x ∧ x < 40 * (3 * j + w) + σ 5 0 then σ 105 (x - 40 * (3 * j + w)) else σ 103 x := fun x => by
      rw [← hρ, su_k (by decide), su_k (by decide)]; unfold dgm; rw [ra_k (by decide), ra_e, su_k (by decide), su_k (by decide), eO, hkm 103 (by decide)]
    have dA : ∀ x, ρ 106 x = if 40 * (3 * j + w) ≤ x ∧ x < 40 * (3 * j + w) + σ 5 0 then σ 107 (x - 40 * (3 * j + w)) else σ 106 x := fun x => by
      rw [← hρ, su_k (by decide), su_k (by decide)]; unfold dgm; rw [ra_e, ra_k (by decide), su_k (by decide), su_k (by decide), eA, hkm 106 (by decide)]
    refine ⟨rT, fun _ => by rw [r140]; exact a5, INV_0 h (by rw [hk 26 (by decide)]; exact a4) (hk _ (by decide)) ⟨B1_k b1 (kp hk (by decide)), B2_k b2 (kp hk (by decide)), ⟨by rw [rC]; omega, by rw [rC, rN], fun i i0 i1 => by rw [rC] at i1; omega⟩, ?_, ?_, B6_k b6 (kp hk (by decide))⟩ (IDL_k (h.2.2.1 a4) (kp hk (by decide)))⟩
    · intro p p0 p1
      obtain ⟨⟨q1, q2, q3⟩, q4, q5⟩ := b4 p p0 p1
      unfold progok
      simp only [rL, rO, rA, mL, dL]
      by_cases e : p = j * 3 + w
      · rw [if_pos e, if_pos (by omega)]
        refine ⟨⟨⟨p0, p1⟩, hcd, fun i i0 i1 => ?_⟩, rfl, fun i i0 i1 => ?_⟩
        · obtain ⟨-, -, x3⟩ := b3.2.2 i i0 i1
          have x4 := a3 i i0 i1
          unfold pj1 at x4
          rw [mO, mA, if_pos (by omega), if_pos (by omega), show p * 40 + i - (j * 3 + w) * 40 = i by rw [e]; omega]
          exact ⟨x3.1, x3.2.1, fun hx => ⟨(x3.2.2 hx).1, x4 hx⟩⟩
        · obtain ⟨x1, x2, -⟩ := b3.2.2 i i0 i1
          rw [mO, mA, dO, dA, if_pos (by omega), if_pos (by omega), if_pos (by omega), if_pos (by omega), show p * 40 + i - (j * 3 + w) * 40 = i by rw [e]; omega, show 40 * p + i - 40 * (3 * j + w) = i by omega]
          exact ⟨x1, x2⟩
      · rw [if_neg e, if_neg (by omega)]
        refine ⟨⟨q1, q2, fun i i0 i1 => ?_⟩, q4, fun i i0 i1 => ?_⟩
        · rw [mO, mA, if_neg (by omega), if_neg (by omega)]
          exact q3 i i0 i1
        · rw [mO, mA, dO, dA, if_neg (by omega), if_neg (by omega), if_neg (by omega), if_neg (by omega)]
          exact q5 i i0 i1
    · intro x x0 x1
      obtain ⟨c1, c2, c3, c4⟩ := b5 x x0 x1
      rw [hk 9 (by decide), hk 113 (by decide), hk 108 (by decide), hk 10 (by decide), hk 109 (by decide), hk 11 (by decide), hk 110 (by decide), hk 12 (by decide), hk 111 (by decide), hk 13 (by decide), rL, mL, mL]
      refine ⟨c1, c2, c3, fun hm => ?_⟩
      obtain ⟨y1, y2, y3⟩ := c4 hm
      have hpos := a2.2
      refine ⟨y1, ?_, ?_⟩
      · split
        · rcases hpos with hp | hp
          · exact hp
          · omega
        · exact y2
      · split
        · rcases hpos with hp | hp
          · exact hp
          · omega
        · exact y3
  · refine ⟨by unfold P_D_program; rw [b3.2.1]; exact b3.1, fun q σ2 h2 => ?_⟩
    have ew := pw σ1 b3.2.1
    have ej := pj σ1 rfl rfl rfl
    have eb := b1.2
    rcases h2 with ⟨g, rfl, rfl⟩ | ⟨g0, g, rfl, rfl⟩ | ⟨g0, g, g1, rfl, rfl⟩ | ⟨g0, g, g1, -, -⟩
    · rcases a1 with ⟨c1, rfl⟩ | ⟨c1, -⟩ | ⟨c1, -⟩
      · have : (1 : Int) = r := Option.some.inj a2
        exact ⟨by rw [su_s]; exact this, fun hr => by omega, INV_f hR h (th_f1 _ _)⟩
      · exact absurd c1 g
      · exact absurd c1 g
    · rcases a1 with ⟨c1, -⟩ | ⟨-, c2, rfl⟩ | ⟨-, c2, c3, -⟩
      · exact absurd g0 c1
      · have : (2 : Int) = r := Option.some.inj a2
        exact ⟨by rw [su_s]; exact this, fun hr => by omega, INV_f hR h (th_f1 _ _)⟩
      · exact absurd ⟨ew.mpr c2, ej.mpr c3⟩ g
    · rcases a1 with ⟨c1, -⟩ | ⟨-, c2, -⟩ | ⟨-, c2, c3, c4, rfl⟩
      · exact absurd g0 c1
      · exact absurd ⟨ew.mp g.1, ej.mp g.2⟩ c2
      · have : (3 : Int) = r := Option.some.inj a2
        exact ⟨by rw [su_s]; exact this, fun hr => by omega, INV_f hR h (th_f1 _ _)⟩
    · rcases a1 with ⟨c1, -⟩ | ⟨-, c2, -⟩ | ⟨-, c2, c3, c4, -⟩
      · exact absurd g0 c1
      · exact absurd ⟨ew.mp g.1, ej.mp g.2⟩ c2
      · exact absurd (by rw [← eb]; exact g1) c4

