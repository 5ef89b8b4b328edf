def KD (q : Ms → Bool) (x : Ms) (L : List Ms) (m : Nat) : Prop := (∃ p n, L = p ++ x :: n ∧ n.countP q ≤ m) ∨ L.countP q ≤ m
theorem KD_mo {q : Ms → Bool} {x : Ms} {L : List Ms} {m m' : Nat} (h : KD q x L m) (hm : m ≤ m') : KD q x L m' := by
  rcases h with ⟨p, n, e, h⟩ | h
  · exact Or.inl ⟨p, n, e, by omega⟩
  · exact Or.inr (by omega)
theorem kd_tl {q : Ms → Bool} {x : Ms} {L : List Ms} {m : Nat} (h : KD q x L m) : KD q x (tl95 L) m := by
  rcases h with ⟨p, n, e, h⟩ | h
  · subst e
    unfold tl95
    split
    · cases p with
      | nil => exact Or.inr (by simpa using h)
      | cons b p => exact Or.inl ⟨p, n, rfl, h⟩
    · exact Or.inl ⟨p, n, rfl, h⟩
  · exact Or.inr (Nat.le_trans (cp_tl q L) h)
theorem kd_ap {q : Ms → Bool} {x : Ms} {L : List Ms} {m : Nat} (h : KD q x L m) (s : List Ms) : KD q x (L ++ s) (m + s.countP q) := by
  rcases h with ⟨p, n, e, h⟩ | h
  · exact Or.inl ⟨p, n ++ s, by rw [e, List.append_assoc]; rfl, by rw [List.countP_append]; omega⟩
  · exact Or.inr (by rw [List.countP_append]; omega)
theorem kd_er {q : Ms → Bool} {w : Int} {x z : Ms} {L : List Ms} {m i : Nat} (h : KD q x L m) (hi : L.findIdx? (fun m => m.1 == w) = some i) (hz : L[i]? = some z) : rdX w x L ∨ KD q x (L.eraseIdx i) m := by
  rcases h with ⟨p, n, e, h⟩ | h
  · subst e
    obtain ⟨i0, i1, i2⟩ := List.findIdx?_eq_some_iff_getElem.mp hi
    by_cases c1 : i < p.length
    · exact Or.inr (Or.inl ⟨p.eraseIdx i, n, List.eraseIdx_append_of_lt_length c1 _, h⟩)
    · by_cases c2 : i = p.length
      · left
        subst c2
        have e : (p ++ x :: n)[p.length]? = some x := by rw [List.getElem?_append_right (Nat.le_refl _)]; simp
        refine ⟨?_, p.length, hi, e⟩
        rw [List.getElem_append_right (Nat.le_refl _)] at i1
        simpa using i1
      · right; left
        refine ⟨p, n.eraseIdx (i - p.length - 1), ?_, Nat.le_trans (List.eraseIdx_sublist _ _).countP_le h⟩
        rw [List.eraseIdx_append_of_length_le (by omega)]
        obtain ⟨k, hk⟩ : ∃ k, i - p.length = k + 1 := ⟨i - p.length - 1, by omega⟩
        rw [hk, List.eraseIdx_cons_succ]
        rfl
  · exact Or.inr (Or.inr (Nat.le_trans (List.eraseIdx_sublist _ _).countP_le h))
def q26 (q : Ms → Bool) : Prop := ∀ x, xw x 0 = 2 ∨ xw x 0 = 6 → q x = false
theorem kd_RD {q : Ms → Bool} (hq : q26 q) {w : Int} {x : Ms} {σ σ' : qS} {m : Nat} (h : RD w σ σ') (hx : KD q x (ln σ) m) : rdX w x (ln σ) ∨ KD q x (ln σ') m := by
  obtain ⟨-, -, -, d⟩ := h
  rcases d with ⟨d1, d2, -⟩ | ⟨i, z, d1, d2, d⟩
  · exact Or.inr (by rw [d2]; exact hx)
  · rcases kd_er hx d1 d2 with g | g
    · exact Or.inl g
    · right
      rcases d with ⟨-, d, -⟩ | ⟨-, -, d, -⟩ | ⟨-, -, -, b, kv, d⟩ | ⟨-, -, d, -⟩
      · rw [d]; exact g
      · rw [d]; exact g
      · rw [d]
        have q6 : q ((xw z 5, [6, σ 31 0, xw z 2, xw z 4, b, xw z 3], kv) : Ms) = false := hq _ (Or.inr rfl)
        have := kd_ap (kd_tl g) [((xw z 5, [6, σ 31 0, xw z 2, xw z 4, b, xw z 3], kv) : Ms)]
        rw [List.countP_cons, List.countP_nil, q6] at this
        simpa using this
      · rw [d]; exact g
theorem kd_HR {q : Ms → Bool} (hq : q26 q) {x : Ms} {σ σ' : qS} {m : Nat} (h : HR σ σ') (hx : KD q x (ln σ) m) (h6 : x.1 ≠ 6) : KD q x (ln σ') m := by
  obtain ⟨-, -, d⟩ := h
  rcases d with ⟨d1, d2, -⟩ | ⟨i, z, d1, d2, d⟩
  · rw [d2]; exact hx
  · rcases kd_er hx d1 d2 with g | g
    · exact absurd g.1 h6
    · rcases d with ⟨-, d, -⟩ | ⟨-, -, -, -, fi, en, -, d⟩ | ⟨-, -, d, -⟩ | ⟨-, -, d, -⟩
      · rw [d]; exact g
      · rcases d with ⟨d, -⟩ | ⟨t, -, -, -, -, -, kv, d⟩
        · rw [d]; exact g
        · rw [d]
          have q2 : q ((xw z 2, [2, σ 31 0, t, 0, 0, 0], kv) : Ms) = false := hq _ (Or.inl rfl)
          have := kd_ap (kd_tl g) [((xw z 2, [2, σ 31 0, t, 0, 0, 0], kv) : Ms)]
          rw [List.countP_cons, List.countP_nil, q2] at this
          simpa using this
      · rw [d]; exact g
      · rw [d]; exact g
theorem kd_ac {q : Ms → Bool} {x : Ms} {L L' s : List Ms} {m : Nat} (h : KD q x L m) (hr : acop L L' s) : KD q x L' (m + s.countP q) := by
  rcases hr with ⟨rfl, rfl⟩ | ⟨y, rfl, rfl⟩ | ⟨y, y', rfl, rfl⟩
  · simpa using h
  · exact kd_ap (kd_tl h) [y]
  · have k1 := kd_ap (kd_tl (kd_ap (kd_tl h) [y])) [y']
    refine KD_mo k1 ?_
    rw [show ([y, y'] : List Ms) = [y] ++ [y'] from rfl, List.countP_append]
    omega
theorem ACT_q {w : Int} {σ σ' : qS} (hj : jobok σ) (h : ACT w σ σ') : ∃ s, acop (ln σ) (ln σ') s ∧ (∀ e v : Int, s.countP (isA e v) ≤ (if v = w ∧ σ' 62 w = -1 ∧ σ' 65 w = 1 then 1 else 0)) ∧ s.countP t5 ≤ (if 38 ≤ σ' 62 w ∧ σ' 65 w = 1 then 1 else 0) := by
  have hsp := spl_b hj
  obtain ⟨-, -, -, c⟩ := h
  have zA : ∀ {to ty a b c d : Int} {kv : List Pr} {e0 : Int} (e v : Int), ty ≠ 1 → isA e v ((to, [ty, e0, a, b, c, d], kv) : Ms) = false := fun {to ty a b c d kv e0} e v hn => by
    unfold isA; exact decide_eq_false (fun z => hn z.2.1)
  have z5 : ∀ {to ty a b c d : Int} {kv : List Pr} {e0 : Int}, ty ≠ 5 → t5 ((to, [ty, e0, a, b, c, d], kv) : Ms) = false := fun {to ty a b c d kv e0} hn => by
    unfold t5; exact beq_eq_false_iff_ne.mpr hn
  have nl : ln σ' = ln σ → ∃ s, acop (ln σ) (ln σ') s ∧ (∀ e v : Int, s.countP (isA e v) ≤ (if v = w ∧ σ' 62 w = -1 ∧ σ' 65 w = 1 then 1 else 0)) ∧ s.countP t5 ≤ (if 38 ≤ σ' 62 w ∧ σ' 65 w = 1 then 1 else 0) := fun e => ⟨[], Or.inl ⟨e, rfl⟩, fun _ _ => by simp, by simp⟩
  have tl : ∀ {to ty a b c d}, ty ≠ 1 → ty ≠ 5 → TL to ty a b c d σ σ' → ∃ s, acop (ln σ) (ln σ') s ∧ (∀ e v : Int, s.countP (isA e v) ≤ (if v = w ∧ σ' 62 w = -1 ∧ σ' 65 w = 1 then 1 else 0)) ∧ s.countP t5 ≤ (if 38 ≤ σ' 62 w ∧ σ' 65 w = 1 then 1 else 0) := fun {to ty a b c d} n1 n5 t => by
    obtain ⟨kv, t⟩ := t
    refine ⟨_, Or.inr (Or.inl ⟨_, t, rfl⟩), fun e v => ?_, ?_⟩
    · rw [List.countP_cons, List.countP_nil, zA e v n1]; simp
    · rw [List.countP_cons, List.countP_nil, z5 n5]; simp
  rcases c with ⟨-, -, c1, c2, c⟩ | ⟨c0, c⟩ | ⟨c0, c⟩
  · rcases c with ⟨c3, kv, c⟩ | ⟨-, c⟩
    · refine ⟨_, Or.inr (Or.inl ⟨_, c, rfl⟩), fun e v => ?_, ?_⟩
      · rw [List.countP_cons, List.countP_nil]
        by_cases ev : v = w
        · rw [if_pos (⟨ev, c1, by rw [c2, c3]; rfl⟩ : v = w ∧ σ' 62 w = -1 ∧ σ' 65 w = 1)]
          split <;> omega
        · have : isA e v ((6, [1, σ 31 0, w, 0, 0, 0], kv) : Ms) = false := by
            unfold isA; exact decide_eq_false (fun z => ev z.2.2.symm)
          rw [this]; simp
      · rw [List.countP_cons, List.countP_nil, z5 (by decide)]; simp
    · exact nl c
  · rcases c with ⟨-, -, f, b, c⟩ | ⟨-, f, -, ⟨b, c⟩, -⟩ | ⟨-, -, f, c⟩ | ⟨-, -, -, -, -, c⟩
    · exact tl (by decide) (by decide) c
    · exact tl (by decide) (by decide) c
    · exact tl (by decide) (by decide) c
    · exact nl c
  · rcases c with ⟨-, -, f, c⟩ | ⟨-, -, -, -, -, c⟩ | ⟨-, -, -, -, -, c, -⟩ | ⟨-, -, -, -, -, c1, -, -, c5, c⟩ | ⟨-, -, f, -, c⟩
    · exact tl (by decide) (by decide) c
    · exact nl c
    · exact nl c
    · have i5 : (if 38 ≤ σ' 62 w ∧ σ' 65 w = 1 then 1 else 0) = 1 := if_pos ⟨by omega, c5⟩
      rcases c with ⟨-, -, kv, c⟩ | ⟨-, -, kv, kv', c⟩
      · refine ⟨_, Or.inr (Or.inl ⟨_, c, rfl⟩), fun e v => ?_, ?_⟩
        · rw [List.countP_cons, List.countP_nil, zA e v (by decide)]; simp
        · rw [i5, List.countP_cons, List.countP_nil]; split <;> omega
      · refine ⟨_, Or.inr (Or.inr ⟨_, _, c, rfl⟩), fun e v => ?_, ?_⟩
        · rw [List.countP_cons, List.countP_cons, List.countP_nil, zA e v (by decide), zA e v (by decide)]; simp
        · rw [i5, List.countP_cons, List.countP_cons, List.countP_nil, z5 (ty := 7) (by decide)]
          simp only [Bool.false_eq_true, if_false]
          split <;> omega
    · rcases c with ⟨-, -, c⟩ | ⟨-, c⟩
      · exact tl (by decide) (by decide) c
      · exact tl (by decide) (by decide) c
def gsm (g : Nat → Nat) (s : Nat) : Nat → Nat
  | 0 => 0
  | k + 1 => gsm g s k + (if (s + k) % 7 = 6 then 0 else g (s + k))
theorem kd_run {L : Nat} {τ : Nat → qS} (h : RNN L τ) {q : Ms → Bool} (hq : q26 q) {x : Ms} {b : Nat} (hb : b < 6) (hx : x.1 = b) {s m : Nat} (h0 : KD q x (ln (τ s)) m) {g : Nat → Nat} (hg : ∀ t, t < 7 * L → t % 7 < 6 → ∀ σ3, jobok σ3 → ACT ((t % 7 : Nat) : Int) σ3 (τ (t + 1)) → ∃ s', acop (ln σ3) (ln (τ (t + 1))) s' ∧ s'.countP q ≤ g t) : ∀ k, s + k ≤ 7 * L → (∃ j, j < k ∧ (s + j) % 7 = b ∧ rdT b x (τ (s + j)) (τ (s + j + 1))) ∨ KD q x (ln (τ (s + k))) (m + gsm g s k)
  | 0, _ => Or.inr (by simpa [gsm] using h0)
  | k + 1, hk => by
    rcases kd_run h hq hb hx h0 hg k (by omega) with ⟨j, j1, j2, j3⟩ | ih
    · exact Or.inl ⟨j, by omega, j2, j3⟩
    have hs := h.2 (s + k) (by omega)
    rw [show s + (k + 1) = s + k + 1 by omega]
    simp only [gsm]
    rcases hs with ⟨hw, hs⟩ | ⟨e6, hs⟩
    · have n6 : ¬ (s + k) % 7 = 6 := by omega
      rw [if_neg n6]
      obtain ⟨σ1, σ2, σ3, r1, r2, r3, ac, ⟨j1, j2, j3, j4⟩, a1, a2, a3, a4⟩ := hs
      have wd : WD (((s + k) % 7 : Nat) : Int) (τ (s + k)) σ1 σ2 σ3 (τ (s + k + 1)) := ⟨r1, r2, r3, ac, ⟨j1, j2, j3, j4⟩, a1, a2, a3, a4⟩
      have fin : (rdX (((s + k) % 7 : Nat) : Int) x (ln (τ (s + k))) ∨ rdX (((s + k) % 7 : Nat) : Int) x (ln σ1) ∨ rdX (((s + k) % 7 : Nat) : Int) x (ln σ2)) → (∃ j, j < k + 1 ∧ (s + j) % 7 = b ∧ rdT b x (τ (s + j)) (τ (s + j + 1))) ∨ KD q x (ln (τ (s + k + 1))) (m + (gsm g s k + g (s + k))) := fun gg => by
        have e1 : x.1 = (((s + k) % 7 : Nat) : Int) := by rcases gg with gg | gg | gg <;> exact gg.1
        have e2 : (s + k) % 7 = b := by rw [hx] at e1; omega
        refine Or.inl ⟨k, by omega, e2, ?_⟩
        rw [e2] at wd gg
        exact ⟨σ1, σ2, σ3, wd, gg⟩
      rcases kd_RD hq r1 ih with gg | k1
      · exact fin (Or.inl gg)
      rcases kd_RD hq r2 k1 with gg | k2
      · exact fin (Or.inr (Or.inl gg))
      rcases kd_RD hq r3 k2 with gg | k3
      · exact fin (Or.inr (Or.inr gg))
      obtain ⟨s', s1, s2⟩ := hg (s + k) (by omega) (by omega) σ3 j3.1 ac
      exact Or.inr (KD_mo (kd_ac k3 s1) (by omega))
    · have n6 : (s + k) % 7 = 6 := by omega
      rw [if_pos n6]
      obtain ⟨σ1, σ2, r1, r2, r3, -⟩ := hs
      have h6 : x.1 ≠ 6 := by rw [hx]; omega
      have k0 : KD q x (ln (clk (τ (s + k)))) (m + gsm g s k) := by rw [l_clk]; exact ih
      exact Or.inr (KD_mo (kd_HR hq r3 (kd_HR hq r2 (kd_HR hq r1 k0 h6) h6) h6) (by omega))
def gA (τ : Nat → qS) (v : Nat) (t : Nat) : Nat := if t % 7 = v ∧ τ (t + 1) 62 v = -1 ∧ τ (t + 1) 65 v = 1 then 1 else 0
def gF (τ : Nat → qS) (t : Nat) : Nat := if 38 ≤ τ (t + 1) 62 ((t % 7 : Nat) : Int) ∧ τ (t + 1) 65 ((t % 7 : Nat) : Int) = 1 then 1 else 0
theorem gA_7 {L : Nat} {τ : Nat → qS} (h : RNN L τ) {v : Nat} (hv : v < 6) {t : Nat} (ht : t % 7 = v) (hl : t + 8 ≤ 7 * L) : gA τ v t + gA τ v (t + 7) ≤ 1 := by
  unfold gA
  by_cases c1 : t % 7 = v ∧ τ (t + 1) 62 v = -1 ∧ τ (t + 1) 65 v = 1
  · rw [if_pos c1, if_neg (fun c2 => ak_sp h hv ht hl c1.2 c2.2)]
    exact Nat.le_refl _
  · rw [if_neg c1]; split <;> omega
theorem gA_0 {τ : Nat → qS} {v t : Nat} (h : t % 7 ≠ v) : gA τ v t = 0 := by unfold gA; exact if_neg (fun e => h e.1)
theorem gA_14 {L : Nat} {τ : Nat → qS} (h : RNN L τ) {v : Nat} (hv : v < 6) (s k : Nat) (hk : s + k + 14 ≤ 7 * L) : gsm (gA τ v) s (k + 14) ≤ gsm (gA τ v) s k + 1 := by
  rw [show k + 14 = k + 1 + 1 + 1 + 1 + 1 + 1 + 1 + 1 + 1 + 1 + 1 + 1 + 1 + 1 by omega]
  simp only [gsm]
  have le : ∀ t, (if t % 7 = 6 then 0 else gA τ v t) ≤ gA τ v t := fun t => by split <;> omega
  have two := fun j (hj : j < 7) (e : (s + k + j) % 7 = v) => gA_7 h hv (t := s + k + j) e (by omega)
  have hc : (s + k) % 7 = v ∨ (s + k + 1) % 7 = v ∨ (s + k + 2) % 7 = v ∨ (s + k + 3) % 7 = v ∨ (s + k + 4) % 7 = v ∨ (s + k + 5) % 7 = v ∨ (s + k + 6) % 7 = v := by omega
  have z : ∀ j, (s + k + j) % 7 ≠ v → gA τ v (s + k + j) = 0 := fun j e => gA_0 e
  have l0 := le (s + k)
  have l1 := le (s + (k + 1))
  have l2 := le (s + (k + 1 + 1))
  have l3 := le (s + (k + 1 + 1 + 1))
  have l4 := le (s + (k + 1 + 1 + 1 + 1))
  have l5 := le (s + (k + 1 + 1 + 1 + 1 + 1))
  have l6 := le (s + (k + 1 + 1 + 1 + 1 + 1 + 1))
  have l7 := le (s + (k + 1 + 1 + 1 + 1 + 1 + 1 + 1))
  have l8 := le (s + (k + 1 + 1 + 1 + 1 + 1 + 1 + 1 + 1))
  have l9 := le (s + (k + 1 + 1 + 1 + 1 + 1 + 1 + 1 + 1 + 1))
  have l10 := le (s + (k + 1 + 1 + 1 + 1 + 1 + 1 + 1 + 1 + 1 + 1))
  have l11 := le (s + (k + 1 + 1 + 1 + 1 + 1 + 1 + 1 + 1 + 1 + 1 + 1))
  have l12 := le (s + (k + 1 + 1 + 1 + 1 + 1 + 1 + 1 + 1 + 1 + 1 + 1 + 1))
  have l13 := le (s + (k + 1 + 1 + 1 + 1 + 1 + 1 + 1 + 1 + 1 + 1 + 1 + 1 + 1))
  have z0 := z 0; have z1 := z 1; have z2 := z 2; have z3 := z 3; have z4 := z 4; have z5 := z 5; have z6 := z 6
  have z7 := z 7; have z8 := z 8; have z9 := z 9; have z10 := z 10; have z11 := z 11; have z12 := z 12; have z13 := z 13
  simp only [Nat.add_assoc, Nat.reduceAdd, Nat.add_zero] at *
  rcases hc with c | c | c | c | c | c | c
  · have e := two 0 (by omega) (by simpa using c)
    simp only [Nat.add_zero, Nat.zero_add] at e
    have := z1 (by omega); have := z2 (by omega); have := z3 (by omega); have := z4 (by omega); have := z5 (by omega); have := z6 (by omega)
    have := z8 (by omega); have := z9 (by omega); have := z10 (by omega); have := z11 (by omega); have := z12 (by omega); have := z13 (by omega)
    omega
  · have e := two 1 (by omega) c
    simp only [Nat.reduceAdd] at e
    have := z0 (by omega); have := z2 (by omega); have := z3 (by omega); have := z4 (by omega); have := z5 (by omega); have := z6 (by omega)
    have := z7 (by omega); have := z9 (by omega); have := z10 (by omega); have := z11 (by omega); have := z12 (by omega); have := z13 (by omega)
    omega
  · have e := two 2 (by omega) c
    simp only [Nat.reduceAdd] at e
    have := z0 (by omega); have := z1 (by omega); have := z3 (by omega); have := z4 (by omega); have := z5 (by omega); have := z6 (by omega)
    have := z7 (by omega); have := z8 (by omega); have := z10 (by omega); have := z11 (by omega); have := z12 (by omega); have := z13 (by omega)
    omega
  · have e := two 3 (by omega) c
    simp only [Nat.reduceAdd] at e
    have := z0 (by omega); have := z1 (by omega); have := z2 (by omega); have := z4 (by omega); have := z5 (by omega); have := z6 (by omega)
    have := z7 (by omega); have := z8 (by omega); have := z9 (by omega); have := z11 (by omega); have := z12 (by omega); have := z13 (by omega)
    omega
  · have e := two 4 (by omega) c
    simp only [Nat.reduceAdd] at e
    have := z0 (by omega); have := z1 (by omega); have := z2 (by omega); have := z3 (by omega); have := z5 (by omega); have := z6 (by omega)
    have := z7 (by omega); have := z8 (by omega); have := z9 (by omega); have := z10 (by omega); have := z12 (by omega); have := z13 (by omega)
    omega
  · have e := two 5 (by omega) c
    simp only [Nat.reduceAdd] at e
    have := z0 (by omega); have := z1 (by omega); have := z2 (by omega); have := z3 (by omega); have := z4 (by omega); have := z6 (by omega)
    have := z7 (by omega); have := z8 (by omega); have := z9 (by omega); have := z10 (by omega); have := z11 (by omega); have := z13 (by omega)
    omega
  · have e := two 6 (by omega) c
    simp only [Nat.reduceAdd] at e
    have := z0 (by omega); have := z1 (by omega); have := z2 (by omega); have := z3 (by omega); have := z4 (by omega); have := z5 (by omega)
    have := z7 (by omega); have := z8 (by omega); have := z9 (by omega); have := z10 (by omega); have := z11 (by omega); have := z12 (by omega)
    omega
theorem gA_r {L : Nat} {τ : Nat → qS} (h : RNN L τ) {v : Nat} (hv : v < 6) (s : Nat) : ∀ r, s + 14 * r ≤ 7 * L → gsm (gA τ v) s (14 * r) ≤ r
  | 0, _ => Nat.le_refl _
  | r + 1, hr => by
    have ih := gA_r h hv s r (by omega)
    have := gA_14 h hv s (14 * r) (by omega)
    rw [show 14 * (r + 1) = 14 * r + 14 by omega]
    omega
theorem gsm_m (g : Nat → Nat) (s k : Nat) : ∀ j, gsm g s k ≤ gsm g s (k + j)
  | 0 => Nat.le_refl _
  | j + 1 => by
    have := gsm_m g s k j
    rw [show k + (j + 1) = k + j + 1 by omega]
    simp only [gsm]
    omega
theorem q26_A (e v : Int) : q26 (isA e v) := fun x hx => by
  unfold isA
  exact decide_eq_false (fun z => by have := z.2.1; omega)
theorem q26_5 : q26 t5 := fun x hx => by
  unfold t5
  exact beq_eq_false_iff_ne.mpr (by omega)
theorem KX_KD {q : Ms → Bool} {L : List Ms} {x : Ms} {p : List Ms} (e : L = p ++ [x]) : KD q x L 0 := Or.inl ⟨p, [], e, by simp⟩
theorem age_A {L : Nat} {τ : Nat → qS} (h : RNN L τ) {x : Ms} {b : Nat} (hb : b < 6) (hx : x.1 = b) {s : Nat} {p : List Ms} (h0 : ln (τ s) = p ++ [x]) (e : Int) {v : Nat} (hv : v < 6) (k : Nat) (hk : s + k ≤ 7 * L) : (∃ j, j < k ∧ (s + j) % 7 = b ∧ rdT b x (τ (s + j)) (τ (s + j + 1))) ∨ KD (isA e v) x (ln (τ (s + k))) (gsm (gA τ v) s k) := by
  have := kd_run h (q26_A e v) hb hx (KX_KD h0) (g := gA τ v) (fun t h1 h2 σ3 hj ac => by
    obtain ⟨s', s1, s2, -⟩ := ACT_q hj ac
    refine ⟨s', s1, Nat.le_trans (s2 e v) ?_⟩
    unfold gA
    by_cases c : (v : Int) = ((t % 7 : Nat) : Int) ∧ τ (t + 1) 62 ((t % 7 : Nat) : Int) = -1 ∧ τ (t + 1) 65 ((t % 7 : Nat) : Int) = 1
    · have ev : t % 7 = v := by omega
      rw [if_pos c, if_pos ⟨ev, by rw [← ev]; exact c.2.1, by rw [← ev]; exact c.2.2⟩]
      exact Nat.le_refl _
    · rw [if_neg c]; exact Nat.zero_le _) k hk
  rcases this with g | g
  · exact Or.inl g
  · exact Or.inr (by simpa using g)
theorem age_F {L : Nat} {τ : Nat → qS} (h : RNN L τ) {x : Ms} {b : Nat} (hb : b < 6) (hx : x.1 = b) {s : Nat} {p : List Ms} (h0 : ln (τ s) = p ++ [x]) (k : Nat) (hk : s + k ≤ 7 * L) : (∃ j, j < k ∧ (s + j) % 7 = b ∧ rdT b x (τ (s + j)) (τ (s + j + 1))) ∨ KD t5 x (ln (τ (s + k))) (gsm (gF τ) s k) := by
  have := kd_run h q26_5 hb hx (KX_KD h0) (g := gF τ) (fun t h1 h2 σ3 hj ac => by
    obtain ⟨s', s1, -, s2⟩ := ACT_q hj ac
    exact ⟨s', s1, s2⟩) k hk
  rcases this with g | g
  · exact Or.inl g
  · exact Or.inr (by simpa using g)

