def isT (e v : Int) (x : Ms) : Bool := decide (xw x 1 = e ∧ xw x 0 = 2 ∧ x.1 = v)
def ca (σ : qS) (v : Int) : Nat := (ln σ).countP (isA (σ 31 0) v)
theorem rd_ca {w : Int} {L L' s : List Ms} (p : Ms → Bool) (h : rdop w L L' s) : L'.countP p ≤ L.countP p + s.countP p := by
  rcases h with ⟨-, rfl, rfl⟩ | ⟨i, -, h⟩
  · simp
  · have h1 := (List.eraseIdx_sublist L i).countP_le (p := p)
    rcases h with ⟨rfl, rfl⟩ | ⟨y, rfl, rfl⟩
    · simpa using h1
    · have h2 := cp_tl p (L.eraseIdx i)
      rw [List.countP_append]
      omega
theorem ac_ca {L L' s : List Ms} (p : Ms → Bool) (h : acop L L' s) : L'.countP p ≤ L.countP p + s.countP p := by
  rcases h with ⟨rfl, rfl⟩ | ⟨y, rfl, rfl⟩ | ⟨y, y', rfl, rfl⟩
  · simp
  · have h2 := cp_tl p L
    rw [List.countP_append]
    omega
  · have h2 := cp_tl p L
    have h3 := cp_tl p (tl95 L ++ [y])
    rw [List.countP_append] at h3 ⊢
    rw [List.countP_cons, List.countP_nil] at h3 ⊢
    rw [List.countP_cons, List.countP_cons, List.countP_nil]
    omega
theorem c6_0 {s : List Ms} (h : ∀ x ∈ s, xw x 0 = 6) (p : Ms → Bool) (hp : ∀ x, p x = true → xw x 0 ≠ 6) : s.countP p = 0 := by
  rw [List.countP_eq_zero]
  intro x hx hpx
  exact hp x hpx (h x hx)
theorem HR_c {σ σ' : qS} (h : HR σ σ') : ∃ s, rdop 6 (ln σ) (ln σ') s ∧ (∀ x ∈ s, xw x 0 = 2) ∧ (∀ k, gk σ' k + bk σ' k ≤ gk σ k + bk σ k + s.countP (isG (σ 31 0) k)) ∧ ∀ v, ca σ' v + s.countP (isT (σ 31 0) v) ≤ ca σ v := by
  obtain ⟨-, hk, c⟩ := h
  have he : σ' 31 = σ 31 := hk _ (by decide)
  have ht : σ' 62 = σ 62 := hk _ (by decide)
  have hb : ∀ k, bk σ' k = bk σ k := fun k => by unfold bk b1; rw [ht]
  rcases c with ⟨c1, c2, -⟩ | ⟨i, x, c1, c2, c⟩
  · refine ⟨[], Or.inl ⟨c1, c2, rfl⟩, fun x hx => absurd hx (by simp), fun k => ?_, fun v => ?_⟩
    · rw [hb]; unfold gk; rw [c2, he]; omega
    · unfold ca; rw [c2, he, List.countP_nil]; omega
  · have er : ln σ' = (ln σ).eraseIdx i → ∃ s, rdop 6 (ln σ) (ln σ') s ∧ (∀ x ∈ s, xw x 0 = 2) ∧ (∀ k, gk σ' k + bk σ' k ≤ gk σ k + bk σ k + s.countP (isG (σ 31 0) k)) ∧ ∀ v, ca σ' v + s.countP (isT (σ 31 0) v) ≤ ca σ v := fun e => by
      refine ⟨[], Or.inr ⟨i, c1, Or.inl ⟨e, rfl⟩⟩, fun x hx => absurd hx (by simp), fun k => ?_, fun v => ?_⟩
      · have := (List.eraseIdx_sublist (ln σ) i).countP_le (p := isG (σ 31 0) k)
        rw [hb]; unfold gk; rw [e, he]; omega
      · have := (List.eraseIdx_sublist (ln σ) i).countP_le (p := isA (σ 31 0) v)
        unfold ca; rw [e, he, List.countP_nil]; omega
    rcases c with ⟨-, c, -⟩ | ⟨d0, d1, -, -, fi, en, -, c⟩ | ⟨-, -, c, -⟩ | ⟨-, -, c, -⟩
    · exact er c
    · rcases c with ⟨c, -⟩ | ⟨t, -, -, -, -, -, kv, c⟩
      · exact er c
      · refine ⟨_, Or.inr ⟨i, c1, Or.inr ⟨_, c, rfl⟩⟩, fun y hy => by rw [List.mem_singleton.mp hy]; rfl, fun k => ?_, fun v => ?_⟩
        · have h1 := (List.eraseIdx_sublist (ln σ) i).countP_le (p := isG (σ 31 0) k)
          have h2 := cp_tl (isG (σ 31 0) k) ((ln σ).eraseIdx i)
          rw [hb]; unfold gk; rw [c, he, List.countP_append]; omega
        · have h1 := cp_er (isA (σ 31 0) v) (ln σ) i x c2
          have h2 := cp_tl (isA (σ 31 0) v) ((ln σ).eraseIdx i)
          have h3 : isA (σ 31 0) v ((xw x 2, [2, σ 31 0, t, 0, 0, 0], kv) : Ms) = false := by
            rw [isA_mk]; exact decide_eq_false (fun e => absurd e.1 (by decide))
          have h4 : (if isT (σ 31 0) v ((xw x 2, [2, σ 31 0, t, 0, 0, 0], kv) : Ms) = true then 1 else 0) = if isA (σ 31 0) v x = true then 1 else 0 := by
            by_cases e : xw x 2 = v
            · rw [if_pos, if_pos]
              · unfold isA; exact decide_eq_true ⟨d0, d1, e⟩
              · unfold isT; exact decide_eq_true ⟨rfl, rfl, e⟩
            · rw [if_neg, if_neg]
              · unfold isA; exact fun z => e (of_decide_eq_true z).2.2
              · unfold isT; exact fun z => e (of_decide_eq_true z).2.2
          unfold ca
          rw [c, he, List.countP_append, List.countP_cons, List.countP_cons, List.countP_nil, List.countP_nil, h3, h4]
          simp only [Bool.false_eq_true, if_false]
          omega
    · exact er c
    · exact er c
def TC (w : Int) (σ σ' : qS) (s : List Ms) : Prop := TS w (ln σ) (ln σ') s ∧ (∀ k, 0 ≤ k → s.countP (isD (σ 31 0) k) + (gk σ' k + bk σ' k) ≤ gk σ k + bk σ k + s.countP (isG (σ 31 0) k)) ∧ (w ≠ 6 → (∀ k, s.countP (isG (σ 31 0) k) = 0) ∧ ∀ v, s.countP (isA (σ 31 0) v) = 0 ∨ (s.countP (isA (σ 31 0) v) ≤ 1 ∧ v = w ∧ AK w σ')) ∧ (w = 6 → ∀ x ∈ s, xw x 0 = 2) ∧ ∀ v, ca σ' v + (if w = 6 then s.countP (isT (σ 31 0) v) else 0) ≤ ca σ v + s.countP (isA (σ 31 0) v)
theorem STP_tc {w : Int} {σ σ' : qS} (h : STP w σ σ') : ∃ s, TC w σ σ' s := by
  rcases h with ⟨hw, σ1, σ2, σ3, r1, r2, r3, a, -⟩ | ⟨rfl, σ1, σ2, r1, r2, r3, -⟩
  · obtain ⟨s1, p1, q1, g1⟩ := RD_c hw r1
    obtain ⟨s2, p2, q2, g2⟩ := RD_c hw r2
    obtain ⟨s3, p3, q3, g3⟩ := RD_c hw r3
    obtain ⟨s4, p4, g4, g5, g6⟩ := ACT_c hw a
    have e1 : σ1 31 = σ 31 := r1.2.2.1 _ (by decide)
    have e2 : σ2 31 = σ 31 := (r2.2.2.1 _ (by decide)).trans e1
    have e3 : σ3 31 = σ 31 := (r3.2.2.1 _ (by decide)).trans e2
    have e4 : σ' 31 = σ 31 := (a.2.2.1 _ (by decide)).trans e3
    rw [e3] at g4 g5 g6
    have z : ∀ (p : Ms → Bool), (∀ x, p x = true → xw x 0 ≠ 6) → (s1 ++ s2 ++ s3 ++ s4).countP p = s4.countP p := fun p hp => by
      rw [List.countP_append, List.countP_append, List.countP_append, c6_0 q1 p hp, c6_0 q2 p hp, c6_0 q3 p hp]; omega
    have zD : ∀ k, (s1 ++ s2 ++ s3 ++ s4).countP (isD (σ 31 0) k) = s4.countP (isD (σ 31 0) k) := fun k => z _ (fun x hx => by have := (of_decide_eq_true hx).2.1; omega)
    have zG : ∀ k, (s1 ++ s2 ++ s3 ++ s4).countP (isG (σ 31 0) k) = s4.countP (isG (σ 31 0) k) := fun k => z _ (fun x hx => by have := (of_decide_eq_true hx).2.1; omega)
    have zA : ∀ k, (s1 ++ s2 ++ s3 ++ s4).countP (isA (σ 31 0) k) = s4.countP (isA (σ 31 0) k) := fun k => z _ (fun x hx => by have := (of_decide_eq_true hx).2.1; omega)
    have n6 : w ≠ 6 := by omega
    refine ⟨s1 ++ s2 ++ s3 ++ s4, ⟨_, _, _, s1, s2, s3, s4, p1, p2, p3, p4, rfl⟩, fun k k0 => ?_, fun _ => ⟨fun k => by rw [zG]; exact g5 k, fun v => by rw [zA]; exact g6 v⟩, fun e => absurd e n6, fun v => ?_⟩
    · have i1 := g1 k k0
      have i2 := g2 k k0
      have i3 := g3 k k0
      have i4 := g4 k k0
      rw [zD, zG]; omega
    · have z0 : ∀ s : List Ms, (∀ x ∈ s, xw x 0 = 6) → s.countP (isA (σ 31 0) v) = 0 := fun s hs => c6_0 hs _ (fun x hx => by have := (of_decide_eq_true hx).2.1; omega)
      have i1 := rd_ca (isA (σ 31 0) v) p1
      have i2 := rd_ca (isA (σ 31 0) v) p2
      have i3 := rd_ca (isA (σ 31 0) v) p3
      have i4 := ac_ca (isA (σ 31 0) v) p4
      rw [z0 _ q1] at i1
      rw [z0 _ q2] at i2
      rw [z0 _ q3] at i3
      rw [if_neg n6, zA]
      unfold ca
      rw [e4]
      omega
  · have e0 : (clk σ) 31 = σ 31 := clk_k (by decide)
    have l0 : ln (clk σ) = ln σ := ln_k (fun k m => clk_k (by revert m; revert k; decide))
    have t0 : (clk σ) 62 = σ 62 := clk_k (by decide)
    obtain ⟨s1, p1, q1, g1, c1⟩ := HR_c r1
    obtain ⟨s2, p2, q2, g2, c2⟩ := HR_c r2
    obtain ⟨s3, p3, q3, g3, c3⟩ := HR_c r3
    have e1 : σ1 31 = σ 31 := (r1.2.1 _ (by decide)).trans e0
    have e2 : σ2 31 = σ 31 := (r2.2.1 _ (by decide)).trans e1
    rw [l0] at p1
    rw [e0] at g1 c1
    rw [e1] at g2 c2
    rw [e2] at g3 c3
    have gc : ∀ k, gk (clk σ) k = gk σ k := fun k => by unfold gk; rw [l0, e0]
    have bc : ∀ k, bk (clk σ) k = bk σ k := fun k => by unfold bk b1; rw [t0]
    have cc : ∀ v, ca (clk σ) v = ca σ v := fun v => by unfold ca; rw [l0, e0]
    have hq : ∀ x ∈ s1 ++ s2 ++ s3 ++ [], xw x 0 = 2 := fun x hx => by
      rw [List.append_nil, List.mem_append, List.mem_append] at hx
      rcases hx with (hx | hx) | hx
      · exact q1 x hx
      · exact q2 x hx
      · exact q3 x hx
    refine ⟨s1 ++ s2 ++ s3 ++ [], ⟨_, _, _, s1, s2, s3, [], p1, p2, p3, Or.inl ⟨rfl, rfl⟩, rfl⟩, fun k k0 => ?_, fun e => absurd rfl e, fun _ => hq, fun v => ?_⟩
    · have zD : (s1 ++ s2 ++ s3 ++ []).countP (isD (σ 31 0) k) = 0 := by
        rw [List.countP_eq_zero]
        intro x hx hp
        have h1 := hq x hx
        have h2 := (of_decide_eq_true hp).2.1
        omega
      have i1 := g1 k
      have i2 := g2 k
      have i3 := g3 k
      rw [zD, List.append_nil, List.countP_append, List.countP_append]
      rw [gc, bc] at i1
      omega
    · have i1 := c1 v
      have i2 := c2 v
      have i3 := c3 v
      rw [if_pos rfl, List.append_nil, List.countP_append, List.countP_append]
      rw [cc] at i1
      omega
theorem SNC_ex {L : Nat} {τ : Nat → qS} (h : RNN L τ) : ∃ S : Nat → List Ms, ∀ t, t < 7 * L → TC ((t % 7 : Nat) : Int) (τ t) (τ (t + 1)) (S t) := by
  have : ∀ t, ∃ s, t < 7 * L → TC ((t % 7 : Nat) : Int) (τ t) (τ (t + 1)) s := fun t => by
    by_cases c : t < 7 * L
    · obtain ⟨s, hs⟩ := STP_tc (h.2 t c)
      exact ⟨s, fun _ => hs⟩
    · exact ⟨[], fun e => absurd e c⟩
  exact Classical.skolem.mp this

