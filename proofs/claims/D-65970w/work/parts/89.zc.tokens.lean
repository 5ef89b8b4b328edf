theorem mq_n {L : List Ms} (h : L.findIdx? (fun m => m.1 == 6) = none) : mq L = [] := by
  unfold mq
  rw [List.filter_eq_nil_iff]
  intro x hx e
  have := List.findIdx?_eq_none_iff.mp h x hx
  unfold toW at e
  rw [this] at e
  cases e
theorem HR_q {σ σ' : qS} (hJ : JI True (-1) σ) (hl : (ln σ).length ≤ 95) (h : HR σ σ') : mq (ln σ') = (mq (ln σ)).drop 1 ∧ (ln σ').length ≤ 95 := by
  obtain ⟨-, -, c⟩ := h
  rcases c with ⟨c1, c2, -⟩ | ⟨i, x, c1, c2, c⟩
  · rw [c2, mq_n c1]; exact ⟨rfl, hl⟩
  · obtain ⟨i0, i1, -⟩ := List.findIdx?_eq_some_iff_getElem.mp c1
    have em := mq_h _ _ _ c1 c2
    have el : ((ln σ).eraseIdx i).length = (ln σ).length - 1 := List.length_eraseIdx_of_lt i0
    have er : ln σ' = (ln σ).eraseIdx i → mq (ln σ') = (mq (ln σ)).drop 1 ∧ (ln σ').length ≤ 95 := fun e => by
      rw [e, em]; exact ⟨rfl, by omega⟩
    rcases c with ⟨-, c, -⟩ | ⟨he, h1, -, -, fi, en, -, c⟩ | ⟨-, -, c, -⟩ | ⟨-, -, c, -⟩
    · exact er c
    · rcases c with ⟨c, -⟩ | ⟨t, -, -, -, -, -, kv, c⟩
      · exact er c
      · have hL := (hJ.2.2.2.2.2.2.2.1 x (List.mem_of_getElem? c2)).2 he
        have hd : xw x 2 ≠ 6 := by
          rcases hL with ⟨-, e⟩ | ⟨e0, e⟩
          · rcases e with ⟨-, e⟩ | ⟨e, -⟩ | ⟨e, -⟩ | ⟨e, -⟩ <;> omega
          · rcases e with ⟨e, -⟩ | ⟨e, -⟩ | ⟨e, -⟩ <;> omega
        rw [tl_z (by omega)] at c
        rw [c, mq_app, mq_0 (by exact hd), List.append_nil, em, List.length_append, el, List.length_singleton]
        exact ⟨rfl, by omega⟩
    · exact er c
    · exact er c
theorem l_clk (σ : qS) : ln (clk σ) = ln σ := ln_k (fun k m => clk_k (by revert m; revert k; decide))
theorem MT_q {σ σ' : qS} (hl : (ln σ).length ≤ 95) (h : MTK σ σ') : mq (ln σ') = (mq (ln σ)).drop 3 ∧ frs σ' = frs σ := by
  have hk := MTK_k h
  obtain ⟨σ1, σ2, r1, r2, r3, -, j0, j1, j2⟩ := h
  obtain ⟨a1, a2⟩ := HR_q j0 (by rw [l_clk]; exact hl) r1
  obtain ⟨b1, b2⟩ := HR_q j1 a2 r2
  obtain ⟨c1, -⟩ := HR_q j2 b2 r3
  refine ⟨?_, ?_⟩
  · rw [c1, b1, a1, l_clk, List.drop_drop, List.drop_drop]
  · have e : ∀ v, fr σ' v = fr σ v := fun v => fr_k (by rw [hk 62 (by decide) (by decide)]) (by rw [hk 65 (by decide) (by decide)])
    unfold frs
    rw [e, e, e, e, e, e]
def F5 (L : List Ms) : Prop := ∀ x ∈ L, xw x 0 ≠ 5
theorem RD_y {w : Int} {σ σ' : qS} (h : RD w σ σ') : ∃ s, rdop w (ln σ) (ln σ') s ∧ (∀ x ∈ s, xw x 0 = 6) ∧ (F5 (ln σ) → s = [] ∧ F5 (ln σ')) := by
  obtain ⟨-, -, -, c⟩ := h
  have nl : ∀ x ∈ ([] : List Ms), xw x 0 = 6 := fun x hx => absurd hx (by simp)
  rcases c with ⟨c1, c2, -⟩ | ⟨i, x, c1, cx, c⟩
  · exact ⟨[], Or.inl ⟨c1, c2, rfl⟩, nl, fun hf => ⟨rfl, by rw [c2]; exact hf⟩⟩
  · have er : ln σ' = (ln σ).eraseIdx i → F5 (ln σ) → ([] : List Ms) = [] ∧ F5 (ln σ') := fun e hf => ⟨rfl, fun y hy => hf y ((List.eraseIdx_sublist _ _).subset (by rw [e] at hy; exact hy))⟩
    rcases c with ⟨-, c, -⟩ | ⟨-, -, c, -⟩ | ⟨-, c5, -, a, kv, c⟩ | ⟨-, -, c, -⟩
    · exact ⟨[], Or.inr ⟨i, c1, Or.inl ⟨c, rfl⟩⟩, nl, er c⟩
    · exact ⟨[], Or.inr ⟨i, c1, Or.inl ⟨c, rfl⟩⟩, nl, er c⟩
    · exact ⟨_, Or.inr ⟨i, c1, Or.inr ⟨_, c, rfl⟩⟩, fun y hy => by rw [List.mem_singleton.mp hy]; rfl, fun hf => absurd c5 (hf x (List.mem_of_getElem? cx))⟩
    · exact ⟨[], Or.inr ⟨i, c1, Or.inl ⟨c, rfl⟩⟩, nl, er c⟩
theorem ACT_y {w : Int} {σ σ' : qS} (h : ACT w σ σ') : ∃ s, acop (ln σ) (ln σ') s ∧ (∀ x ∈ s, xw x 0 = 5 → 38 ≤ σ' 62 w) ∧ ∀ x ∈ s, xw x 0 ≠ 6 := by
  obtain ⟨-, -, -, c⟩ := h
  have nl : ln σ' = ln σ → ∃ s, acop (ln σ) (ln σ') s ∧ (∀ x ∈ s, xw x 0 = 5 → 38 ≤ σ' 62 w) ∧ ∀ x ∈ s, xw x 0 ≠ 6 := fun e => ⟨[], Or.inl ⟨e, rfl⟩, fun x hx => absurd hx (by simp), fun x hx => absurd hx (by simp)⟩
  have tl : ∀ {to ty a b c d}, (ty = 1 ∨ ty = 3 ∨ ty = 4 ∨ (ty = 5 ∧ 38 ≤ σ' 62 w)) → TL to ty a b c d σ σ' → ∃ s, acop (ln σ) (ln σ') s ∧ (∀ x ∈ s, xw x 0 = 5 → 38 ≤ σ' 62 w) ∧ ∀ x ∈ s, xw x 0 ≠ 6 := fun {to ty a b c d} ht h => by
    obtain ⟨kv, h⟩ := h
    have e : ∀ x ∈ [((to, [ty, σ 31 0, a, b, c, d], kv) : Ms)], xw x 0 = ty := fun x hx => by rw [List.mem_singleton.mp hx]; rfl
    exact ⟨_, Or.inr (Or.inl ⟨_, h, rfl⟩), fun x hx h5 => by have := e x hx; omega, fun x hx h6 => by have := e x hx; omega⟩
  rcases c with ⟨-, -, -, -, c⟩ | ⟨-, c⟩ | ⟨c0, c⟩
  · rcases c with ⟨-, c⟩ | ⟨-, c⟩
    · exact tl (Or.inl rfl) c
    · exact nl c
  · rcases c with ⟨-, -, -, a, c⟩ | ⟨-, -, -, ⟨a, c⟩, -⟩ | ⟨-, -, -, c⟩ | ⟨-, -, -, -, -, c⟩
    · exact tl (Or.inr (Or.inl rfl)) c
    · exact tl (Or.inr (Or.inl rfl)) c
    · exact tl (Or.inr (Or.inr (Or.inl rfl))) c
    · exact nl c
  · rcases c with ⟨-, -, -, c⟩ | ⟨-, -, -, -, -, c⟩ | ⟨-, -, -, -, -, c, -⟩ | ⟨-, -, -, -, -, c1, -, -, -, c⟩ | ⟨-, -, -, -, c⟩
    · exact tl (Or.inr (Or.inl rfl)) c
    · exact nl c
    · exact nl c
    · rcases c with ⟨-, -, c⟩ | ⟨-, -, kv, kv', c⟩
      · exact tl (Or.inr (Or.inr (Or.inr ⟨rfl, by rw [c1]; exact c0⟩))) c
      · refine ⟨_, Or.inr (Or.inr ⟨_, _, c, rfl⟩), fun y hy _ => by rw [c1]; exact c0, fun y hy => ?_⟩
        rcases List.mem_cons.mp hy with rfl | hy
        · exact (by decide : ¬ (5 : Int) = 6)
        · rw [List.mem_singleton.mp hy]; exact (by decide : ¬ (7 : Int) = 6)
    · rcases c with ⟨-, -, c⟩ | ⟨-, c⟩
      · exact tl (Or.inr (Or.inl rfl)) c
      · exact tl (Or.inr (Or.inr (Or.inl rfl))) c
theorem HR_y {σ σ' : qS} (h : HR σ σ') : ∃ s, rdop 6 (ln σ) (ln σ') s ∧ ∀ x ∈ s, xw x 0 = 2 := by
  obtain ⟨-, -, c⟩ := h
  have nl : ∀ x ∈ ([] : List Ms), xw x 0 = 2 := fun x hx => absurd hx (by simp)
  rcases c with ⟨c1, c2, -⟩ | ⟨i, x, c1, -, c⟩
  · exact ⟨[], Or.inl ⟨c1, c2, rfl⟩, nl⟩
  · rcases c with ⟨-, c, -⟩ | ⟨-, -, -, -, fi, en, -, c⟩ | ⟨-, -, c, -⟩ | ⟨-, -, c, -⟩
    · exact ⟨[], Or.inr ⟨i, c1, Or.inl ⟨c, rfl⟩⟩, nl⟩
    · rcases c with ⟨c, -⟩ | ⟨t, -, -, -, -, -, kv, c⟩
      · exact ⟨[], Or.inr ⟨i, c1, Or.inl ⟨c, rfl⟩⟩, nl⟩
      · exact ⟨_, Or.inr ⟨i, c1, Or.inr ⟨_, c, rfl⟩⟩, fun y hy => by rw [List.mem_singleton.mp hy]; rfl⟩
    · exact ⟨[], Or.inr ⟨i, c1, Or.inl ⟨c, rfl⟩⟩, nl⟩
    · exact ⟨[], Or.inr ⟨i, c1, Or.inl ⟨c, rfl⟩⟩, nl⟩
theorem mem4 {P : Ms → Prop} {s1 s2 s3 s4 : List Ms} (h1 : ∀ x ∈ s1, P x) (h2 : ∀ x ∈ s2, P x) (h3 : ∀ x ∈ s3, P x) (h4 : ∀ x ∈ s4, P x) : ∀ x ∈ s1 ++ s2 ++ s3 ++ s4, P x := fun x hx => by
  rw [List.mem_append, List.mem_append, List.mem_append] at hx
  rcases hx with ((hx | hx) | hx) | hx
  · exact h1 x hx
  · exact h2 x hx
  · exact h3 x hx
  · exact h4 x hx
def SY (w : Int) (σ σ' : qS) (s : List Ms) : Prop := TS w (ln σ) (ln σ') s ∧ (∀ x ∈ s, xw x 0 = 5 → w < 6 ∧ 38 ≤ σ' 62 w) ∧ (F5 (ln σ) → ∀ x ∈ s, xw x 0 ≠ 6)
theorem STP_y {w : Int} {σ σ' : qS} (h : STP w σ σ') : ∃ s, SY w σ σ' s := by
  rcases h with ⟨hw, σ1, σ2, σ3, r1, r2, r3, a, -⟩ | ⟨rfl, σ1, σ2, r1, r2, r3, -⟩
  · obtain ⟨s1, p1, q1, u1⟩ := RD_y r1
    obtain ⟨s2, p2, q2, u2⟩ := RD_y r2
    obtain ⟨s3, p3, q3, u3⟩ := RD_y r3
    obtain ⟨s4, p4, q4, u4⟩ := ACT_y a
    refine ⟨_, ⟨_, _, _, s1, s2, s3, s4, p1, p2, p3, p4, rfl⟩, mem4 (fun x hx e => ?_) (fun x hx e => ?_) (fun x hx e => ?_) (fun x hx e => ⟨hw.2, q4 x hx e⟩), fun hf => ?_⟩
    · have := q1 x hx; omega
    · have := q2 x hx; omega
    · have := q3 x hx; omega
    · obtain ⟨e1, f1⟩ := u1 hf
      obtain ⟨e2, f2⟩ := u2 f1
      obtain ⟨e3, f3⟩ := u3 f2
      subst e1; subst e2; subst e3
      exact mem4 (fun x hx => absurd hx (by simp)) (fun x hx => absurd hx (by simp)) (fun x hx => absurd hx (by simp)) u4
  · obtain ⟨s1, p1, q1⟩ := HR_y r1
    obtain ⟨s2, p2, q2⟩ := HR_y r2
    obtain ⟨s3, p3, q3⟩ := HR_y r3
    rw [l_clk] at p1
    have hA : ∀ x ∈ s1 ++ s2 ++ s3 ++ [], xw x 0 = 2 := mem4 q1 q2 q3 (fun x hx => absurd hx (by simp))
    exact ⟨_, ⟨_, _, _, s1, s2, s3, [], p1, p2, p3, Or.inl ⟨rfl, rfl⟩, rfl⟩, fun x hx e => by have := hA x hx; omega, fun _ x hx e => by have := hA x hx; omega⟩
theorem sns_m {S : Nat → List Ms} {P : Ms → Prop} {t0 : Nat} : ∀ k, (∀ t, t0 ≤ t → t < t0 + k → ∀ x ∈ S t, P x) → ∀ x ∈ sns S t0 k, P x
  | 0, _ => fun x hx => absurd hx (by simp [sns])
  | k + 1, h => fun x hx => by
    simp only [sns] at hx
    rcases List.mem_append.mp hx with hx | hx
    · exact sns_m k (fun t h1 h2 => h t h1 (by omega)) x hx
    · exact h (t0 + k) (by omega) (by omega) x hx
theorem NT_run {L : Nat} {τ : Nat → qS} (h : RNN L τ) {a b : Nat} (hb : b ≤ 7 * L) (hi : ∀ t, a ≤ t → t < b → t % 7 < 6 → τ (t + 1) 62 ((t % 7 : Nat) : Int) < 38) {t : Nat} (h1 : a + 448 ≤ t) (h2 : t ≤ b) : ∀ x ∈ ln (τ t), xw x 0 ≠ 5 ∧ xw x 0 ≠ 6 := by
  have hex : ∀ t, ∃ s, t < 7 * L → SY ((t % 7 : Nat) : Int) (τ t) (τ (t + 1)) s := fun t => by
    by_cases c : t < 7 * L
    · obtain ⟨s, hs⟩ := STP_y (h.2 t c)
      exact ⟨s, fun _ => hs⟩
    · exact ⟨[], fun e => absurd e c⟩
  obtain ⟨S, hS⟩ := Classical.skolem.mp hex
  have hd : SND L τ S := fun t ht => (hS t ht).1
  have n5 : ∀ t, a ≤ t → t < b → ∀ x ∈ S t, xw x 0 ≠ 5 := fun t h1 h2 x hx e => by
    obtain ⟨e1, e2⟩ := (hS t (by omega)).2.1 x hx e
    have := hi t h1 h2 (by omega)
    omega
  have f5 : ∀ t, a + 224 ≤ t → t ≤ b → F5 (ln (τ t)) := fun t h1 h2 x hx => by
    have hs := old_gone h hd (t - 224) 224 (by omega) (by omega)
    rw [show t - 224 + 224 = t by omega] at hs
    exact sns_m 224 (fun u u1 u2 => n5 u (by omega) (by omega)) x (hs.subset hx)
  intro x hx
  refine ⟨f5 t (by omega) h2 x hx, ?_⟩
  have hs := old_gone h hd (t - 224) 224 (by omega) (by omega)
  rw [show t - 224 + 224 = t by omega] at hs
  exact sns_m 224 (fun u u1 u2 => (hS u (by omega)).2.2 (f5 u (by omega) (by omega))) x (hs.subset hx)

