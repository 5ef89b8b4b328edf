theorem cP_le {p q : Nat → Bool} : ∀ (l : List Nat), (∀ x ∈ l, p x = true → q x = true) → l.countP p ≤ l.countP q
  | [], _ => Nat.le_refl _
  | a :: l, h => by
    have ih := cP_le l (fun x hx => h x (List.mem_cons_of_mem a hx))
    rw [List.countP_cons, List.countP_cons]
    by_cases c : p a = true
    · rw [if_pos c, if_pos (h a List.mem_cons_self c)]; omega
    · rw [if_neg c]; omega
theorem cP_eq {p q : Nat → Bool} : ∀ (l : List Nat), (∀ x ∈ l, p x = true → q x = true) → l.countP p = l.countP q → ∀ x ∈ l, p x = q x
  | [], _, _ => fun x hx => absurd hx (by simp)
  | a :: l, h, he => by
    have hl := fun x hx => h x (List.mem_cons_of_mem a hx)
    have ih := cP_le l hl
    rw [List.countP_cons, List.countP_cons] at he
    have ha := h a List.mem_cons_self
    have e1 : l.countP p = l.countP q ∧ p a = q a := by
      by_cases c : p a = true
      · rw [if_pos c, if_pos (ha c)] at he
        exact ⟨by omega, by rw [c, ha c]⟩
      · rw [if_neg c] at he
        by_cases c2 : q a = true
        · rw [if_pos c2] at he; omega
        · rw [if_neg c2] at he
          exact ⟨by omega, by simp only [Bool.not_eq_true] at c c2; rw [c, c2]⟩
    intro x hx
    rcases List.mem_cons.mp hx with rfl | hx
    · exact e1.2
    · exact cP_eq l hl e1.1 x hx
def kb (σ : qS) (i : Nat) : Bool := decide (σ 56 (i : Int) ≠ -1)
def eb (σ : qS) (i : Nat) : Bool := decide (σ 40 (i : Int) = σ 31 0)
def db (σ : qS) (i : Nat) : Bool := decide (σ 35 (i : Int) ≠ 0)
def pm (σ : qS) : Nat := (List.range 228).countP (kb σ) + (List.range 6).countP (eb σ) + (List.range 6).countP (db σ)
def pmono (σ σ' : qS) : Prop := (∀ i, kb σ i = true → kb σ' i = true) ∧ (∀ i, eb σ i = true → eb σ' i = true) ∧ (∀ i, db σ i = true → db σ' i = true) ∧ σ' 31 = σ 31
theorem pmono.rf (σ : qS) : pmono σ σ := ⟨fun _ h => h, fun _ h => h, fun _ h => h, rfl⟩
theorem pmono.tr {σ σ1 σ2 : qS} (h : pmono σ σ1) (h' : pmono σ1 σ2) : pmono σ σ2 := ⟨fun i e => h'.1 i (h.1 i e), fun i e => h'.2.1 i (h.2.1 i e), fun i e => h'.2.2.1 i (h.2.2.1 i e), h'.2.2.2.trans h.2.2.2⟩
theorem pmono.k {σ σ' : qS} (h : ∀ k ∈ [56, 40, 35, 31], σ' k = σ k) : pmono σ σ' := by
  have e1 := h 56 (by decide)
  have e2 := h 40 (by decide)
  have e3 := h 35 (by decide)
  have e4 := h 31 (by decide)
  refine ⟨fun i e => ?_, fun i e => ?_, fun i e => ?_, e4⟩
  · unfold kb at e ⊢; rw [e1]; exact e
  · unfold eb at e ⊢; rw [e2, e4]; exact e
  · unfold db at e ⊢; rw [e3]; exact e
theorem pm_le {σ σ' : qS} (h : pmono σ σ') : pm σ ≤ pm σ' := by
  have h1 := cP_le (List.range 228) (p := kb σ) (q := kb σ') (fun x _ => h.1 x)
  have h2 := cP_le (List.range 6) (p := eb σ) (q := eb σ') (fun x _ => h.2.1 x)
  have h3 := cP_le (List.range 6) (p := db σ) (q := db σ') (fun x _ => h.2.2.1 x)
  unfold pm; omega
theorem pm_b (σ : qS) : pm σ ≤ 240 := by
  have h1 := List.countP_le_length (p := kb σ) (l := List.range 228)
  have h2 := List.countP_le_length (p := eb σ) (l := List.range 6)
  have h3 := List.countP_le_length (p := db σ) (l := List.range 6)
  rw [List.length_range] at h1 h2 h3
  unfold pm; omega
def psame (σ σ' : qS) : Prop := (∀ i : Nat, i < 228 → kb σ' i = kb σ i) ∧ (∀ i : Nat, i < 6 → eb σ' i = eb σ i) ∧ (∀ i : Nat, i < 6 → db σ' i = db σ i) ∧ σ' 31 = σ 31
theorem pm_eq {σ σ' : qS} (h : pmono σ σ') (he : pm σ = pm σ') : psame σ σ' := by
  have h1 := cP_le (List.range 228) (p := kb σ) (q := kb σ') (fun x _ => h.1 x)
  have h2 := cP_le (List.range 6) (p := eb σ) (q := eb σ') (fun x _ => h.2.1 x)
  have h3 := cP_le (List.range 6) (p := db σ) (q := db σ') (fun x _ => h.2.2.1 x)
  unfold pm at he
  refine ⟨fun i hi => (cP_eq _ (fun x _ => h.1 x) (by omega) i (List.mem_range.mpr hi)).symm, fun i hi => (cP_eq _ (fun x _ => h.2.1 x) (by omega) i (List.mem_range.mpr hi)).symm, fun i hi => (cP_eq _ (fun x _ => h.2.2.1 x) (by omega) i (List.mem_range.mpr hi)).symm, h.2.2.2⟩
theorem RD_pm {w : Int} {σ σ' : qS} (h : RD w σ σ') : pmono σ σ' := pmono.k (fun k m => h.2.2.1 k ((by decide : ∀ k ∈ [56, 40, 35, 31], k ∈ rdK) k m))
theorem ACT_pm {w : Int} {σ σ' : qS} (h : ACT w σ σ') : pmono σ σ' := by
  obtain ⟨-, -, k, c⟩ := h
  have e3 : σ' 35 = σ 35 := k _ (by decide)
  have e4 : σ' 31 = σ 31 := k _ (by decide)
  have hk : kpK σ σ' → pmono σ σ' := fun e => pmono.k (fun k m => by
    simp only [List.mem_cons, List.not_mem_nil, or_false] at m
    rcases m with rfl | rfl | rfl | rfl
    · exact e.1
    · exact e.2
    · exact e3
    · exact e4)
  have hg : (∀ j : Int, σ 56 j ≠ -1 → σ' 56 j ≠ -1) → (∀ j : Int, σ 40 j = σ 31 0 → σ' 40 j = σ 31 0) → pmono σ σ' := fun a b => by
    refine ⟨fun i e => ?_, fun i e => ?_, fun i e => ?_, e4⟩
    · unfold kb at e ⊢; exact decide_eq_true (a _ (of_decide_eq_true e))
    · unfold eb at e ⊢; rw [e4]; exact decide_eq_true (b _ (of_decide_eq_true e))
    · unfold db at e ⊢; rw [e3]; exact e
  rcases c with ⟨-, c, -⟩ | ⟨-, c⟩ | ⟨-, c⟩
  · exact hk c
  · rcases c with ⟨-, c, -⟩ | ⟨c0, -, c1, -, c2, c3⟩ | ⟨-, c, -⟩ | ⟨-, c, -⟩
    · exact hk c
    · refine hg (fun j hj => ?_) (fun j hj => by rw [c1]; exact hj)
      by_cases e : j = w * 38 + σ 62 w
      · rw [e]; exact c3
      · rw [c2 j e]; exact hj
    · exact hk c
    · exact hk c
  · rcases c with ⟨-, c, -⟩ | ⟨-, -, -, c, -⟩ | ⟨-, -, -, -, c, -⟩ | ⟨-, -, -, -, c, -⟩ | ⟨-, -, -, c1, c⟩
    · exact hk c
    · exact hk c
    · exact hk c
    · exact hk c
    · rcases c with ⟨c2, c3, -⟩ | ⟨c2, -⟩
      · refine hg (fun j hj => by rw [c1]; exact hj) (fun j hj => ?_)
        by_cases e : j = σ 62 w - 38
        · rw [e]; exact c2
        · rw [c3 j e]; exact hj
      · exact hk ⟨c1, c2⟩
theorem HR_pm {σ σ' : qS} (h : HR σ σ') : pmono σ σ' := by
  obtain ⟨-, k, c⟩ := h
  have e1 : σ' 56 = σ 56 := k _ (by decide)
  have e2 : σ' 40 = σ 40 := k _ (by decide)
  have e4 : σ' 31 = σ 31 := k _ (by decide)
  have hg : (∀ j : Int, σ 35 j ≠ 0 → σ' 35 j ≠ 0) → pmono σ σ' := fun a => by
    refine ⟨fun i e => ?_, fun i e => ?_, fun i e => ?_, e4⟩
    · unfold kb at e ⊢; rw [e1]; exact e
    · unfold eb at e ⊢; rw [e2, e4]; exact e
    · unfold db at e ⊢; exact decide_eq_true (a _ (of_decide_eq_true e))
  have hs : σ' 35 = σ 35 → pmono σ σ' := fun e => hg (fun j hj => by rw [e]; exact hj)
  rcases c with ⟨-, -, c⟩ | ⟨i, x, -, -, c⟩
  · exact hs (c _ (by decide))
  · rcases c with ⟨-, -, c⟩ | ⟨-, -, -, c, -⟩ | ⟨-, -, -, -, -, c⟩ | ⟨-, -, -, c, -⟩
    · exact hs (c _ (by decide))
    · exact hs c
    · rcases c with ⟨-, c, -⟩ | ⟨-, -, c⟩
      · exact hs c
      · refine hg (fun j hj => ?_)
        rw [c]
        split
        · decide
        · exact hj
    · exact hs c
theorem STP_pm {w : Int} {σ σ' : qS} (h : STP w σ σ') : pmono σ σ' := by
  rcases h with ⟨-, σ1, σ2, σ3, r1, r2, r3, a, -⟩ | ⟨-, σ1, σ2, r1, r2, r3, -⟩
  · exact (((RD_pm r1).tr (RD_pm r2)).tr (RD_pm r3)).tr (ACT_pm a)
  · have h0 : pmono σ (clk σ) := pmono.k (fun k m => clk_k (by revert m; revert k; decide))
    exact ((h0.tr (HR_pm r1)).tr (HR_pm r2)).tr (HR_pm r3)
theorem run_pm {L : Nat} {τ : Nat → qS} (h : RNN L τ) (a : Nat) : ∀ b, a + b ≤ 7 * L → pmono (τ a) (τ (a + b))
  | 0, _ => pmono.rf _
  | b + 1, hb => (run_pm h a b (by omega)).tr (STP_pm (h.2 (a + b) (by omega)))
theorem pigeon {V : Nat} (f : Nat → Nat) : ∀ (B : Nat), (∀ a, a ≤ B → f (a * V) ≤ f ((a + 1) * V)) → f ((B + 1) * V) ≤ f 0 + B → ∃ a, a ≤ B ∧ f ((a + 1) * V) = f (a * V)
  | 0, h, hb => by
    have h0 := h 0 (Nat.le_refl 0)
    refine ⟨0, Nat.le_refl 0, ?_⟩
    rw [Nat.zero_mul] at h0 ⊢
    rw [Nat.zero_add] at hb h0 ⊢
    omega
  | B + 1, h, hb => by
    by_cases c : f ((B + 1 + 1) * V) = f ((B + 1) * V)
    · exact ⟨B + 1, Nat.le_refl _, c⟩
    · have := h (B + 1) (Nat.le_refl _)
      obtain ⟨a, a1, a2⟩ := pigeon f B (fun a ha => h a (by omega)) (by omega)
      exact ⟨a, by omega, a2⟩
def NP (V : Nat) : Prop := ∀ τ : Nat → qS, RNN V τ → (∀ t, t ≤ 7 * V → psame (τ 0) (τ t)) → False
theorem psame.tr' {σ σ1 σ2 : qS} (h1 : pmono σ σ1) (h2 : pmono σ1 σ2) (h : psame σ σ2) : psame σ σ1 := by
  have e : pm σ = pm σ2 := by
    unfold pm
    have c1 : (List.range 228).countP (kb σ) = (List.range 228).countP (kb σ2) := List.countP_congr (fun x hx => by rw [h.1 x (List.mem_range.mp hx)])
    have c2 : (List.range 6).countP (eb σ) = (List.range 6).countP (eb σ2) := List.countP_congr (fun x hx => by rw [h.2.1 x (List.mem_range.mp hx)])
    have c3 : (List.range 6).countP (db σ) = (List.range 6).countP (db σ2) := List.countP_congr (fun x hx => by rw [h.2.2.1 x (List.mem_range.mp hx)])
    omega
  have l1 := pm_le h1
  have l2 := pm_le h2
  exact pm_eq h1 (by omega)
theorem RNN_sh {L a : Nat} {τ : Nat → qS} {V : Nat} (h : RNN L τ) (hl : a + V ≤ L) : RNN V (fun t => τ (7 * a + t)) := by
  refine ⟨fun t ht => h.1 _ (by omega), fun t ht => ?_⟩
  have := h.2 (7 * a + t) (by omega)
  rw [show (7 * a + t) % 7 = t % 7 by omega] at this
  exact this
theorem NR_np {V : Nat} (h : NP V) : NR (241 * V) := fun τ h1 h2 => by
  have hR : RNN (241 * V) τ := ⟨h1, h2⟩
  have hm : ∀ a, a ≤ 240 → pm (τ (7 * (a * V))) ≤ pm (τ (7 * ((a + 1) * V))) := fun a ha => by
    have e : (a + 1) * V = a * V + V := Nat.succ_mul a V
    have l : (a + 1) * V ≤ 241 * V := Nat.mul_le_mul_right V (by omega)
    have := run_pm hR (7 * (a * V)) (7 * V) (by omega)
    rw [show 7 * (a * V) + 7 * V = 7 * ((a + 1) * V) by omega] at this
    exact pm_le this
  have hb : pm (τ (7 * ((240 + 1) * V))) ≤ pm (τ (7 * 0)) + 240 := by
    have := pm_b (τ (7 * ((240 + 1) * V)))
    omega
  obtain ⟨a, a1, a2⟩ := pigeon (V := V) (fun n => pm (τ (7 * n))) 240 hm hb
  have l : (a + 1) * V ≤ 241 * V := Nat.mul_le_mul_right V (by omega)
  have e : (a + 1) * V = a * V + V := Nat.succ_mul a V
  refine h (fun t => τ (7 * (a * V) + t)) (RNN_sh hR (by omega)) (fun t ht => ?_)
  have p1 := run_pm hR (7 * (a * V)) t (by omega)
  have p2 := run_pm hR (7 * (a * V) + t) (7 * V - t) (by omega)
  have p3 := p1.tr p2
  rw [show 7 * (a * V) + t + (7 * V - t) = 7 * ((a + 1) * V) by omega] at p2 p3
  exact psame.tr' p1 p2 (pm_eq p3 a2.symm)
theorem vc_np {V : Nat} (h : NP V) : Claimed_1_1 ∧ Claimed_1_2 := vc_nr (W := 241 * V) (NR_np h)

