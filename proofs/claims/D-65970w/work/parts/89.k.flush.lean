def toW (w : Int) (x : Ms) : Bool := x.1 == w
def rdop (w : Int) (L L' s : List Ms) : Prop := (L.findIdx? (fun m => m.1 == w) = none ∧ L' = L ∧ s = []) ∨ ∃ i : Nat, L.findIdx? (fun m => m.1 == w) = some i ∧ ((L' = L.eraseIdx i ∧ s = []) ∨ ∃ y, L' = tl95 (L.eraseIdx i) ++ [y] ∧ s = [y])
def acop (L L' s : List Ms) : Prop := (L' = L ∧ s = []) ∨ (∃ y, L' = tl95 L ++ [y] ∧ s = [y]) ∨ ∃ y y', L' = tl95 (tl95 L ++ [y]) ++ [y'] ∧ s = [y, y']
def TS (w : Int) (L L' s : List Ms) : Prop := ∃ L1 L2 L3 s1 s2 s3 s4, rdop w L L1 s1 ∧ rdop w L1 L2 s2 ∧ rdop w L2 L3 s3 ∧ acop L3 L' s4 ∧ s = s1 ++ s2 ++ s3 ++ s4
theorem RD_op {w : Int} {σ σ' : qS} (h : RD w σ σ') : ∃ s, rdop w (ln σ) (ln σ') s := by
  obtain ⟨-, -, -, c⟩ := h
  rcases c with ⟨c1, c2, -⟩ | ⟨i, x, c1, -, c⟩
  · exact ⟨[], Or.inl ⟨c1, c2, rfl⟩⟩
  · rcases c with ⟨-, c, -⟩ | ⟨-, -, c, -⟩ | ⟨-, -, -, a, kv, c⟩ | ⟨-, -, c, -⟩
    · exact ⟨[], Or.inr ⟨i, c1, Or.inl ⟨c, rfl⟩⟩⟩
    · exact ⟨[], Or.inr ⟨i, c1, Or.inl ⟨c, rfl⟩⟩⟩
    · exact ⟨_, Or.inr ⟨i, c1, Or.inr ⟨_, c, rfl⟩⟩⟩
    · exact ⟨[], Or.inr ⟨i, c1, Or.inl ⟨c, rfl⟩⟩⟩
theorem TL_op {to ty a b c d : Int} {σ σ' : qS} (h : TL to ty a b c d σ σ') : ∃ s, acop (ln σ) (ln σ') s := by
  obtain ⟨kv, h⟩ := h
  exact ⟨_, Or.inr (Or.inl ⟨_, h, rfl⟩)⟩
theorem ACT_op {w : Int} {σ σ' : qS} (h : ACT w σ σ') : ∃ s, acop (ln σ) (ln σ') s := by
  obtain ⟨-, -, -, c⟩ := h
  rcases c with ⟨-, -, -, -, c⟩ | ⟨-, c⟩ | ⟨-, c⟩
  · rcases c with ⟨-, c⟩ | ⟨-, c⟩
    · exact TL_op c
    · exact ⟨[], Or.inl ⟨c, rfl⟩⟩
  · rcases c with ⟨-, -, -, a, c⟩ | ⟨-, -, -, ⟨a, c⟩, -⟩ | ⟨-, -, -, c⟩ | ⟨-, -, -, -, -, c⟩
    · exact TL_op c
    · exact TL_op c
    · exact TL_op c
    · exact ⟨[], Or.inl ⟨c, rfl⟩⟩
  · rcases c with ⟨-, -, -, c⟩ | ⟨-, -, -, -, -, c⟩ | ⟨-, -, -, -, -, c, -⟩ | ⟨-, -, -, -, -, -, -, -, -, c⟩ | ⟨-, -, -, -, c⟩
    · exact TL_op c
    · exact ⟨[], Or.inl ⟨c, rfl⟩⟩
    · exact ⟨[], Or.inl ⟨c, rfl⟩⟩
    · rcases c with ⟨-, -, c⟩ | ⟨-, -, kv, kv', c⟩
      · exact TL_op c
      · exact ⟨_, Or.inr (Or.inr ⟨_, _, c, rfl⟩)⟩
    · rcases c with ⟨-, -, c⟩ | ⟨-, c⟩
      · exact TL_op c
      · exact TL_op c
theorem HR_op {σ σ' : qS} (h : HR σ σ') : ∃ s, rdop 6 (ln σ) (ln σ') s := by
  obtain ⟨-, -, c⟩ := h
  rcases c with ⟨c1, c2, -⟩ | ⟨i, x, c1, -, c⟩
  · exact ⟨[], Or.inl ⟨c1, c2, rfl⟩⟩
  · rcases c with ⟨-, c, -⟩ | ⟨-, -, -, -, fi, en, -, c⟩ | ⟨-, -, c, -⟩ | ⟨-, -, c, -⟩
    · exact ⟨[], Or.inr ⟨i, c1, Or.inl ⟨c, rfl⟩⟩⟩
    · rcases c with ⟨c, -⟩ | ⟨t, -, -, -, -, -, kv, c⟩
      · exact ⟨[], Or.inr ⟨i, c1, Or.inl ⟨c, rfl⟩⟩⟩
      · exact ⟨_, Or.inr ⟨i, c1, Or.inr ⟨_, c, rfl⟩⟩⟩
    · exact ⟨[], Or.inr ⟨i, c1, Or.inl ⟨c, rfl⟩⟩⟩
    · exact ⟨[], Or.inr ⟨i, c1, Or.inl ⟨c, rfl⟩⟩⟩
theorem STP_ts {w : Int} {σ σ' : qS} (h : STP w σ σ') : ∃ s, TS w (ln σ) (ln σ') s := by
  rcases h with ⟨-, σ1, σ2, σ3, r1, r2, r3, a, -⟩ | ⟨rfl, σ1, σ2, r1, r2, r3, -⟩
  · obtain ⟨s1, h1⟩ := RD_op r1
    obtain ⟨s2, h2⟩ := RD_op r2
    obtain ⟨s3, h3⟩ := RD_op r3
    obtain ⟨s4, h4⟩ := ACT_op a
    exact ⟨_, _, _, _, s1, s2, s3, s4, h1, h2, h3, h4, rfl⟩
  · obtain ⟨s1, h1⟩ := HR_op r1
    obtain ⟨s2, h2⟩ := HR_op r2
    obtain ⟨s3, h3⟩ := HR_op r3
    have e : ln (clk σ) = ln σ := ln_k (fun k m => clk_k (by revert m; revert k; decide))
    rw [e] at h1
    exact ⟨_, _, _, _, s1, s2, s3, [], h1, h2, h3, Or.inl ⟨rfl, rfl⟩, rfl⟩
def cn (w : Int) (L : List Ms) : Nat := L.countP (toW w)
theorem cn_sub {w : Int} {o o' : List Ms} (h : o'.Sublist o) : cn w o' ≤ cn w o := h.countP_le
theorem tl_dc {o n : List Ms} : ∃ o' n', tl95 (o ++ n) = o' ++ n' ∧ o'.Sublist o ∧ n'.Sublist n := by
  unfold tl95
  split
  · cases o with
    | nil => exact ⟨[], n.eraseIdx 0, rfl, List.Sublist.refl _, List.eraseIdx_sublist _ _⟩
    | cons a o => exact ⟨o, n, rfl, List.sublist_cons_self a o, List.Sublist.refl _⟩
  · exact ⟨o, n, rfl, List.Sublist.refl _, List.Sublist.refl _⟩
theorem cn_er {w : Int} : ∀ (o : List Ms) (i : Nat) (h : i < o.length), toW w o[i] = true → cn w (o.eraseIdx i) + 1 = cn w o
  | [], i, h, _ => absurd h (by simp)
  | a :: o, 0, _, hh => by
    have hh' : toW w a = true := hh
    unfold cn
    rw [List.eraseIdx_zero, List.tail_cons, List.countP_cons, if_pos hh']
  | a :: o, i + 1, h, hh => by
    have ih := cn_er o i (by simp at h; omega) (by simpa using hh)
    unfold cn at ih ⊢
    rw [List.eraseIdx_cons_succ, List.countP_cons, List.countP_cons]
    omega
theorem er_dc {w : Int} {o n : List Ms} {i : Nat} (h : (o ++ n).findIdx? (fun m => m.1 == w) = some i) : ∃ o' n', (o ++ n).eraseIdx i = o' ++ n' ∧ o'.Sublist o ∧ n'.Sublist n ∧ cn w o' ≤ cn w o - 1 := by
  obtain ⟨h0, h1, h2⟩ := List.findIdx?_eq_some_iff_getElem.mp h
  by_cases c : i < o.length
  · refine ⟨o.eraseIdx i, n, List.eraseIdx_append_of_lt_length c n, List.eraseIdx_sublist _ _, List.Sublist.refl _, ?_⟩
    have hg : (o ++ n)[i] = o[i] := List.getElem_append_left c
    have h1' : toW w o[i] = true := by rw [← hg]; exact h1
    have e := cn_er o i c h1'
    omega
  · refine ⟨o, n.eraseIdx (i - o.length), List.eraseIdx_append_of_length_le (by omega) n, List.Sublist.refl _, List.eraseIdx_sublist _ _, ?_⟩
    have : cn w o = 0 := by
      unfold cn
      rw [List.countP_eq_zero]
      intro x hx
      obtain ⟨j, hj, rfl⟩ := List.getElem_of_mem hx
      have := h2 j (by omega)
      rw [List.getElem_append_left hj] at this
      exact this
    omega
theorem rd_dc {w : Int} {L L' s o n S : List Ms} (h : rdop w L L' s) (e : L = o ++ n) (hn : n.Sublist S) : ∃ o' n', L' = o' ++ n' ∧ o'.Sublist o ∧ n'.Sublist (S ++ s) ∧ cn w o' ≤ cn w o - 1 := by
  subst e
  rcases h with ⟨h1, rfl, rfl⟩ | ⟨i, h1, h2⟩
  · refine ⟨o, n, rfl, List.Sublist.refl _, by rw [List.append_nil]; exact hn, ?_⟩
    have : cn w o = 0 := by
      unfold cn
      rw [List.countP_eq_zero]
      intro x hx
      have := List.findIdx?_eq_none_iff.mp h1 x (List.mem_append_left n hx)
      unfold toW
      rw [this]
      decide
    omega
  · obtain ⟨o1, n1, e1, e2, e3, e4⟩ := er_dc h1
    rcases h2 with ⟨rfl, rfl⟩ | ⟨y, rfl, rfl⟩
    · exact ⟨o1, n1, e1, e2, by rw [List.append_nil]; exact e3.trans hn, e4⟩
    · rw [e1]
      obtain ⟨o2, n2, f1, f2, f3⟩ := tl_dc (o := o1) (n := n1)
      refine ⟨o2, n2 ++ [y], by rw [f1, List.append_assoc], f2.trans e2, (f3.trans (e3.trans hn)).append (List.Sublist.refl _), Nat.le_trans (cn_sub f2) e4⟩
theorem ac_dc {L L' s o n S : List Ms} (h : acop L L' s) (e : L = o ++ n) (hn : n.Sublist S) : ∃ o' n', L' = o' ++ n' ∧ o'.Sublist o ∧ n'.Sublist (S ++ s) := by
  subst e
  rcases h with ⟨rfl, rfl⟩ | ⟨y, rfl, rfl⟩ | ⟨y, y', rfl, rfl⟩
  · exact ⟨o, n, rfl, List.Sublist.refl _, by rw [List.append_nil]; exact hn⟩
  · obtain ⟨o2, n2, f1, f2, f3⟩ := tl_dc (o := o) (n := n)
    exact ⟨o2, n2 ++ [y], by rw [f1, List.append_assoc], f2, (f3.trans hn).append (List.Sublist.refl _)⟩
  · obtain ⟨o2, n2, f1, f2, f3⟩ := tl_dc (o := o) (n := n)
    rw [f1, List.append_assoc]
    obtain ⟨o3, n3, g1, g2, g3⟩ := tl_dc (o := o2) (n := n2 ++ [y])
    refine ⟨o3, n3 ++ [y'], by rw [g1, List.append_assoc], g2.trans f2, ?_⟩
    have := (g3.trans ((f3.trans hn).append (List.Sublist.refl [y]))).append (List.Sublist.refl [y'])
    rw [List.append_assoc] at this
    exact this
theorem ts_dc {w : Int} {L L' s o n S : List Ms} (h : TS w L L' s) (e : L = o ++ n) (hn : n.Sublist S) : ∃ o' n', L' = o' ++ n' ∧ o'.Sublist o ∧ n'.Sublist (S ++ s) ∧ cn w o' ≤ cn w o - 3 := by
  obtain ⟨L1, L2, L3, s1, s2, s3, s4, h1, h2, h3, h4, rfl⟩ := h
  obtain ⟨o1, n1, e1, a1, b1, c1⟩ := rd_dc h1 e hn
  obtain ⟨o2, n2, e2, a2, b2, c2⟩ := rd_dc h2 e1 b1
  obtain ⟨o3, n3, e3, a3, b3, c3⟩ := rd_dc h3 e2 b2
  obtain ⟨o4, n4, e4, a4, b4⟩ := ac_dc h4 e3 b3
  refine ⟨o4, n4, e4, a4.trans (a3.trans (a2.trans a1)), ?_, ?_⟩
  · simp only [List.append_assoc] at b4 ⊢; exact b4
  · have := cn_sub (w := w) a4
    omega
def SND (L : Nat) (τ : Nat → qS) (S : Nat → List Ms) : Prop := ∀ t, t < 7 * L → TS ((t % 7 : Nat) : Int) (ln (τ t)) (ln (τ (t + 1))) (S t)
theorem SND_ex {L : Nat} {τ : Nat → qS} (h : RNN L τ) : ∃ S, SND L τ S := by
  have : ∀ t, ∃ s, t < 7 * L → TS ((t % 7 : Nat) : Int) (ln (τ t)) (ln (τ (t + 1))) s := fun t => by
    by_cases c : t < 7 * L
    · obtain ⟨s, hs⟩ := STP_ts (h.2 t c)
      exact ⟨s, fun _ => hs⟩
    · exact ⟨[], fun e => absurd e c⟩
  exact Classical.skolem.mp this
def sns (S : Nat → List Ms) (t0 : Nat) : Nat → List Ms
  | 0 => []
  | k + 1 => sns S t0 k ++ S (t0 + k)
def ntk (w t0 : Nat) : Nat → Nat
  | 0 => 0
  | k + 1 => ntk w t0 k + (if (t0 + k) % 7 = w then 1 else 0)
theorem flush {L : Nat} {τ : Nat → qS} {S : Nat → List Ms} (h : SND L τ S) (t0 : Nat) : ∀ k, t0 + k ≤ 7 * L → ∃ o n, ln (τ (t0 + k)) = o ++ n ∧ o.Sublist (ln (τ t0)) ∧ n.Sublist (sns S t0 k) ∧ ∀ w : Nat, w < 7 → cn w o ≤ cn w (ln (τ t0)) - 3 * ntk w t0 k
  | 0, _ => ⟨ln (τ t0), [], (List.append_nil _).symm, List.Sublist.refl _, List.Sublist.refl _, fun w _ => by unfold ntk; omega⟩
  | k + 1, hk => by
    obtain ⟨o, n, e1, e2, e3, e4⟩ := flush h t0 k (by omega)
    obtain ⟨o', n', f1, f2, f3, f4⟩ := ts_dc (h (t0 + k) (by omega)) e1 e3
    refine ⟨o', n', f1, f2.trans e2, f3, fun w hw => ?_⟩
    have g := e4 w hw
    unfold ntk
    by_cases c : (t0 + k) % 7 = w
    · rw [if_pos c]
      rw [c] at f4
      omega
    · rw [if_neg c]
      have := cn_sub (w := (w : Int)) f2
      omega
theorem ntk_r (w t0 : Nat) (hw : w < 7) : ∀ r, ntk w t0 (7 * r) = r
  | 0 => rfl
  | r + 1 => by
    have ih := ntk_r w t0 hw r
    rw [show 7 * (r + 1) = 7 * r + 1 + 1 + 1 + 1 + 1 + 1 + 1 by omega]
    simp only [ntk]
    rw [ih]
    have h7 : (t0 + 7 * r) % 7 = t0 % 7 := by omega
    split <;> split <;> split <;> split <;> split <;> split <;> split <;> omega
theorem old_gone {L : Nat} {τ : Nat → qS} {S : Nat → List Ms} (h : RNN L τ) (hS : SND L τ S) (t0 k : Nat) (hk : t0 + k ≤ 7 * L) (h32 : 7 * 32 ≤ k) : (ln (τ (t0 + k))).Sublist (sns S t0 k) := by
  obtain ⟨o, n, e1, e2, e3, e4⟩ := flush hS t0 k hk
  have hmono : ∀ (w a b : Nat), ntk w t0 a ≤ ntk w t0 (a + b) := fun w a b => by
    induction b with
    | zero => exact Nat.le_refl _
    | succ b ih =>
      rw [show a + (b + 1) = (a + b) + 1 by omega]
      simp only [ntk]
      omega
  have hz : ∀ w : Nat, w < 7 → cn (w : Int) o = 0 := fun w hw => by
    have h1 := e4 w hw
    have h2 := hmono w (7 * 32) (k - 7 * 32)
    rw [show 7 * 32 + (k - 7 * 32) = k by omega, ntk_r w t0 hw 32] at h2
    have h3 : cn (w : Int) (ln (τ t0)) ≤ 96 := by
      have := List.countP_le_length (p := toW (w : Int)) (l := ln (τ t0))
      rw [ln_len] at this
      have hl := (h.1 t0 (by omega)).1.2.2.1
      unfold cn
      unfold lok at hl
      omega
    omega
  have ho : o = [] := by
    apply List.eq_nil_iff_forall_not_mem.mpr
    intro x hx
    have hr := ((h.1 t0 (by omega)).1.2.2.2.2.2.2.2.1 x (e2.subset hx)).1.2
    have hw := hz x.1.toNat (by omega)
    unfold cn at hw
    rw [List.countP_eq_zero] at hw
    apply hw x hx
    unfold toW
    rw [show ((x.1.toNat : Nat) : Int) = x.1 by omega]
    exact beq_self_eq_true x.1
  rw [e1, ho, List.nil_append]
  exact e3

