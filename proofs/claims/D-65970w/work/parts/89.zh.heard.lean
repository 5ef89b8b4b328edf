def DX (x : Ms) (L : List Ms) (c m : Nat) : Prop := ∃ p n, L = p ++ x :: n ∧ (mq p).length ≤ c ∧ n.length ≤ m
theorem DX_mo {x : Ms} {L : List Ms} {c m m' : Nat} (h : DX x L c m) (hm : m ≤ m') : DX x L c m' := by
  obtain ⟨p, n, e, h1, h2⟩ := h
  exact ⟨p, n, e, h1, by omega⟩
theorem tl_x {x : Ms} {L : List Ms} {c m : Nat} (h : DX x L c m) (hm : m ≤ 93) : DX x (tl95 L) c m := by
  obtain ⟨p, n, e, h1, h2⟩ := h
  subst e
  unfold tl95
  split
  · rename_i c95
    cases p with
    | nil => simp at c95; omega
    | cons a p =>
      refine ⟨p, n, rfl, ?_, h2⟩
      have : (mq p).length ≤ (mq (a :: p)).length := ((List.sublist_cons_self a p).filter (toW 6)).length_le
      omega
  · exact ⟨p, n, rfl, h1, h2⟩
theorem ap_x {x y : Ms} {L : List Ms} {c m : Nat} (h : DX x L c m) : DX x (L ++ [y]) c (m + 1) := by
  obtain ⟨p, n, e, h1, h2⟩ := h
  exact ⟨p, n ++ [y], by rw [e, List.append_assoc]; rfl, h1, by rw [List.length_append, List.length_singleton]; omega⟩
theorem er_x {w : Int} {x : Ms} {L : List Ms} {c m i : Nat} (h : DX x L c m) (hx : x.1 ≠ w) (hi : L.findIdx? (fun z => z.1 == w) = some i) : DX x (L.eraseIdx i) c m := by
  obtain ⟨p, n, e, h1, h2⟩ := h
  subst e
  obtain ⟨i0, i1, i2⟩ := List.findIdx?_eq_some_iff_getElem.mp hi
  by_cases c1 : i < p.length
  · refine ⟨p.eraseIdx i, n, List.eraseIdx_append_of_lt_length c1 _, ?_, h2⟩
    have : (mq (p.eraseIdx i)).length ≤ (mq p).length := ((List.eraseIdx_sublist p i).filter (toW 6)).length_le
    omega
  · by_cases c2 : i = p.length
    · exfalso
      subst c2
      rw [List.getElem_append_right (Nat.le_refl _)] at i1
      simp at i1
      exact hx i1
    · refine ⟨p, n.eraseIdx (i - p.length - 1), ?_, h1, ?_⟩
      · rw [List.eraseIdx_append_of_length_le (by omega)]
        obtain ⟨k, hk⟩ : ∃ k, i - p.length = k + 1 := ⟨i - p.length - 1, by omega⟩
        rw [hk, List.eraseIdx_cons_succ]
        rfl
      · have : (n.eraseIdx (i - p.length - 1)).length ≤ n.length := (List.eraseIdx_sublist _ _).length_le
        omega
theorem rd_x {w : Int} {x : Ms} {L L' s : List Ms} {c m : Nat} (h : DX x L c m) (hx : x.1 ≠ w) (hr : rdop w L L' s) (hm : m ≤ 92) : DX x L' c (m + 1) := by
  rcases hr with ⟨-, rfl, -⟩ | ⟨i, hi, hr⟩
  · exact DX_mo h (by omega)
  · have h1 := er_x h hx hi
    rcases hr with ⟨rfl, -⟩ | ⟨y, rfl, -⟩
    · exact DX_mo h1 (by omega)
    · exact ap_x (tl_x h1 (by omega))
theorem ac_x {x : Ms} {L L' s : List Ms} {c m : Nat} (h : DX x L c m) (hr : acop L L' s) (hm : m ≤ 92) : DX x L' c (m + 2) := by
  rcases hr with ⟨rfl, -⟩ | ⟨y, rfl, -⟩ | ⟨y, y', rfl, -⟩
  · exact DX_mo h (by omega)
  · exact DX_mo (ap_x (tl_x h (by omega))) (by omega)
  · exact ap_x (tl_x (ap_x (tl_x h (by omega))) (by omega))
theorem ts_x {w : Int} {x : Ms} {L L' s : List Ms} {c m : Nat} (h : DX x L c m) (hx : x.1 ≠ w) (hr : TS w L L' s) (hm : m ≤ 89) : DX x L' c (m + 5) := by
  obtain ⟨L1, L2, L3, s1, s2, s3, s4, h1, h2, h3, h4, -⟩ := hr
  exact ac_x (rd_x (rd_x (rd_x h hx h1 (by omega)) hx h2 (by omega)) hx h3 (by omega)) h4 (by omega)
def HD3 (x : Ms) (L : List Ms) : Prop := ∃ j, j < 3 ∧ (mq L)[j]? = some x
theorem DX_h {x : Ms} {L : List Ms} {c m : Nat} (h : DX x L c m) (hx : x.1 = 6) : (∃ j, j ≤ c ∧ (mq L)[j]? = some x) := by
  obtain ⟨p, n, e, h1, -⟩ := h
  refine ⟨(mq p).length, h1, ?_⟩
  rw [e, show p ++ x :: n = p ++ ([x] ++ n) from rfl, mq_app, mq_app, mq_1 hx, List.getElem?_append_right (Nat.le_refl _), show (mq p).length - (mq p).length = 0 by omega]
  rfl
theorem rd6_x {x : Ms} {L L' s : List Ms} {c m : Nat} (h : DX x L (c + 1) m) (hx : x.1 = 6) (h0 : (mq L)[0]? ≠ some x ∨ ∃ p n, L = p ++ x :: n ∧ 1 ≤ (mq p).length ∧ (mq p).length ≤ c + 1 ∧ n.length ≤ m) (hr : rdop 6 L L' s) (hm : m ≤ 92) : DX x L' c (m + 1) := by
  have h0' : ∃ p n, L = p ++ x :: n ∧ 1 ≤ (mq p).length ∧ (mq p).length ≤ c + 1 ∧ n.length ≤ m := by
    rcases h0 with h0 | h0
    · obtain ⟨p, n, e, h1, h2⟩ := h
      refine ⟨p, n, e, ?_, h1, h2⟩
      apply Classical.byContradiction
      intro hz
      apply h0
      have : mq p = [] := List.length_eq_zero_iff.mp (by omega)
      rw [e, show p ++ x :: n = p ++ ([x] ++ n) from rfl, mq_app, mq_app, mq_1 hx, this]
      rfl
    · exact h0
  obtain ⟨p, n, e, h1, h2, h3⟩ := h0'
  subst e
  have key : ∀ i, (p ++ x :: n).findIdx? (fun z => z.1 == 6) = some i → DX x ((p ++ x :: n).eraseIdx i) c m := fun i hi => by
    obtain ⟨i0, i1, i2⟩ := List.findIdx?_eq_some_iff_getElem.mp hi
    have ci : i < p.length := by
      apply Classical.byContradiction
      intro hn
      have : mq p = [] := by
        unfold mq
        rw [List.filter_eq_nil_iff]
        intro y hy e
        obtain ⟨j, hj, rfl⟩ := List.getElem_of_mem hy
        have := i2 j (by omega)
        rw [List.getElem_append_left hj] at this
        exact this e
      rw [this] at h1
      simp at h1
    refine ⟨p.eraseIdx i, n, List.eraseIdx_append_of_lt_length ci _, ?_, h3⟩
    have hg : p[i]? = some p[i] := List.getElem?_eq_getElem ci
    have hc := cp_er (toW 6) p i p[i] hg
    rw [List.getElem_append_left ci] at i1
    have i1' : toW 6 p[i] = true := i1
    rw [if_pos i1'] at hc
    have e1 := mq_len p
    have e2 := mq_len (p.eraseIdx i)
    unfold cn at e1 e2
    omega
  rcases hr with ⟨hn, -, -⟩ | ⟨i, hi, hr⟩
  · exfalso
    have hz := mq_n hn
    rw [mq_app] at hz
    have : mq p = [] := (List.append_eq_nil_iff.mp hz).1
    rw [this] at h1
    simp at h1
  · have g := key i hi
    rcases hr with ⟨rfl, -⟩ | ⟨y, rfl, -⟩
    · exact DX_mo g (by omega)
    · exact ap_x (tl_x g (by omega))
theorem ms_x {x : Ms} {σ σ' : qS} {c m : Nat} (h : DX x (ln σ) (c + 3) m) (hx : x.1 = 6) (hs : MTK σ σ') (hn : ¬ HD3 x (ln σ)) (hl : (ln σ).length ≤ 95) (hm : m ≤ 89) : DX x (ln σ') c (m + 3) := by
  obtain ⟨σ1, σ2, r1, r2, r3, -, j0, j1, j2⟩ := hs
  obtain ⟨s1, p1⟩ := HR_op r1
  obtain ⟨s2, p2⟩ := HR_op r2
  obtain ⟨s3, p3⟩ := HR_op r3
  obtain ⟨a1, a2⟩ := HR_q j0 (by rw [l_clk]; exact hl) r1
  obtain ⟨b1, b2⟩ := HR_q j1 a2 r2
  rw [l_clk] at p1 a1
  have d1 := rd6_x h hx (Or.inl (fun e => hn ⟨0, by omega, e⟩)) p1 (by omega)
  have d2 := rd6_x d1 hx (Or.inl (fun e => hn ⟨1, by omega, by rw [a1, List.getElem?_drop] at e; exact e⟩)) p2 (by omega)
  exact rd6_x d2 hx (Or.inl (fun e => hn ⟨2, by omega, by rw [b1, a1, List.getElem?_drop, List.getElem?_drop] at e; exact e⟩)) p3 (by omega)

