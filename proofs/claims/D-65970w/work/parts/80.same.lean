def okp (g : Prg) : Prop := ∀ i, 0 ≤ i → i < g.2.2 → (g.1 i = 15 ∨ g.1 i = 16) → 0 ≤ g.2.1 i
def sim (g g' : Prg) : Prop := g.2.2 = g'.2.2 ∧ ∀ i, 0 ≤ i → i < g.2.2 → g.1 i = g'.1 i ∧ g.2.1 i = g'.2.1 i
theorem lrun_sim {g g' : Prg} (hs : sim g g') (ho : okp g) (what key : Int) : ∀ (n : Nat) (at_ : Int) (l : List Int) (c : Int → Int) (vs : List Int) (em : List Pr), 0 ≤ at_ → lrun g what key n at_ l c vs em = lrun g' what key n at_ l c vs em
  | 0, at_, l, c, vs, em, h => by rw [lrun, lrun, hs.1]
  | n + 1, at_, l, c, vs, em, h => by
    by_cases hl : g.2.2 ≤ at_
    · rw [lrun_s, lrun_s, if_pos hl, if_pos (by rw [← hs.1]; exact hl)]
    · obtain ⟨e1, e2⟩ := hs.2 at_ h (by omega)
      rw [lone_e hl, lone_e (by rw [← hs.1]; exact hl), ← e1, ← e2]
      have hok := ho at_ h (by omega)
      unfold lone
      split
      · rfl
      split
      · exact lrun_sim hs ho what key n _ _ _ _ _ (hok (Or.inl ‹_›))
      split
      · cases l with
        | nil => rfl
        | cons v t =>
          refine lrun_sim hs ho what key n _ _ _ _ _ ?_
          split
          · exact hok (Or.inr ‹_›)
          · omega
      split
      · cases mcomp (g.1 at_) l with
        | none => rfl
        | some l2 => exact lrun_sim hs ho what key n _ _ _ _ _ (by omega)
      · cases ldoes what key (g.1 at_) (g.2.1 at_) l c vs em with
        | none => rfl
        | some x => exact lrun_sim hs ho what key n _ _ _ _ _ (by omega)
theorem lcall_sim {g g' : Prg} (hs : sim g g') (ho : okp g) (what : Int) : lcall g what = lcall g' what := by
  funext key vs
  exact lrun_sim hs ho what key 400 0 _ _ _ _ (by omega)
theorem prg_sim {σ : qS} (h : B4 σ) {p : Int} (h0 : 0 ≤ p) (h1 : p < 24) : sim (prg σ p) (dprg σ p) ∧ okp (prg σ p) := by
  obtain ⟨⟨-, -, q3⟩, q4, q5⟩ := h p h0 h1
  refine ⟨⟨q4.symm, fun i i0 i1 => ?_⟩, fun i i0 i1 hj => ?_⟩
  · obtain ⟨x1, x2⟩ := q5 i i0 i1
    exact ⟨x1.symm, x2.symm⟩
  · exact ((q3 i i0 i1).2.2 hj).1
theorem JO_sim {mp cp rp mp' cp' rp' : Prg} (h1 : lcall mp 0 = lcall mp' 0) (h2 : lcall cp 1 = lcall cp' 1) (h3 : lcall rp 2 = lcall rp' 2) (h4 : cp.2.2 = cp'.2.2) (n : Int) (recs : List Pr) : JO mp cp rp n recs = JO mp' cp' rp' n recs := by
  unfold JO PRS PAR
  have e : OUTk mp cp recs = OUTk mp' cp' recs := by
    funext k
    unfold OUTk splo
    rw [h1, h2, h4]
  rw [e, h3]
theorem jf_eq {σ : qS} (h4 : B4 σ) (h5 : B5 σ) {j : Int} (h0 : 0 ≤ j) (h1 : j < 8) : jfM σ j = jfD σ j := by
  funext FS
  unfold jfM jfD
  obtain ⟨-, -, ⟨e1, e2, e3, e4⟩, -⟩ := h5 j h0 h1
  rw [e1, e2, e4, show j * 3 = 3 * j by omega]
  obtain ⟨s1, o1⟩ := prg_sim h4 (p := 3 * j) (by omega) (by omega)
  obtain ⟨s2, o2⟩ := prg_sim h4 (p := 3 * j + 1) (by omega) (by omega)
  obtain ⟨s3, o3⟩ := prg_sim h4 (p := 3 * j + 2) (by omega) (by omega)
  exact JO_sim (lcall_sim s1 o1 0) (lcall_sim s2 o2 1) (lcall_sim s3 o3 2) s2.1 _ _
theorem fre_iff {σ : qS} (h5 : B5 σ) (C : List Int) {j : Int} (h0 : 0 ≤ j) (h1 : j < 8) : fre σ C j ↔ dfre σ C j := by
  obtain ⟨m1, m2, ⟨e1, e2, e3, e4⟩, -⟩ := h5 j h0 h1
  unfold fre dfre
  rw [m2, e1, e2]
  constructor
  · rintro ⟨a, b, c⟩
    refine ⟨a, b, fun ⟨k, hk, x1, x2, x3⟩ => c ⟨k, hk, ?_⟩⟩
    obtain ⟨n1, n2, ⟨f1, f2, f3, f4⟩, -⟩ := h5 k hk.1 hk.2
    rw [n2] at x1
    rw [f3] at x2
    exact ⟨x1, x2.imp Eq.symm Eq.symm, x3⟩
  · rintro ⟨a, b, c⟩
    refine ⟨a, b, fun ⟨k, hk, x1, x2, x3⟩ => c ⟨k, hk, ?_⟩⟩
    obtain ⟨n1, n2, ⟨f1, f2, f3, f4⟩, -⟩ := h5 k hk.1 hk.2
    rw [n2, f3]
    exact ⟨x1, x2.imp Eq.symm Eq.symm, x3⟩

