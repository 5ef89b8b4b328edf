-- after a TRAP of v (stamp g): ASKs of v are younger, and once a GIVE for v is issued all letters are younger
def sA (e v : Int) (x : Ms × Nat × Nat) : Prop := x.1.1 = 6 ∧ xw x.1 0 = 1 ∧ xw x.1 1 = e ∧ xw x.1 2 = v
def sG (v : Int) (x : Ms × Nat × Nat) : Prop := x.1.1 = v ∧ xw x.1 0 = 2
def JVz (g : Nat) (e v : Int) (A : List (Ms × Nat × Nat)) : Prop := TQz g e A ∧ (∀ x ∈ A, sA e v x → g < x.2.1) ∧ ((∃ x ∈ A, sG v x) → ∀ x ∈ A, g ≤ x.2.1)
theorem JV_sub {g T : Nat} {e v : Int} {A A' : List (Ms × Nat × Nat)} (hq : TQz g e A') (hs : ∀ x ∈ A', x ∈ A) (h : JVz g e v A) : JVz g e v A' := ⟨hq, fun x hx => h.2.1 x (hs x hx), fun ⟨x, hx, q⟩ y hy => h.2.2 ⟨x, hs x hx, q⟩ y (hs y hy)⟩
theorem JV_ap {g s b : Nat} {e v : Int} {z : Ms} {A : List (Ms × Nat × Nat)} (hg : g < s) (hn : ¬ sG v (z, s, b)) (h : JVz g e v A) : JVz g e v (A ++ [(z, s, b)]) := by
  refine ⟨TQ_ap (Nat.le_of_lt hg) h.1, fun x hx q => ?_, fun ⟨x, hx, q⟩ y hy => ?_⟩
  · rcases List.mem_append.mp hx with c | c
    · exact h.2.1 x c q
    · rw [List.mem_singleton] at c
      subst c
      exact hg
  · have hx' : x ∈ A := by
      rcases List.mem_append.mp hx with c | c
      · exact c
      · rw [List.mem_singleton] at c
        subst c
        exact absurd q hn
    rcases List.mem_append.mp hy with c | c
    · exact h.2.2 ⟨x, hx', q⟩ y c
    · rw [List.mem_singleton] at c
      subst c
      exact Nat.le_of_lt hg
theorem JV_tl {g T : Nat} {e v : Int} {A : List (Ms × Nat × Nat)} (hs : SRT T A) (h : JVz g e v A) : JVz g e v (tlA A) := JV_sub (T := T) (TQ_tl hs h.1) (fun x hx => (tlA_sub A).subset hx) h
theorem JV_RD {w e e' v : Int} {t g T : Nat} {A A' : List (Ms × Nat × Nat)} (h : RDn w e t A A') (hw : w ≠ 6) (hg : g < t + 1) (hs : SRT T A) (hq : JVz g e' v A) : JVz g e' v A' := by
  rcases h with ⟨-, e⟩ | ⟨i, y, c1, c2, c⟩
  · rw [e]; exact hq
  · have q : JVz g e' v (A.eraseIdx i) := JV_sub (T := T) (TQ_er c2 (fun z => hw ((hd_to c1 c2).symm.trans z.1)) hq.1) (fun x hx => (List.eraseIdx_sublist _ i).subset hx) hq
    rcases c with ⟨-, e⟩ | ⟨-, -, z, -, z6, -, -, -, -, e⟩
    · rw [e]; exact q
    · rw [e]
      exact JV_ap hg (fun c => by
        have c' : xw z 0 = 2 := c.2
        omega) (JV_tl (SRT_sub hs (List.eraseIdx_sublist _ i)) q)
theorem JV_AC {w : Int} {σ' : qS} {t g : Nat} {e v : Int} {A A' : List (Ms × Nat × Nat)} {s : List Ms} (h : ACn t A A' s) (ho : OWN w σ' s) (hg : g < t + 1) (hs : SRT (t + 1) A) (hq : JVz g e v A) : JVz g e v A' := by
  rcases h with ⟨e, -⟩ | ⟨z, e, es⟩ | ⟨z, z', e, es⟩
  · rw [e]; exact hq
  · rw [e]
    exact JV_ap hg (fun c => (ho.2 z (by rw [es]; exact List.mem_singleton.mpr rfl)).2.2.1 c.2) (JV_tl hs hq)
  · rw [e]
    have s1 : SRT (t + 1) (tlA A ++ [(z, t + 1, t + 1)]) := ACn_srt (s := [z]) (Or.inr (Or.inl ⟨z, rfl, rfl⟩)) hs
    exact JV_ap hg (fun c => (ho.2 z' (by rw [es]; exact List.mem_cons_of_mem _ (List.mem_singleton.mpr rfl))).2.2.1 c.2) (JV_tl s1 (JV_ap hg (fun c => (ho.2 z (by rw [es]; exact List.mem_cons_self)).2.2.1 c.2) (JV_tl hs hq)))
theorem JV_HR {σ σ' : qS} (hr : HR σ σ') {t g : Nat} {v : Int} {A A' : List (Ms × Nat × Nat)} (hA : prA A = ln σ) (hA' : prA A' = ln σ') (hl : (ln σ).length ≤ 95) (h : HRn t A A') (hg : g < t + 1) (hs : SRT (t + 1) A) (hq : JVz g (σ 31 0) v A) : JVz g (σ 31 0) v A' := by
  have tq := TQ_HR hr hA h (Nat.le_of_lt hg) hs hq.1
  rcases h with ⟨-, e⟩ | ⟨i, y, c1, c2, c⟩
  · rw [e]; exact hq
  · rcases c with e | ⟨z, z2, e⟩
    · rw [e] at tq ⊢
      exact JV_sub (T := 0) tq (fun x hx => (List.eraseIdx_sublist _ i).subset hx) hq
    · have g1 : (ln σ)[i]? = some y.1 := by
        rw [← hA]
        unfold prA
        rw [List.getElem?_map, c2]
        rfl
      have f1 : (ln σ).findIdx? (fun m => m.1 == 6) = some i := by rw [← hA]; exact c1
      have y6 := hd_to c1 c2
      by_cases zv : z.1 = v
      · -- the GIVE is for v: the letter heard is an ASK of v
        have ask : sA (σ 31 0) v y := by
          obtain ⟨-, -, c⟩ := hr
          have la : ln σ' = prA (tlA (A.eraseIdx i)) ++ [z] := by rw [← hA', e, pr_ap]; rfl
          rcases c with ⟨d, -, -⟩ | ⟨j, x, d1, d2, c⟩
          · rw [f1] at d; cases d
          · rw [f1] at d1
            have ej := Option.some.inj d1
            subst ej
            rw [g1] at d2
            have ex := Option.some.inj d2
            subst ex
            have il : i < (ln σ).length := by
              apply Classical.byContradiction
              intro n
              rw [List.getElem?_eq_none (by omega)] at g1
              cases g1
            have er : ((ln σ).eraseIdx i).length + 1 = (ln σ).length := by rw [List.length_eraseIdx, if_pos il]; omega
            have tl : prA (tlA (A.eraseIdx i)) = (ln σ).eraseIdx i := by
              rw [pr_tl, pr_er, hA]
              unfold tl95
              exact if_neg (by omega)
            have big : ln σ' = (ln σ).eraseIdx i → False := fun q1 => by
              have := congrArg List.length (la.symm.trans q1)
              rw [List.length_append, tl] at this
              have t' : ((ln σ).eraseIdx i).length + 1 = ((ln σ).eraseIdx i).length := this
              omega
            rcases c with ⟨-, c, -⟩ | ⟨e1, k1, -, -, fi, en, -, c⟩ | ⟨-, -, c, -⟩ | ⟨-, -, c, -⟩
            · exact (big c).elim
            · rcases c with ⟨c, -⟩ | ⟨u, -, -, -, -, -, kv, c⟩
              · exact (big c).elim
              · have q := la.symm.trans c
                have q2 := (List.append_inj' q rfl).2
                have ez : z = ((xw y.1 2, [2, σ 31 0, u, 0, 0, 0], kv) : Ms) := List.head_eq_of_cons_eq q2
                refine ⟨y6, k1, e1, ?_⟩
                rw [← zv, ez]
            · exact (big c).elim
            · exact (big c).elim
        have ya := List.mem_of_getElem? c2
        have all := TQ_fst hs hq.1 ⟨i, c1, c2⟩ (hq.2.1 y ya ask)
        refine ⟨tq, fun x hx q => ?_, fun _ x hx => ?_⟩
        · rw [e] at hx
          rcases List.mem_append.mp hx with c | c
          · exact hq.2.1 x ((List.eraseIdx_sublist _ i).subset ((tlA_sub _).subset c)) q
          · rw [List.mem_singleton] at c
            subst c
            exact hg
        · rw [e] at hx
          rcases List.mem_append.mp hx with c | c
          · exact all x ((List.eraseIdx_sublist _ i).subset ((tlA_sub _).subset c))
          · rw [List.mem_singleton] at c
            subst c
            exact Nat.le_of_lt hg
      · rw [e] at tq ⊢
        have q : JVz g (σ 31 0) v (A.eraseIdx i) := by
          have n4 : ¬ (y.1.1 = 6 ∧ xw y.1 0 = 4 ∧ xw y.1 1 = σ 31 0) := fun z => HR_4 hr f1 g1 z.2.2 z.2.1
          exact JV_sub (T := 0) (TQ_er c2 n4 hq.1) (fun x hx => (List.eraseIdx_sublist _ i).subset hx) hq
        exact JV_ap hg (fun c => zv c.1) (JV_tl (SRT_sub hs (List.eraseIdx_sublist _ i)) q)

