def lsum : List Nat → Nat
  | [] => 0
  | a :: l => a + lsum l
theorem ls_add {α : Type} (f g : α → Nat) : ∀ l : List α, lsum (l.map (fun a => f a + g a)) = lsum (l.map f) + lsum (l.map g)
  | [] => rfl
  | a :: l => by
    have := ls_add f g l
    simp only [List.map_cons, lsum, this]; omega
theorem ls_0 {α : Type} (f : α → Nat) : ∀ l : List α, (∀ a ∈ l, f a = 0) → lsum (l.map f) = 0
  | [], _ => rfl
  | a :: l, h => by
    have h1 := h a (List.mem_cons_self ..)
    have h2 := ls_0 f l (fun b hb => h b (List.mem_cons_of_mem _ hb))
    simp only [List.map_cons, lsum]; omega
theorem ls_1 {α : Type} (f : α → Nat) (c : α) (h1 : ∀ a, f a ≤ 1) (hc : ∀ a, f a ≠ 0 → a = c) : ∀ l : List α, l.Nodup → lsum (l.map f) ≤ 1
  | [], _ => by simp [lsum]
  | a :: l, h => by
    have hn := List.nodup_cons.mp h
    simp only [List.map_cons, lsum]
    by_cases e : f a = 0
    · have := ls_1 f c h1 hc l hn.2
      omega
    · have ea := hc a e
      have z := ls_0 f l (fun b hb => by
        apply Classical.byContradiction
        intro hq
        have := hc b hq
        exact hn.1 (by rw [ea, ← this]; exact hb))
      have := h1 a
      omega
theorem ke_sF (e v : Int) (Ps : List (Int × Int × Int)) (hP : Ps.Nodup) : ∀ L : List Ms, lsum (Ps.map (fun P => L.countP (eF e v P.1 P.2.1 P.2.2))) ≤ L.countP (kF e v)
  | [] => by
    have := ls_0 (fun P : Int × Int × Int => ([] : List Ms).countP (eF e v P.1 P.2.1 P.2.2)) Ps (fun a _ => List.countP_nil)
    rw [this]
    exact Nat.zero_le _
  | x :: L => by
    have ih := ke_sF e v Ps hP L
    have e1 : (fun P : Int × Int × Int => (x :: L).countP (eF e v P.1 P.2.1 P.2.2)) = (fun P => L.countP (eF e v P.1 P.2.1 P.2.2) + (if eF e v P.1 P.2.1 P.2.2 x = true then 1 else 0)) := funext (fun P => List.countP_cons)
    rw [e1, ls_add, List.countP_cons]
    have : lsum (Ps.map (fun P => if eF e v P.1 P.2.1 P.2.2 x = true then 1 else 0)) ≤ (if kF e v x = true then 1 else 0) := by
      by_cases c : kF e v x = true
      · rw [if_pos c]
        refine ls_1 _ (xw x 3, xw x 2, xw x 4) (fun a => by split <;> omega) (fun a ha => ?_) Ps hP
        have z : eF e v a.1 a.2.1 a.2.2 x = true := by
          apply Classical.byContradiction
          intro hq
          rw [if_neg hq] at ha
          exact ha rfl
        have z' := of_decide_eq_true z
        exact Prod.ext z'.2.2.2.1.symm (Prod.ext z'.2.2.2.2.1.symm z'.2.2.2.2.2.symm)
      · rw [if_neg c, ls_0 _ Ps (fun a _ => ?_)]
        · exact Nat.zero_le _
        · rw [if_neg]
          intro z
          have z' := of_decide_eq_true z
          exact c (by unfold kF; exact decide_eq_true ⟨z'.1, z'.2.1, z'.2.2.1⟩)
    omega
theorem ke_sP (e v : Int) (Ps : List (Int × Int × Int)) (hP : Ps.Nodup) : ∀ L : List Ms, lsum (Ps.map (fun P => L.countP (eP e v P.1 P.2.1 P.2.2))) ≤ L.countP (kP e v)
  | [] => by
    have := ls_0 (fun P : Int × Int × Int => ([] : List Ms).countP (eP e v P.1 P.2.1 P.2.2)) Ps (fun a _ => List.countP_nil)
    rw [this]
    exact Nat.zero_le _
  | x :: L => by
    have ih := ke_sP e v Ps hP L
    have e1 : (fun P : Int × Int × Int => (x :: L).countP (eP e v P.1 P.2.1 P.2.2)) = (fun P => L.countP (eP e v P.1 P.2.1 P.2.2) + (if eP e v P.1 P.2.1 P.2.2 x = true then 1 else 0)) := funext (fun P => List.countP_cons)
    rw [e1, ls_add, List.countP_cons]
    have : lsum (Ps.map (fun P => if eP e v P.1 P.2.1 P.2.2 x = true then 1 else 0)) ≤ (if kP e v x = true then 1 else 0) := by
      by_cases c : kP e v x = true
      · rw [if_pos c]
        refine ls_1 _ (xw x 5, xw x 2, xw x 3) (fun a => by split <;> omega) (fun a ha => ?_) Ps hP
        have z : eP e v a.1 a.2.1 a.2.2 x = true := by
          apply Classical.byContradiction
          intro hq
          rw [if_neg hq] at ha
          exact ha rfl
        have z' := of_decide_eq_true z
        exact Prod.ext z'.2.2.2.1.symm (Prod.ext z'.2.2.2.2.1.symm z'.2.2.2.2.2.symm)
      · rw [if_neg c, ls_0 _ Ps (fun a _ => ?_)]
        · exact Nat.zero_le _
        · rw [if_neg]
          intro z
          have z' := of_decide_eq_true z
          exact c (by unfold kP; exact decide_eq_true ⟨z'.1, z'.2.1, z'.2.2.1⟩)
    omega
theorem ke_sum (σ : qS) (v : Int) (Ps : List (Int × Int × Int)) (hP : Ps.Nodup) : lsum (Ps.map (fun P => ke σ v P.1 P.2.1 P.2.2)) ≤ kv σ v := by
  have h1 := ke_sF (σ 31 0) v Ps hP (ln σ)
  have h2 := ke_sP (σ 31 0) v Ps hP (ln σ)
  have e : (fun P : Int × Int × Int => ke σ v P.1 P.2.1 P.2.2) = (fun P => (ln σ).countP (eF (σ 31 0) v P.1 P.2.1 P.2.2) + (ln σ).countP (eP (σ 31 0) v P.1 P.2.1 P.2.2)) := funext (fun P => rfl)
  rw [e, ls_add]
  unfold kv kL
  omega

