def lone (g : Prg) (what key : Int) (n : Nat) (at_ o a : Int) (l : List Int) (c : Int → Int) (vs : List Int) (em : List Pr) : Option (List Pr) := if o = 18 then some em else if o = 15 then lrun g what key n a l c vs em
    else if o = 16 then (match l with
      | [] => none
      | v :: t => lrun g what key n (if v = 0 then a else at_ + 1) t c vs em)
    else if 6 ≤ o ∧ o ≤ 11 then (match mcomp o l with
      | none => none
      | some l2 => lrun g what key n (at_ + 1) l2 c vs em)
    else (match ldoes what key o a l c vs em with
      | none => none
      | some x => lrun g what key n (at_ + 1) x.1 x.2.1 x.2.2.1 x.2.2.2)
theorem lone_e {g : Prg} {what key : Int} {n : Nat} {at_ : Int} {l : List Int} {c : Int → Int} {vs : List Int} {em : List Pr} (h : ¬ g.2.2 ≤ at_) : lrun g what key (n + 1) at_ l c vs em = lone g what key n at_ (g.1 at_) (g.2.1 at_) l c vs em := by
  rw [lrun_s, if_neg h]; rfl
section
variable {g : Prg} {what key : Int} {n : Nat} {at_ a : Int} {l : List Int} {c : Int → Int} {vs : List Int} {em : List Pr}
theorem lone_0 : lone g what key n at_ 0 a l c vs em = if l.length < 12 then lrun g what key n (at_ + 1) (a :: l) c vs em else none := by
  unfold lone ldoes; simp only [Int.reduceEq, Int.reduceLE, false_and, if_false, if_true]
  by_cases h : l.length < 12
  · simp only [if_pos h]
  · simp only [if_neg h]
theorem lone_1 : lone g what key n at_ 1 a l c vs em = if l.length < 12 then lrun g what key n (at_ + 1) (key :: l) c vs em else none := by
  unfold lone ldoes; simp only [Int.reduceEq, Int.reduceLE, false_and, if_false, if_true]
  by_cases h : l.length < 12
  · simp only [if_pos h]
  · simp only [if_neg h]
theorem lone_2 : lone g what key n at_ 2 a l c vs em = match vs with
    | [] => none
    | v :: t => if l.length < 12 then lrun g what key n (at_ + 1) (v :: l) c (if what = 0 then v :: t else t) em else none := by
  unfold lone ldoes; simp only [Int.reduceEq, Int.reduceLE, false_and, if_false, if_true]
  cases vs with
  | nil => rfl
  | cons v t =>
    by_cases h : l.length < 12
    · simp only [if_pos h]
    · simp only [if_neg h]
theorem lone_3 : lone g what key n at_ 3 a l c vs em = if l.length < 12 then lrun g what key n (at_ + 1) ((if what ≠ 0 ∧ vs ≠ [] then 1 else 0) :: l) c vs em else none := by
  unfold lone ldoes; simp only [Int.reduceEq, Int.reduceLE, false_and, if_false, if_true]
  by_cases h : l.length < 12
  · simp only [if_pos h]
  · simp only [if_neg h]
theorem lone_4 : lone g what key n at_ 4 a l c vs em = if l.length < 12 then lrun g what key n (at_ + 1) (c a :: l) c vs em else none := by
  unfold lone ldoes; simp only [Int.reduceEq, Int.reduceLE, false_and, if_false, if_true]
  by_cases h : l.length < 12
  · simp only [if_pos h]
  · simp only [if_neg h]
theorem lone_5 : lone g what key n at_ 5 a l c vs em = match l with
    | v :: t => lrun g what key n (at_ + 1) t (fun i => if i = a then v else c i) vs em
    | _ => none := by
  unfold lone ldoes; simp only [Int.reduceEq, Int.reduceLE, false_and, if_false, if_true]
  cases l <;> rfl
theorem lone_6 {o : Int} (h : 6 ≤ o ∧ o ≤ 11) : lone g what key n at_ o a l c vs em = match mcomp o l with
      | none => none
      | some l2 => lrun g what key n (at_ + 1) l2 c vs em := by
  unfold lone; rw [if_neg (by omega), if_neg (by omega), if_neg (by omega), if_pos h]
theorem lone_12 : lone g what key n at_ 12 a l c vs em = match l with
    | v :: t => if t.length < 11 then lrun g what key n (at_ + 1) (v :: v :: t) c vs em else none
    | _ => none := by
  unfold lone ldoes; simp only [Int.reduceEq, Int.reduceLE, and_false, if_false, if_true]
  cases l with
  | nil => rfl
  | cons v t =>
    by_cases h : t.length < 11
    · simp only [if_pos h]
    · simp only [if_neg h]
theorem lone_13 : lone g what key n at_ 13 a l c vs em = match l with
    | _ :: t => lrun g what key n (at_ + 1) t c vs em
    | _ => none := by
  unfold lone ldoes; simp only [Int.reduceEq, Int.reduceLE, and_false, if_false, if_true]
  cases l <;> rfl
theorem lone_14 : lone g what key n at_ 14 a l c vs em = match l with
    | u :: v :: t => lrun g what key n (at_ + 1) (v :: u :: t) c vs em
    | _ => none := by
  unfold lone ldoes; simp only [Int.reduceEq, Int.reduceLE, and_false, if_false, if_true]
  match l with
  | [] => rfl
  | [_] => rfl
  | _ :: _ :: _ => rfl
theorem lone_15 : lone g what key n at_ 15 a l c vs em = lrun g what key n a l c vs em := by
  unfold lone; simp only [Int.reduceEq, if_false, if_true]
theorem lone_16 : lone g what key n at_ 16 a l c vs em = match l with
      | [] => none
      | v :: t => lrun g what key n (if v = 0 then a else at_ + 1) t c vs em := by
  unfold lone; simp only [Int.reduceEq, if_false, if_true]
theorem lone_17 : lone g what key n at_ 17 a l c vs em = match memit what key l with
    | none => none
    | some x => if em.length = 4 then none else lrun g what key n (at_ + 1) x.1 c vs (em ++ [x.2]) := by
  unfold lone ldoes; simp only [Int.reduceEq, Int.reduceLE, and_false, if_false]
  cases memit what key l with
  | none => rfl
  | some x =>
    by_cases h : em.length = 4
    · simp only [if_pos h]
    · simp only [if_neg h]
theorem lone_18 : lone g what key n at_ 18 a l c vs em = some em := by unfold lone; rw [if_pos rfl]
theorem lone_lack {o cb : Int} (ho : 0 ≤ o ∧ o ≤ 18) (hw : what = 1 ↔ cb ≠ 0) (h : (l.length : Int) < tks o cb ∨ ((o ≤ 4 ∨ o = 12) ∧ (l.length : Int) = 12)) : lone g what key n at_ o a l c vs em = none := by
  have hc : o = 0 ∨ o = 1 ∨ o = 2 ∨ o = 3 ∨ o = 4 ∨ o = 5 ∨ (6 ≤ o ∧ o ≤ 11) ∨ o = 12 ∨ o = 13 ∨ o = 14 ∨ o = 15 ∨ o = 16 ∨ o = 17 ∨ o = 18 := by omega
  unfold tks at h
  rcases hc with rfl | rfl | rfl | rfl | rfl | rfl | h6 | rfl | rfl | rfl | rfl | rfl | rfl | rfl
  · rw [lone_0, if_neg]; simp at h; omega
  · rw [lone_1, if_neg]; simp at h; omega
  · rw [lone_2]; cases vs with
    | nil => rfl
    | cons v t => simp only; rw [if_neg]; simp at h; omega
  · rw [lone_3, if_neg]; simp at h; omega
  · rw [lone_4, if_neg]; simp at h; omega
  · rw [lone_5]; cases l with
    | nil => rfl
    | cons v t => simp at h; omega
  · rw [lone_6 h6]
    rw [if_pos (Or.inl h6)] at h
    match l, h with
    | [], _ => rfl
    | [_], _ => rfl
    | _ :: _ :: t, h => simp only [List.length_cons] at h; omega
  · rw [lone_12]; cases l with
    | nil => rfl
    | cons v t => simp only [List.length_cons] at h ⊢; rw [if_neg]; simp at h; omega
  · rw [lone_13]; cases l with
    | nil => rfl
    | cons v t => simp at h; omega
  · rw [lone_14]
    match l, h with
    | [], _ => rfl
    | [_], _ => rfl
    | _ :: _ :: t, h => simp at h; omega
  · simp at h; omega
  · rw [lone_16]; cases l with
    | nil => rfl
    | cons v t => simp at h; omega
  · rw [lone_17]
    by_cases e : cb = 0
    · have hw1 : what ≠ 1 := fun e1 => hw.mp e1 e
      rw [if_pos (by omega)] at h
      match l, h with
      | [], _ => simp [memit, hw1]
      | [_], _ => simp [memit, hw1]
      | _ :: _ :: t, h => simp only [List.length_cons] at h; omega
    · have hw1 : what = 1 := hw.mpr e
      rw [if_neg (by omega), if_pos (by omega)] at h
      cases l with
      | nil => simp [memit, hw1]
      | cons v t => simp only [List.length_cons] at h; omega
  · simp at h; omega
end

