abbrev Pr : Type := Int × Int
abbrev Prg : Type := (Int → Int) × (Int → Int) × Int
def prg (σ : qS) (p : Int) : Prg := (fun i => σ 6 (p * 40 + i), fun i => σ 7 (p * 40 + i), σ 8 p)
def ldoes (what key : Int) (o a : Int) (l : List Int) (c : Int → Int) (vs : List Int) (em : List Pr) : Option (List Int × (Int → Int) × List Int × List Pr) :=
  if o = 0 then (if l.length < 12 then some (a :: l, c, vs, em) else none)
  else if o = 1 then (if l.length < 12 then some (key :: l, c, vs, em) else none)
  else if o = 2 then (match vs with
    | [] => none
    | v :: t => if l.length < 12 then some (v :: l, c, (if what = 0 then v :: t else t), em) else none)
  else if o = 3 then (if l.length < 12 then some ((if what ≠ 0 ∧ vs ≠ [] then 1 else 0) :: l, c, vs, em) else none)
  else if o = 4 then (if l.length < 12 then some (c a :: l, c, vs, em) else none)
  else if o = 5 then (match l with
    | v :: t => some (t, fun i => if i = a then v else c i, vs, em)
    | _ => none)
  else if o = 12 then (match l with
    | v :: t => if t.length < 11 then some (v :: v :: t, c, vs, em) else none
    | _ => none)
  else if o = 13 then (match l with
    | _ :: t => some (t, c, vs, em)
    | _ => none)
  else if o = 14 then (match l with
    | u :: v :: t => some (v :: u :: t, c, vs, em)
    | _ => none)
  else (match memit what key l with
    | none => none
    | some x => if em.length = 4 then none else some (x.1, c, vs, em ++ [x.2]))
def lrun (g : Prg) (what key : Int) : Nat → Int → List Int → (Int → Int) → List Int → List Pr → Option (List Pr)
  | 0, at_, _, _, _, em => if g.2.2 ≤ at_ then some em else none
  | n + 1, at_, l, c, vs, em => if g.2.2 ≤ at_ then some em else if g.1 at_ = 18 then some em else if g.1 at_ = 15 then lrun g what key n (g.2.1 at_) l c vs em
    else if g.1 at_ = 16 then (match l with
      | [] => none
      | v :: t => lrun g what key n (if v = 0 then g.2.1 at_ else at_ + 1) t c vs em)
    else if 6 ≤ g.1 at_ ∧ g.1 at_ ≤ 11 then (match mcomp (g.1 at_) l with
      | none => none
      | some l2 => lrun g what key n (at_ + 1) l2 c vs em)
    else (match ldoes what key (g.1 at_) (g.2.1 at_) l c vs em with
      | none => none
      | some x => lrun g what key n (at_ + 1) x.1 x.2.1 x.2.2.1 x.2.2.2)
theorem lrun_s (g : Prg) (what key : Int) (n : Nat) (at_ : Int) (l : List Int) (c : Int → Int) (vs : List Int) (em : List Pr) : lrun g what key (n + 1) at_ l c vs em = (if g.2.2 ≤ at_ then some em else if g.1 at_ = 18 then some em else if g.1 at_ = 15 then lrun g what key n (g.2.1 at_) l c vs em
    else if g.1 at_ = 16 then (match l with
      | [] => none
      | v :: t => lrun g what key n (if v = 0 then g.2.1 at_ else at_ + 1) t c vs em)
    else if 6 ≤ g.1 at_ ∧ g.1 at_ ≤ 11 then (match mcomp (g.1 at_) l with
      | none => none
      | some l2 => lrun g what key n (at_ + 1) l2 c vs em)
    else (match ldoes what key (g.1 at_) (g.2.1 at_) l c vs em with
      | none => none
      | some x => lrun g what key n (at_ + 1) x.1 x.2.1 x.2.2.1 x.2.2.2)) := by rw [lrun.eq_def]
def lcall (g : Prg) (what key : Int) (vs : List Int) : Option (List Pr) := lrun g what key 400 0 [] (fun _ => 0) vs []
def vls (val : Int → Int) (nx : Int) (n : Nat) : List Int := (List.range n).map (fun i : Nat => val (nx + i))
theorem vls_s (val : Int → Int) (nx : Int) (n : Nat) : vls val nx (n + 1) = val nx :: vls val (nx + 1) n := by
  unfold vls
  rw [List.range_succ_eq_map, List.map_cons, List.map_map]
  congr 1
  · simp
  · apply List.map_congr_left
    intro i _
    show val _ = val _
    congr 1
    simp; omega
theorem ldoes_eq {what key to : Int} {val : Int → Int} {o a : Int} {l : List Int} {c : Int → Int} {nx : Int} {em : List Pr} (h : nx ≤ to) : ldoes what key o a l c (vls val nx (to - nx).toNat) em = (mdoes what key to val o a l c nx em).map (fun x => (x.1, x.2.1, vls val x.2.2.1 (to - x.2.2.1).toNat, x.2.2.2)) := by
  unfold ldoes mdoes
  by_cases h2 : o = 2
  · subst h2
    simp only [if_neg (show ¬ (2 : Int) = 0 by omega), if_neg (show ¬ (2 : Int) = 1 by omega), if_pos]
    by_cases e : nx = to
    · subst e; simp [vls]
    · obtain ⟨n, hn⟩ : ∃ n, (to - nx).toNat = n + 1 := ⟨(to - nx).toNat - 1, by omega⟩
      rw [hn, vls_s, if_neg e]
      by_cases hl : l.length < 12
      · simp only [if_pos hl, Option.map_some]
        by_cases hw : what = 0
        · simp only [if_pos hw]; rw [hn, vls_s]
        · simp only [if_neg hw]; rw [show (to - (nx + 1)).toNat = n by omega]
      · simp [if_neg hl]
  · have hne : vls val nx (to - nx).toNat ≠ [] ↔ nx < to := by
      unfold vls
      simp
    simp only [if_neg h2, hne]
    repeat' split
    all_goals first | (simp_all; done) | (simp_all; omega)
theorem lrun_eq {op arg : Int → Int} {len what key to : Int} {val : Int → Int} : ∀ (n : Nat) (at_ : Int) (l : List Int) (c : Int → Int) (nx : Int) (em : List Pr), nx ≤ to → mrun op arg len what key to val n at_ l c nx em = lrun (op, arg, len) what key n at_ l c (vls val nx (to - nx).toNat) em := by
  intro n
  induction n with
  | zero => intro at_ l c nx em h; rfl
  | succ n ih =>
    intro at_ l c nx em h
    rw [mrun_s, lrun_s]
    split
    · rfl
    split
    · rfl
    split
    · exact ih _ _ _ _ _ h
    split
    · cases l with
      | nil => rfl
      | cons v t => exact ih _ _ _ _ _ h
    split
    · cases hm : mcomp (op at_) l with
      | none => rfl
      | some l2 => exact ih _ _ _ _ _ h
    · rw [ldoes_eq h]
      cases hm : mdoes what key to val (op at_) (arg at_) l c nx em with
      | none => rfl
      | some x =>
        have := mdoes_nx hm
        exact ih _ _ _ _ _ (by omega)
theorem mcall_l {op arg : Int → Int} {len what key : Int} {val : Int → Int} {fr to : Int} (h : fr ≤ to) : mcall op arg len what key val fr to = lcall (op, arg, len) what key (vls val fr (to - fr).toNat) := lrun_eq 400 0 [] _ fr [] h
def srtd (l : List Pr) : Prop := List.Pairwise (fun a b : Pr => a.1 ≤ b.1) l
def fk (k : Int) (l : List Pr) : List Pr := l.filter (fun p => p.1 == k)
def SS (l l' : List Pr) : Prop := srtd l' ∧ ∀ k, fk k l' = fk k l
theorem fk_cons (k : Int) (x : Pr) (l : List Pr) : fk k (x :: l) = if x.1 = k then x :: fk k l else fk k l := by
  unfold fk; rw [List.filter_cons]; simp only [beq_iff_eq]
theorem fk_app (k : Int) (a b : List Pr) : fk k (a ++ b) = fk k a ++ fk k b := List.filter_append ..
theorem fk_nil_of {k : Int} {l : List Pr} (h : ∀ x ∈ l, x.1 ≠ k) : fk k l = [] := by
  unfold fk; rw [List.filter_eq_nil_iff]; intro x hx; simpa using h x hx
theorem fk_mem {k : Int} {l : List Pr} {x : Pr} (h : x ∈ fk k l) : x ∈ l ∧ x.1 = k := by
  have := List.mem_filter.mp h; exact ⟨this.1, by simpa using this.2⟩
theorem SS_un : ∀ {a b : List Pr}, srtd a → srtd b → (∀ k, fk k a = fk k b) → a = b
  | [], [], _, _, _ => rfl
  | [], y :: b, _, _, h => by have := h y.1; rw [fk_cons, if_pos rfl] at this; cases this
  | x :: a, [], _, _, h => by have := h x.1; rw [fk_cons, if_pos rfl] at this; cases this
  | x :: a, y :: b, ha, hb, h => by
    have ha' := List.pairwise_cons.mp ha
    have hb' := List.pairwise_cons.mp hb
    have hxy : x.1 = y.1 := by
      have h1 : x ∈ fk x.1 (y :: b) := by rw [← h, fk_cons, if_pos rfl]; exact List.mem_cons_self
      have h2 : y ∈ fk y.1 (x :: a) := by rw [h, fk_cons, if_pos rfl]; exact List.mem_cons_self
      have l1 : y.1 ≤ x.1 := by
        rcases List.mem_cons.mp (fk_mem h1).1 with e | e
        · rw [e]; omega
        · exact hb'.1 x e
      have l2 : x.1 ≤ y.1 := by
        rcases List.mem_cons.mp (fk_mem h2).1 with e | e
        · rw [e]; omega
        · exact ha'.1 y e
      omega
    have h0 := h x.1
    rw [fk_cons, if_pos rfl, fk_cons, if_pos hxy.symm] at h0
    injection h0 with e1 e2
    subst e1
    have := SS_un ha'.2 hb'.2 (fun k => by
      have h9 := h k
      rw [fk_cons, fk_cons] at h9
      by_cases e : x.1 = k
      · rw [if_pos e, if_pos e] at h9; injection h9
      · rw [if_neg e, if_neg e] at h9; exact h9)
    rw [this]
theorem SS_uniq {l a b : List Pr} (ha : SS l a) (hb : SS l b) : a = b := SS_un ha.1 hb.1 (fun k => (ha.2 k).trans (hb.2 k).symm)
theorem SS_ins {l p : List Pr} {x : Pr} {i : Nat} (h : SS l p) (h1 : ∀ y ∈ p.drop i, x.1 < y.1) (h2 : ∀ y ∈ p.take i, y.1 ≤ x.1) : SS (l ++ [x]) (p.take i ++ x :: p.drop i) := by
  obtain ⟨hs, hf⟩ := h
  have hp : p = p.take i ++ p.drop i := (List.take_append_drop i p).symm
  unfold srtd at hs
  rw [hp] at hs
  obtain ⟨s1, s2, s3⟩ := List.pairwise_append.mp hs
  refine ⟨List.pairwise_append.mpr ⟨s1, List.pairwise_cons.mpr ⟨fun y hy => Int.le_of_lt (h1 y hy), s2⟩, fun a ha b hb => ?_⟩, fun k => ?_⟩
  · rcases List.mem_cons.mp hb with rfl | hb
    · exact h2 a ha
    · exact s3 a ha b hb
  · have e0 : fk k (p.take i) ++ fk k (p.drop i) = fk k l := by rw [← fk_app, ← hp]; exact hf k
    rw [fk_app, fk_app, fk_cons, ← e0]
    by_cases e : x.1 = k
    · rw [if_pos e]
      have : fk k (p.drop i) = [] := fk_nil_of (fun y hy => by have := h1 y hy; omega)
      rw [this, show fk k [x] = [x] by rw [fk_cons, if_pos e]; rfl]; simp
    · rw [if_neg e, show fk k [x] = [] by rw [fk_cons, if_neg e]; rfl]; simp
def ins (x : Pr) : List Pr → List Pr
  | [] => [x]
  | y :: t => if x.1 < y.1 then x :: y :: t else y :: ins x t
def srt (l : List Pr) : List Pr := l.foldl (fun acc x => ins x acc) []
theorem ins_at (x : Pr) : ∀ {p : List Pr}, srtd p → ∃ i, ins x p = p.take i ++ x :: p.drop i ∧ (∀ y ∈ p.drop i, x.1 < y.1) ∧ (∀ y ∈ p.take i, y.1 ≤ x.1)
  | [], _ => ⟨0, rfl, fun y h => by simp at h, fun y h => by simp at h⟩
  | z :: t, h => by
    have h' := List.pairwise_cons.mp h
    unfold ins
    by_cases e : x.1 < z.1
    · rw [if_pos e]
      refine ⟨0, rfl, fun y hy => ?_, fun y hy => by simp at hy⟩
      rcases List.mem_cons.mp hy with rfl | hy
      · exact e
      · have := h'.1 y hy; omega
    · rw [if_neg e]
      obtain ⟨i, h1, h2, h3⟩ := ins_at x h'.2
      refine ⟨i + 1, by rw [h1]; rfl, h2, fun y hy => ?_⟩
      rw [List.take_succ_cons] at hy
      rcases List.mem_cons.mp hy with rfl | hy
      · omega
      · exact h3 y hy
theorem srt_SS (l : List Pr) : SS l (srt l) := by
  have key : ∀ (r l p : List Pr), SS l p → SS (l ++ r) (r.foldl (fun acc x => ins x acc) p) := by
    intro r
    induction r with
    | nil => intro l p h; simpa using h
    | cons x r ih =>
      intro l p h
      obtain ⟨i, h1, h2, h3⟩ := ins_at x h.1
      have := ih (l ++ [x]) (ins x p) (by rw [h1]; exact SS_ins h h2 h3)
      simpa using this
  have := key l [] [] ⟨List.Pairwise.nil, fun _ => rfl⟩
  unfold srt
  simpa using this
theorem srt_eq {l p : List Pr} (h : SS l p) : p = srt l := SS_uniq h (srt_SS l)
theorem SS_len {l p : List Pr} (h : SS l p) : p.length = l.length := by
  have key : ∀ (n : Nat) (a b : List Pr), a.length = n → (∀ k, fk k a = fk k b) → a.length = b.length := by
    intro n
    induction n using Nat.strongRecOn with
    | _ n ih =>
      intro a b hn h
      cases a with
      | nil =>
        cases b with
        | nil => rfl
        | cons y t => have := h y.1; rw [fk_cons, if_pos rfl] at this; cases this
      | cons x t =>
        have e : ∀ (l : List Pr), l.length = (fk x.1 l).length + (l.filter (fun p => !(p.1 == x.1))).length := by
          intro l
          induction l with
          | nil => rfl
          | cons y l ih2 => simp only [fk, List.filter_cons, List.length_cons] at *; by_cases q : y.1 = x.1 <;> simp [q] <;> omega
        have e1 := e (x :: t)
        have e2 := e b
        rw [h x.1] at e1
        have hlt : ((x :: t).filter (fun p => !(p.1 == x.1))).length < n := by
          rw [← hn]
          have : (fk x.1 (x :: t)).length ≥ 1 := by rw [fk_cons, if_pos rfl]; simp
          rw [h x.1] at this
          omega
        have := ih _ hlt _ (b.filter (fun p => !(p.1 == x.1))) rfl (fun k => by
          by_cases q : k = x.1
          · subst q
            rw [fk_nil_of (fun y hy => by have := (List.mem_filter.mp hy).2; simpa using this), fk_nil_of (fun y hy => by have := (List.mem_filter.mp hy).2; simpa using this)]
          · have f : ∀ l : List Pr, fk k (l.filter (fun p => !(p.1 == x.1))) = fk k l := by
              intro l
              unfold fk
              rw [List.filter_filter]
              apply List.filter_congr
              intro y _
              by_cases q2 : y.1 = k
              · simp [q2, q]
              · simp [q2]
            rw [f, f, h k])
        omega
  exact key _ _ _ rfl h.2
def row (σ : qS) (kk kv : Nat) (b : Int) (n : Nat) : List Pr := (List.range n).map (fun i : Nat => (σ kk (b + i), σ kv (b + i)))
theorem row_len (σ : qS) (kk kv : Nat) (b : Int) (n : Nat) : (row σ kk kv b n).length = n := by simp [row]
theorem row_at {σ : qS} {kk kv : Nat} {b : Int} {n i : Nat} (h : i < n) : (row σ kk kv b n)[i]? = some (σ kk (b + i), σ kv (b + i)) := by
  unfold row; rw [List.getElem?_map, List.getElem?_range h]; rfl
theorem row_no {σ : qS} {kk kv : Nat} {b : Int} {n i : Nat} (h : ¬ i < n) : (row σ kk kv b n)[i]? = none := List.getElem?_eq_none (by rw [row_len]; omega)
theorem row_s (σ : qS) (kk kv : Nat) (b : Int) (n : Nat) : row σ kk kv b (n + 1) = row σ kk kv b n ++ [(σ kk (b + n), σ kv (b + n))] := by
  unfold row; rw [List.range_succ, List.map_append]; rfl
theorem row_app (σ : qS) (kk kv : Nat) (b : Int) (n m : Nat) : row σ kk kv b (n + m) = row σ kk kv b n ++ row σ kk kv (b + n) m := by
  apply List.ext_getElem?
  intro i
  by_cases h : i < n
  · rw [row_at (by omega), List.getElem?_append_left (by rw [row_len]; exact h), row_at h]
  · rw [List.getElem?_append_right (by rw [row_len]; omega), row_len]
    by_cases h2 : i < n + m
    · rw [row_at h2, row_at (by omega), show b + (n : Int) + ((i - n : Nat) : Int) = b + (i : Int) by omega]
    · rw [row_no h2, row_no (by omega)]
theorem row_keep {σ σ' : qS} {kk kv : Nat} {b : Int} {n : Nat} (h : ∀ i : Int, b ≤ i → i < b + n → σ' kk i = σ kk i ∧ σ' kv i = σ kv i) : row σ' kk kv b n = row σ kk kv b n := by
  unfold row
  apply List.map_congr_left
  intro i hi
  have := List.mem_range.mp hi
  obtain ⟨h1, h2⟩ := h (b + i) (by omega) (by omega)
  rw [h1, h2]

