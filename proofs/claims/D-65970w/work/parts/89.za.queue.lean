def mq (L : List Ms) : List Ms := L.filter (toW 6)
theorem mq_app (A B : List Ms) : mq (A ++ B) = mq A ++ mq B := by unfold mq; exact List.filter_append A B
theorem mq_1 {x : Ms} (h : x.1 = 6) : mq [x] = [x] := by
  unfold mq
  have : toW 6 x = true := by unfold toW; rw [h]; rfl
  rw [List.filter_cons_of_pos this, List.filter_nil]
theorem mq_0 {x : Ms} (h : x.1 ≠ 6) : mq [x] = [] := by
  unfold mq
  have : ¬ toW 6 x = true := by unfold toW; intro e; exact h (by simpa using e)
  rw [List.filter_cons_of_neg this, List.filter_nil]
theorem mq_len (L : List Ms) : (mq L).length = cn 6 L := by unfold mq cn; rw [List.countP_eq_length_filter]
theorem mq_er : ∀ (L : List Ms) (i : Nat) (x : Ms), L[i]? = some x → x.1 ≠ 6 → mq (L.eraseIdx i) = mq L
  | [], _, _, h, _ => by simp at h
  | a :: L, 0, x, h, hx => by
    have e : a = x := by simpa using h
    subst e
    rw [List.eraseIdx_zero, List.tail_cons, show a :: L = [a] ++ L from rfl, mq_app, mq_0 hx, List.nil_append]
  | a :: L, i + 1, x, h, hx => by
    have ih := mq_er L i x (by simpa using h) hx
    rw [List.eraseIdx_cons_succ, show a :: L.eraseIdx i = [a] ++ L.eraseIdx i from rfl, show a :: L = [a] ++ L from rfl, mq_app, mq_app, ih]
theorem mq_h : ∀ (L : List Ms) (i : Nat) (x : Ms), L.findIdx? (fun m => m.1 == 6) = some i → L[i]? = some x → mq L = x :: mq (L.eraseIdx i)
  | [], i, x, h, _ => by simp at h
  | a :: L, i, x, h, hx => by
    rw [List.findIdx?_cons] at h
    by_cases c : (a.1 == 6) = true
    · rw [if_pos c] at h
      have e : i = 0 := by have := Option.some.inj h; omega
      subst e
      have e : a = x := by simpa using hx
      subst e
      rw [List.eraseIdx_zero, List.tail_cons, show a :: L = [a] ++ L from rfl, mq_app, mq_1 (by simpa using c)]
      rfl
    · rw [if_neg c] at h
      have c' : a.1 ≠ 6 := fun e => c (by rw [e]; rfl)
      cases hh : L.findIdx? (fun m => m.1 == 6) with
      | none => rw [hh] at h; simp at h
      | some j =>
        rw [hh] at h
        have e : i = j + 1 := (Option.some.inj h).symm
        subst e
        have ih := mq_h L j x hh (by simpa using hx)
        rw [List.eraseIdx_cons_succ, show a :: L.eraseIdx j = [a] ++ L.eraseIdx j from rfl, show a :: L = [a] ++ L from rfl, mq_app, mq_app, mq_0 c', List.nil_append, List.nil_append, ih]
theorem mq_tl (L : List Ms) : mq (tl95 L) = mq L ∨ (95 ≤ L.length ∧ mq (tl95 L) = (mq L).drop 1) := by
  unfold tl95
  by_cases c : 95 ≤ L.length
  · rw [if_pos c]
    cases L with
    | nil => exact Or.inl rfl
    | cons a L =>
      rw [List.eraseIdx_zero, List.tail_cons, show a :: L = [a] ++ L from rfl, mq_app]
      by_cases h : a.1 = 6
      · rw [mq_1 h]; exact Or.inr ⟨c, rfl⟩
      · rw [mq_0 h]; exact Or.inl rfl
  · rw [if_neg c]; exact Or.inl rfl
theorem tl_z {L : List Ms} (h : L.length < 95) : tl95 L = L := by unfold tl95; rw [if_neg (by omega)]
def RQ (w : Int) (σ σ' : qS) : Prop := mq (ln σ') = mq (ln σ) ∧ (ln σ').length ≤ (ln σ).length ∧ ((σ' 62 w = σ 62 w ∧ (σ 62 w = -1 → σ' 65 w = σ 65 w)) ∨ (σ 62 w = -1 ∧ 0 ≤ σ' 62 w ∧ (ln σ').length + 1 ≤ (ln σ).length ∧ ∃ x ∈ ln σ, xw x 0 = 2 ∧ σ' 62 w = xw x 2)) ∧ ∀ y ∈ ln σ', xw y 0 = 2 → y ∈ ln σ
theorem RD_q {w : Int} {σ σ' : qS} (hJ : JI False (-1) σ) (hw : 0 ≤ w ∧ w < 6) (hl : (ln σ).length ≤ 95) (h : RD w σ σ') : RQ w σ σ' := by
  obtain ⟨-, -, -, c⟩ := h
  have sm : same w σ σ' → (σ' 62 w = σ 62 w ∧ (σ 62 w = -1 → σ' 65 w = σ 65 w)) := fun s => ⟨s.1, fun _ => s.2.2.1⟩
  rcases c with ⟨c1, c2, c3⟩ | ⟨i, x, c1, c2, c⟩
  · exact ⟨by rw [c2], by rw [c2]; exact Nat.le_refl _, Or.inl (sm c3), fun y hy _ => by rw [c2] at hy; exact hy⟩
  · obtain ⟨i0, i1, -⟩ := List.findIdx?_eq_some_iff_getElem.mp c1
    have xe : (ln σ)[i] = x := by
      have := List.getElem?_eq_getElem i0
      rw [c2] at this
      exact (Option.some.inj this).symm
    have x1 : x.1 = w := by rw [xe] at i1; simpa using i1
    have x6 : x.1 ≠ 6 := by omega
    have em := mq_er _ _ _ c2 x6
    have el : ((ln σ).eraseIdx i).length = (ln σ).length - 1 := List.length_eraseIdx_of_lt i0
    have sb : ln σ' = (ln σ).eraseIdx i → ∀ y ∈ ln σ', xw y 0 = 2 → y ∈ ln σ := fun e y hy _ => (List.eraseIdx_sublist _ _).subset (by rw [e] at hy; exact hy)
    rcases c with ⟨-, d1, d2⟩ | ⟨d0, d1, d2, d3⟩ | ⟨d0, d1, d2, a, kv, d3⟩ | ⟨-, -, d1, d2⟩
    · exact ⟨by rw [d1]; exact em, by rw [d1, el]; omega, Or.inl (sm d2), sb d1⟩
    · refine ⟨by rw [d2]; exact em, by rw [d2, el]; omega, ?_, sb d2⟩
      rcases d3 with ⟨t0, t1, -⟩ | ⟨-, d3⟩
      · have := GV_nn hJ hw c1 c2 d0 d1
        exact Or.inr ⟨t0, by omega, by rw [d2, el]; omega, x, List.mem_of_getElem? c2, d1, t1⟩
      · exact Or.inl (sm d3)
    · have hL := (hJ.2.2.2.2.2.2.2.1 x (List.mem_of_getElem? c2)).2 d0
      have hd : xw x 5 ≠ 6 := by
        rcases hL with ⟨e, -⟩ | ⟨-, e⟩
        · omega
        · rcases e with ⟨e, -⟩ | ⟨-, e⟩ | ⟨e, -⟩
          · omega
          · have := e.2.2.2; omega
          · omega
      rw [tl_z (by omega)] at d3
      refine ⟨?_, ?_, Or.inl (sm d2), fun y hy h2 => ?_⟩
      · rw [d3, mq_app, mq_0 (by exact hd), List.append_nil]; exact em
      · rw [d3, List.length_append, el, List.length_singleton]; omega
      · rw [d3] at hy
        rcases List.mem_append.mp hy with hy | hy
        · exact (List.eraseIdx_sublist _ _).subset hy
        · rw [List.mem_singleton.mp hy] at h2
          exact absurd h2 (by decide : ¬ (6 : Int) = 2)
    · refine ⟨by rw [d1]; exact em, by rw [d1, el]; omega, Or.inl ?_, sb d1⟩
      rcases d2 with ⟨-, d2⟩ | ⟨f, d2, -⟩
      · exact sm d2
      · exact ⟨d2, fun e => by have := f.1; omega⟩
theorem RQ.tr {w : Int} {σ σ1 σ2 : qS} (h1 : RQ w σ σ1) (h2 : RQ w σ1 σ2) : RQ w σ σ2 := by
  obtain ⟨a1, a2, a3, a9⟩ := h1
  obtain ⟨b1, b2, b3, b9⟩ := h2
  refine ⟨b1.trans a1, by omega, ?_, fun y hy e => a9 y (b9 y hy e) e⟩
  rcases a3 with ⟨a3, a4⟩ | ⟨a3, a4, a5, x, x1, x2, x3⟩
  · rcases b3 with ⟨b3, b4⟩ | ⟨b3, b4, b5, x, x1, x2, x3⟩
    · exact Or.inl ⟨b3.trans a3, fun e => (b4 (a3.trans e)).trans (a4 e)⟩
    · exact Or.inr ⟨a3.symm.trans b3, b4, by omega, x, a9 x x1 x2, x2, x3⟩
  · rcases b3 with ⟨b3, b4⟩ | ⟨b3, b4, b5⟩
    · exact Or.inr ⟨a3, by omega, by omega, x, x1, x2, b3.trans x3⟩
    · omega
def idl (σ : qS) (w a : Int) : Prop := σ 62 w = -1 ∧ σ 65 w = a
def tA (w : Int) (σ σ' : qS) (L : List Ms) : Prop := idl σ w 0 ∧ idl σ' w 1 ∧ ∃ x : Ms, x.1 = 6 ∧ xw x 0 = 1 ∧ ln σ' = tl95 L ++ [x]
def tI (w : Int) (σ σ' : qS) (L : List Ms) : Prop := σ 62 w = -1 ∧ σ 65 w ≠ 0 ∧ idl σ' w (if σ 65 w = 5 then 0 else σ 65 w + 1) ∧ ln σ' = L
def tE (w : Int) (σ σ' : qS) (L : List Ms) : Prop := idl σ' w 0 ∧ (σ 62 w = -1 → L.length + 1 ≤ (ln σ).length) ∧ ∃ x : Ms, x.1 = 6 ∧ (xw x 0 = 3 ∨ xw x 0 = 4) ∧ ln σ' = tl95 L ++ [x]
theorem spl_ac {σ σ' : qS} (hk : ∀ k ∈ acK, σ' k = σ k) : spl σ' = spl σ ∧ jb σ' = jb σ := by
  have hj : jb σ' = jb σ := by unfold jb; rw [hk 29 (by decide), hk 32 (by decide)]
  exact ⟨by unfold spl all_ rc; rw [hj, hk 10 (by decide), hk 11 (by decide), hk 2 (by decide)], hj⟩
def tF (w : Int) (σ σ' : qS) (L : List Ms) : Prop := idl σ' w 0 ∧ ln σ' = L ∧ (∃ k, 0 ≤ k ∧ k < spl σ' ∧ σ' 33 k = -1) ∧ (38 ≤ σ 62 w ∨ ∃ x ∈ ln σ, xw x 0 = 2 ∧ 38 ≤ xw x 2)
def tB (w : Int) (σ σ' : qS) (L : List Ms) : Prop := 0 ≤ σ' 62 w ∧ (ln σ' = L ∨ (∃ x : Ms, x.1 ≠ 6 ∧ ln σ' = tl95 L ++ [x]) ∨ LKs σ' w)
theorem WTK_q {w : Int} {σ σ' : qS} (hJ : JI False (-1) σ) (hw : 0 ≤ w ∧ w < 6) (hl : (ln σ).length ≤ 95) (h : WTK w σ σ') : ∃ L, mq L = mq (ln σ) ∧ L.length ≤ (ln σ).length ∧ (tA w σ σ' L ∨ tI w σ σ' L ∨ tE w σ σ' L ∨ tF w σ σ' L ∨ tB w σ σ' L) := by
  obtain ⟨σ1, σ2, σ3, r1, r2, r3, a, ⟨j1, j2, j3, j4⟩, -, -, a3, -⟩ := h
  have q1 := RD_q hJ hw hl r1
  have q2 := RD_q j1 hw (by have := q1.2.1; omega) r2
  have q3 := RD_q j2 hw (by have := q1.2.1; have := q2.2.1; omega) r3
  obtain ⟨m1, m2, m3, -⟩ := (q1.tr q2).tr q3
  refine ⟨ln σ3, m1, m2, ?_⟩
  have hsp := spl_b j3.1
  obtain ⟨-, ho, hk, c⟩ := a
  have bz : 0 ≤ σ3 62 w → (σ 62 w = -1 → (ln σ3).length + 1 ≤ (ln σ).length) := fun e e' => by
    rcases m3 with ⟨m3, -⟩ | ⟨-, -, m3⟩
    · omega
    · exact m3.1
  have mkE : ∀ ty a b c d, 0 ≤ σ3 62 w → fgo w σ' → (ty = 3 ∨ ty = 4) → TL 6 ty a b c d σ3 σ' → tE w σ σ' (ln σ3) := fun ty a b c d e f ht t => by
    obtain ⟨kv, t⟩ := t
    exact ⟨⟨f.1, f.2.2.1⟩, bz e, (6, [ty, σ3 31 0, a, b, c, d], kv), rfl, ht, t⟩
  rcases c with ⟨c1, -, c2, c3, c4⟩ | ⟨c0, c⟩ | ⟨c0, c⟩
  · have hs : σ 62 w = -1 ∧ σ3 65 w = σ 65 w := by
      rcases m3 with ⟨m3, m4⟩ | ⟨-, m3, -⟩
      · exact ⟨m3.symm.trans c1, m4 (m3.symm.trans c1)⟩
      · omega
    rcases c4 with ⟨c4, kv, c5⟩ | ⟨c4, c5⟩
    · refine Or.inl ⟨⟨hs.1, hs.2.symm.trans c4⟩, ⟨c2, ?_⟩, _, rfl, rfl, c5⟩
      rw [c3, c4]; rfl
    · refine Or.inr (Or.inl ⟨hs.1, by rw [← hs.2]; exact c4, ⟨c2, ?_⟩, c5⟩)
      rw [c3, hs.2]
  · rcases c with ⟨-, -, f, a, c⟩ | ⟨-, f, -, ⟨a, c⟩, -⟩ | ⟨-, -, f, c⟩ | ⟨-, -, c1, -, -, c2⟩
    · exact Or.inr (Or.inr (Or.inl (mkE _ _ _ _ _ c0.1 f (Or.inl rfl) c)))
    · exact Or.inr (Or.inr (Or.inl (mkE _ _ _ _ _ c0.1 f (Or.inl rfl) c)))
    · exact Or.inr (Or.inr (Or.inl (mkE _ _ _ _ _ c0.1 f (Or.inr rfl) c)))
    · exact Or.inr (Or.inr (Or.inr (Or.inr ⟨by rw [c1]; exact c0.1, Or.inl c2⟩)))
  · have t0 : 0 ≤ σ3 62 w := by omega
    have hr := (rd_P2 j3 hw a3 c0).1
    have hst := (WR_b j3.1 hr).1
    rcases c with ⟨-, -, f, c⟩ | ⟨-, u1, u2, -, f, c⟩ | ⟨-, -, -, -, -, c, c1, -⟩ | ⟨-, u1, u2, -, -, c1, -, -, c3, c⟩ | ⟨-, -, f, -, c⟩
    · exact Or.inr (Or.inr (Or.inl (mkE _ _ _ _ _ t0 f (Or.inl rfl) c)))
    · refine Or.inr (Or.inr (Or.inr (Or.inl ⟨⟨f.1, f.2.2.1⟩, c, ⟨σ3 64 w, hst.1, by rw [(spl_ac hk).1]; exact u1, by rw [hk 33 (by decide)]; exact u2⟩, ?_⟩)))
      rcases m3 with ⟨m3, -⟩ | ⟨-, -, -, x, x1, x2, x3⟩
      · exact Or.inl (by omega)
      · exact Or.inr ⟨x, x1, x2, by omega⟩
    · exact Or.inr (Or.inr (Or.inr (Or.inr ⟨by rw [c1]; exact t0, Or.inl c⟩)))
    · refine Or.inr (Or.inr (Or.inr (Or.inr ⟨by rw [c1]; exact t0, ?_⟩)))
      rcases c with ⟨-, -, kv, c⟩ | ⟨-, e, -⟩
      · have hb : σ3 33 (σ3 64 w) ≠ 6 := by
          have := (j3.2.2.2.2.1 (σ3 64 w) hst.1 (by omega) u2).1
          omega
        exact Or.inr (Or.inl ⟨_, hb, c⟩)
      · exact Or.inr (Or.inr ⟨by rw [c1]; exact c0, c3, e⟩)
    · rcases c with ⟨-, -, c⟩ | ⟨-, c⟩
      · exact Or.inr (Or.inr (Or.inl (mkE _ _ _ _ _ t0 f (Or.inl rfl) c)))
      · exact Or.inr (Or.inr (Or.inl (mkE _ _ _ _ _ t0 f (Or.inr rfl) c)))

