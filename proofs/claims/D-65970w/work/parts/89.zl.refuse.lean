def stC : List Nat := [32, 29, 10, 11, 2, 13, 31]
theorem WTK_st {w : Int} {σ σ' : qS} (h : WTK w σ σ') : ∀ k ∈ stC, σ' k = σ k := by
  obtain ⟨σ1, σ2, σ3, r1, r2, r3, a, -⟩ := h
  intro k m
  have m1 : k ∈ rdK := (by decide : ∀ k ∈ stC, k ∈ rdK) k m
  rw [a.2.2.1 k ((by decide : ∀ k ∈ stC, k ∈ acK) k m), r3.2.2.1 k m1, r2.2.2.1 k m1, r1.2.2.1 k m1]
theorem STP_st {w : Int} {σ σ' : qS} (h : STP w σ σ') : ∀ k ∈ stC, σ' k = σ k := by
  rcases h with ⟨-, h⟩ | ⟨-, h⟩
  · exact WTK_st h
  · intro k m
    exact MTK_k h k ((by decide : ∀ k ∈ stC, k ∈ hrK) k m) ((by decide : ∀ k ∈ stC, k ≠ 39) k m)
theorem run_st {L : Nat} {τ : Nat → qS} (h : RNN L τ) : ∀ t, t ≤ 7 * L → ∀ k ∈ stC, τ t k = τ 0 k
  | 0, _ => fun _ _ => rfl
  | t + 1, ht => fun k m => (STP_st (h.2 t (by omega)) k m).trans (run_st h t (by omega) k m)
theorem st_c {σ σ' : qS} (h : ∀ k ∈ stC, σ' k = σ k) : spl σ' = spl σ ∧ jb σ' = jb σ ∧ σ' 13 (jb σ') = σ 13 (jb σ) := by
  have hj : jb σ' = jb σ := by unfold jb; rw [h 29 (by decide), h 32 (by decide)]
  refine ⟨?_, hj, by rw [hj, h 13 (by decide)]⟩
  unfold spl all_ rc
  rw [hj, h 10 (by decide), h 11 (by decide), h 2 (by decide)]
def jC : List Nat := [33, 35, 37, 38, 39]
theorem WTK_j {w : Int} {σ σ' : qS} (h : WTK w σ σ') : ∀ k ∈ jC, σ' k = σ k := by
  obtain ⟨σ1, σ2, σ3, r1, r2, r3, a, -⟩ := h
  intro k m
  have m1 : k ∈ rdK := (by decide : ∀ k ∈ jC, k ∈ rdK) k m
  rw [a.2.2.1 k ((by decide : ∀ k ∈ jC, k ∈ acK) k m), r3.2.2.1 k m1, r2.2.2.1 k m1, r1.2.2.1 k m1]
theorem wk_j {L : Nat} {τ : Nat → qS} (h : RNN L τ) {r : Nat} (hl : r < L) : ∀ j, j ≤ 6 → ∀ k ∈ jC, τ (7 * r + j) k = τ (7 * r) k
  | 0, _ => fun _ _ => rfl
  | j + 1, hj => fun k m => (WTK_j (stp_wtk h (r := r) (v := j) (by omega) hl) k m).trans (wk_j h hl j (by omega) k m)
theorem adr {L : Nat} {τ : Nat → qS} (h : RNN L τ) {t : Nat} (hl : t ≤ 7 * L) : ∀ x ∈ ln (τ t), 0 ≤ x.1 ∧ x.1 ≤ 6 := fun x hx => ((h.1 t hl).1.2.2.2.2.2.2.2.1 x hx).1.2
theorem NBl {L : Nat} {τ : Nat → qS} (h : RNN L τ) {c e : Nat} (hc : CB τ c e) (hb : e + 3 ≤ L) {r : Nat} (h2 : c + 64 ≤ r) (h3 : r < e) : (ln (τ (7 * r + 6))).length ≤ 7 := by
  have z := fun v hv j hj => NB6 h hc hb (r := r) (v := v) hv h2 h3 j hj
  have z0 := z 0 (by omega) 5 (by omega)
  have z1 := z 1 (by omega) 4 (by omega)
  have z2 := z 2 (by omega) 3 (by omega)
  have z3 := z 3 (by omega) 2 (by omega)
  have z4 := z 4 (by omega) 1 (by omega)
  have z5 := z 5 (by omega) 0 (by omega)
  simp only [Nat.add_zero, Nat.add_assoc, Nat.reduceAdd, Int.cast_ofNat_Int, Int.natCast_zero] at z0 z1 z2 z3 z4 z5
  have hs := len_sum _ (adr h (t := 7 * r + 5) (by omega))
  have h6 := (hc.2.1 r 5 (by omega) (by omega) h3).2
  rw [mq_len] at h6
  have hw := stp_wtk h (r := r) (v := 5) (by omega) (by omega)
  have hf : F5 (ln (τ (7 * r + 5))) := fun x hx => (ca_nt h hc hb (t := 7 * r + 5) (by omega) (by omega) x hx).1
  have hi := (hc.2.1 r 5 (by omega) (by omega) h3).1.2
  have hl := (WTK_c hw hf (by omega) (by omega) (u := 7) (by decide)).2
  simp only [Nat.add_assoc, Nat.reduceAdd] at hl
  omega
theorem NB7 {L : Nat} {τ : Nat → qS} (h : RNN L τ) {c e : Nat} (hc : CB τ c e) (hb : e + 3 ≤ L) {r u : Nat} (hu : u < 6) (h2 : c + 64 ≤ r) (h3 : r + 1 < e) : cn u (ln (τ (7 * r + 7))) = 0 := by
  apply Classical.byContradiction
  intro hz
  have l7 := NBl h hc hb h2 (by omega)
  have m7 : (ln (τ (7 * r + 7))).length ≤ 7 := by
    obtain ⟨σ1, σ2, r1, r2, r3, -⟩ := stp_mtk h (r := r) (by omega)
    have a1 := (HR_cn (by rw [l_clk]; omega) r1 (u := 7) (by decide)).2
    rw [l_clk] at a1
    have a2 := (HR_cn (by omega) r2 (u := 7) (by decide)).2
    have a3 := (HR_cn (by omega) r3 (u := 7) (by decide)).2
    omega
  have go : ∀ j, j ≤ u → 1 ≤ cn u (ln (τ (7 * (r + 1) + j))) ∧ (ln (τ (7 * (r + 1) + j))).length ≤ 7 + j := fun j => by
    induction j with
    | zero =>
      intro _
      rw [Nat.add_zero, show 7 * (r + 1) = 7 * r + 7 by omega]
      exact ⟨by omega, m7⟩
    | succ j ih =>
      intro hj
      obtain ⟨i1, i2⟩ := ih (by omega)
      have hw := stp_wtk h (r := r + 1) (v := j) (by omega) (by omega)
      have hf : F5 (ln (τ (7 * (r + 1) + j))) := fun x hx => (ca_nt h hc hb (t := 7 * (r + 1) + j) (by omega) (by omega) x hx).1
      have hi := (hc.2.1 (r + 1) j (by omega) (by omega) h3).1.2
      obtain ⟨w1, w2⟩ := WTK_c hw hf (by omega) (by omega) (u := (u : Int)) (by omega)
      rw [show 7 * (r + 1) + (j + 1) = 7 * (r + 1) + j + 1 by omega]
      omega
  have := NB h hc hb hu (r := r + 1) (by omega) h3
  have := (go u (by omega)).1
  omega
def RNG (σ : qS) (fi en : Int) : Prop := (mapd σ ∧ fi = 38 ∧ en = 38 + σ 13 (jb σ)) ∨ (¬ mapd σ ∧ fi = 0 ∧ en = spl σ)
theorem HRa {σ σ' : qS} (hJ : JI True (-1) σ) (hE : ER σ) (hl : (ln σ).length ≤ 95) (h : HR σ σ') (hk : ∀ x, (mq (ln σ))[0]? = some x → isK x = true) : ((∀ k ∈ jK, σ' k = σ k) ∧ (mq (ln σ) ≠ [] → ∃ w fi en, RNG σ fi en ∧ ∀ u, fi ≤ u → u < en → gNo σ w u)) ∨ ∃ u : Nat, u < 6 ∧ 1 ≤ cn u (ln σ') := by
  obtain ⟨-, -, c⟩ := h
  rcases c with ⟨c1, c2, c3⟩ | ⟨i, x, c1, c2, c⟩
  · exact Or.inl ⟨c3, fun e => absurd (mq_n c1) e⟩
  · obtain ⟨i0, -, -⟩ := List.findIdx?_eq_some_iff_getElem.mp c1
    have el : ((ln σ).eraseIdx i).length = (ln σ).length - 1 := List.length_eraseIdx_of_lt i0
    have em := mq_h _ _ _ c1 c2
    have hx := hk x (by rw [em]; rfl)
    have hx1 : xw x 0 = 1 := by unfold isK at hx; simpa using hx
    have hx0 := hE x (List.mem_of_getElem? c2)
    rcases c with ⟨c, -⟩ | ⟨he, h1, d1, d2, fi, en, d3, c⟩ | ⟨-, c, -⟩ | ⟨-, c, -⟩
    · exact absurd hx0 c
    · rcases c with ⟨d4, d5, d6, d7⟩ | ⟨t, t1, t2, -, -, -, kv, c⟩
      · refine Or.inl ⟨fun k m => ?_, fun _ => ⟨_, fi, en, d3, d7⟩⟩
        unfold jK at m
        simp only [List.mem_cons, List.not_mem_nil, or_false] at m
        rcases m with rfl | rfl | rfl | rfl
        · exact d1
        · exact d2
        · exact d5
        · exact d6
      · refine Or.inr ⟨(xw x 2).toNat, ?_⟩
        have hL := (hJ.2.2.2.2.2.2.2.1 x (List.mem_of_getElem? c2)).2 he
        have hd : 0 ≤ xw x 2 ∧ xw x 2 < 6 := by
          rcases hL with ⟨-, e⟩ | ⟨e0, e⟩
          · rcases e with ⟨-, e⟩ | ⟨e, -⟩ | ⟨e, -⟩ | ⟨e, -⟩
            · exact e
            · omega
            · omega
            · omega
          · rcases e with ⟨e, -⟩ | ⟨e, -⟩ | ⟨e, -⟩ <;> omega
        refine ⟨by omega, ?_⟩
        rw [c, show (((xw x 2).toNat : Nat) : Int) = xw x 2 by omega]
        unfold cn
        rw [List.countP_append, List.countP_cons, List.countP_nil]
        have : toW (xw x 2) ((xw x 2, [2, σ 31 0, t, 0, 0, 0], kv) : Ms) = true := by
          unfold toW; exact beq_self_eq_true (xw x 2)
        rw [if_pos this]
        omega
    · omega
    · omega

