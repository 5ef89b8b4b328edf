def cd (σ : qS) (v : Int) : Int := σ 64 v * 2000 + ps σ v
theorem RD_cd {w : Int} {σ σ' : qS} (hJ : JI False (-1) σ) (hw : 0 ≤ w ∧ w < 6) (ha : AW σ w) (h : RD w σ σ') (ht : 38 ≤ σ 62 w) : σ' 62 w = σ 62 w ∧ cd σ w ≤ cd σ' w := by
  obtain ⟨-, -, -, c⟩ := h
  have sm : same w σ σ' → σ' 62 w = σ 62 w ∧ cd σ w ≤ cd σ' w := fun s => ⟨s.1, by unfold cd; rw [s.2.1, s.2.2.2.2]; omega⟩
  rcases c with ⟨-, -, c⟩ | ⟨i, x, -, -, c⟩
  · exact sm c
  · rcases c with ⟨-, -, c⟩ | ⟨-, -, -, c⟩ | ⟨-, -, c, -⟩ | ⟨-, -, -, c⟩
    · exact sm c
    · rcases c with ⟨e, -⟩ | ⟨-, c⟩
      · omega
      · exact sm c
    · exact sm c
    · rcases c with ⟨-, c⟩ | ⟨f, c1, c2, c3, c4⟩
      · exact sm c
      · refine ⟨c1, ?_⟩
        have hr := (rd_P2 hJ hw ha ht).1
        obtain ⟨p1, p2⟩ := WR_rk hJ.1 hr
        unfold cd
        rcases c4 with ⟨c4, c5⟩ | ⟨c4, c5⟩
        · rw [c4, c5]; omega
        · rw [c4, c5]; omega
theorem WTK_cd {w : Int} {σ σ' : qS} (hJ : JI False (-1) σ) (hw : 0 ≤ w ∧ w < 6) (ha : AW σ w) (h : WTK w σ σ') (ht : 38 ≤ σ 62 w) (ht' : 38 ≤ σ' 62 w) : σ' 62 w = σ 62 w ∧ cd σ w ≤ cd σ' w := by
  obtain ⟨σ1, σ2, σ3, r1, r2, r3, a, ⟨j1, j2, j3, j4⟩, a1, a2, a3, a4⟩ := h
  obtain ⟨t1, c1⟩ := RD_cd hJ hw ha r1 ht
  obtain ⟨t2, c2⟩ := RD_cd j1 hw a1 r2 (by omega)
  obtain ⟨t3, c3⟩ := RD_cd j2 hw a2 r3 (by omega)
  have key : σ' 62 w = σ3 62 w ∧ cd σ' w = cd σ3 w := by
    have nf : fgo w σ' → False := fun f => by have := f.1; omega
    obtain ⟨-, -, -, c⟩ := a
    have hsp := spl_b j3.1
    rcases c with ⟨-, -, c, -⟩ | ⟨c0, -⟩ | ⟨c0, c⟩
    · omega
    · omega
    · rcases c with ⟨-, -, f, -⟩ | ⟨-, -, -, -, f, -⟩ | ⟨-, -, -, -, -, -, e1, e2, -, e3, -⟩ | ⟨-, -, -, -, -, e1, e2, e3, -⟩ | ⟨-, -, f, -⟩
      · exact (nf f).elim
      · exact (nf f).elim
      · exact ⟨e1, by unfold cd; rw [e2, e3]⟩
      · exact ⟨e1, by unfold cd; rw [e2, e3]⟩
      · exact (nf f).elim
  exact ⟨by omega, by omega⟩
theorem cd_t {L : Nat} {τ : Nat → qS} (h : RNN L τ) {v : Nat} (hv : v < 6) {t : Nat} (ht : t < 7 * L) (h1 : 38 ≤ τ t 62 v) (h2 : 38 ≤ τ (t + 1) 62 v) : τ (t + 1) 62 v = τ t 62 v ∧ cd (τ t) v ≤ cd (τ (t + 1)) v := by
  have gs := h.1 t (by omega)
  by_cases c : t % 7 = v
  · rcases h.2 t ht with ⟨-, hs⟩ | ⟨e, -⟩
    · rw [c] at hs
      exact WTK_cd gs.1 (by omega) (gs.2.2.1 v (by omega) (by omega)) hs h1 h2
    · omega
  · have hs := h.2 t ht
    have ne : ((t % 7 : Nat) : Int) ≠ (v : Int) := by omega
    have k1 := STP_w hs ne (by omega)
    have st := (rd_st h (by omega) hv h1).1
    have k2 := fa_s hs (v := (v : Int)) (j := τ t 64 v) (by omega) ne st
    refine ⟨k1 _ (by decide), ?_⟩
    unfold cd ps
    rw [k1 75 (by decide), k1 64 (by decide), k2]
    omega
def SEG (τ : Nat → qS) (v t0 n : Nat) : Prop := ∀ t, t0 ≤ t → t ≤ t0 + n → 38 ≤ τ t 62 v
theorem cd_run {L : Nat} {τ : Nat → qS} (h : RNN L τ) {v : Nat} (hv : v < 6) {t0 n : Nat} (hl : t0 + n ≤ 7 * L) (hs : SEG τ v t0 n) {a : Nat} (ha : t0 ≤ a) : ∀ k, a + k ≤ t0 + n → cd (τ a) v ≤ cd (τ (a + k)) v
  | 0, _ => Int.le_refl _
  | k + 1, hk => by
    have ih := cd_run h hv hl hs ha k (by omega)
    have := (cd_t h hv (t := a + k) (by omega) (hs _ (by omega) (by omega)) (hs _ (by omega) (by omega))).2
    rw [show a + (k + 1) = a + k + 1 by omega]
    omega
def plc (σ : qS) (v : Int) : Int × Int × Int := (σ 62 v - 38, σ 64 v, ps σ v)
def asd (τ : Nat → qS) (v t : Nat) : Prop := cd (τ t) v < cd (τ (t + 1)) v ∧ 1 ≤ ke (τ t) v (plc (τ (t + 1)) v).1 (plc (τ (t + 1)) v).2.1 (plc (τ (t + 1)) v).2.2
noncomputable def asl (τ : Nat → qS) (v t0 : Nat) : Nat → List (Int × Int × Int)
  | 0 => []
  | n + 1 => @ite (List (Int × Int × Int)) (asd τ v (t0 + n)) (Classical.propDecidable _) (plc (τ (t0 + n + 1)) v :: asl τ v t0 n) (asl τ v t0 n)
theorem asl_i {L : Nat} {τ : Nat → qS} (h : RNN L τ) {v : Nat} (hv : v < 6) {t0 N : Nat} (hl : t0 + N ≤ 7 * L) (hs : SEG τ v t0 N) : ∀ n, n ≤ N → (asl τ v t0 n).Nodup ∧ ∀ P ∈ asl τ v t0 n, P.2.1 * 2000 + P.2.2 ≤ cd (τ (t0 + n)) v ∧ 1 ≤ ke (τ t0) v P.1 P.2.1 P.2.2
  | 0, _ => ⟨List.nodup_nil, fun P hP => by cases hP⟩
  | n + 1, hn => by
    obtain ⟨i1, i2⟩ := asl_i h hv hl hs n (by omega)
    have mo := (cd_t h hv (t := t0 + n) (by omega) (hs _ (by omega) (by omega)) (hs _ (by omega) (by omega))).2
    rw [show t0 + (n + 1) = t0 + n + 1 by omega]
    simp only [asl]
    by_cases c : asd τ v (t0 + n)
    · rw [if_pos c]
      obtain ⟨c1, c2⟩ := c
      refine ⟨List.nodup_cons.mpr ⟨fun hm => ?_, i1⟩, fun P hP => ?_⟩
      · have := (i2 _ hm).1
        have e : (plc (τ (t0 + n + 1)) v).2.1 * 2000 + (plc (τ (t0 + n + 1)) v).2.2 = cd (τ (t0 + n + 1)) v := rfl
        omega
      · rcases List.mem_cons.mp hP with rfl | hP
        · refine ⟨Int.le_refl _, ?_⟩
          have k := ke_run h (v : Int) (plc (τ (t0 + n + 1)) v).1 (plc (τ (t0 + n + 1)) v).2.1 (plc (τ (t0 + n + 1)) v).2.2 t0 n (by omega) (fun t t1 t2 _ _ hp => by
            have e1 : cd (τ (t + 1)) v = cd (τ (t0 + n + 1)) v := by
              unfold cd
              rw [hp.2.1, hp.2.2.1]
              rfl
            have e2 := cd_run h hv hl hs (a := t + 1) (by omega) (t0 + n - (t + 1)) (by omega)
            rw [show t + 1 + (t0 + n - (t + 1)) = t0 + n by omega] at e2
            omega)
          omega
        · have := i2 P hP
          exact ⟨by omega, this.2⟩
    · rw [if_neg c]
      exact ⟨i1, fun P hP => ⟨by have := (i2 P hP).1; omega, (i2 P hP).2⟩⟩
theorem ls_len {α : Type} (f : α → Nat) : ∀ l : List α, (∀ a ∈ l, 1 ≤ f a) → l.length ≤ lsum (l.map f)
  | [], _ => Nat.le_refl _
  | a :: l, h => by
    have h1 := h a (List.mem_cons_self ..)
    have h2 := ls_len f l (fun b hb => h b (List.mem_cons_of_mem _ hb))
    simp only [List.map_cons, lsum, List.length_cons]; omega
theorem supply {L : Nat} {τ : Nat → qS} (h : RNN L τ) {v : Nat} (hv : v < 6) {t0 n : Nat} (hl : t0 + n ≤ 7 * L) (hs : SEG τ v t0 n) : (asl τ v t0 n).length ≤ kv (τ t0) v := by
  obtain ⟨i1, i2⟩ := asl_i h hv hl hs n (Nat.le_refl _)
  have a := ls_len (fun P : Int × Int × Int => ke (τ t0) v P.1 P.2.1 P.2.2) (asl τ v t0 n) (fun P hP => (i2 P hP).2)
  have b := ke_sum (τ t0) v (asl τ v t0 n) i1
  omega

