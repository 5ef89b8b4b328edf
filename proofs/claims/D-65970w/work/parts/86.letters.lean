def lA : List Nat := [44, 45, 46, 47, 48, 49, 50, 51, 52, 53]
theorem JD_eq {σ σ' : qS} (hs : stE σ σ') (h : JD σ) (hk : ∀ k ∈ dA, σ' k = σ k) : JD σ' := fun w w0 w1 he => DK_sl hs (DSl_eq hk w) (h w w0 w1 (by rw [hk _ (by decide), st_era hs] at he; exact he))
theorem JP_eq {σ σ' : qS} (hs : stE σ σ') (h : JP σ) (hk : ∀ k ∈ pA, σ' k = σ k) : JP σ' := fun p p0 p1 he => by
  rw [hk 40 (by decide), st_era hs] at he
  exact PTo_sl hs (by rw [hk _ (by decide)]) (fun i _ _ => by rw [hk _ (by decide)]) (fun i _ _ => by rw [hk _ (by decide)]) (h p p0 p1 he)
theorem pmon_eq {σ σ' : qS} (h : σ' 40 = σ 40) : pmon σ σ' := fun p _ _ he => by rw [h]; exact he
theorem JI_w {m : Prop} {u : Int} {σ σ' : qS} {w : Int} (h : JI m u σ) (hw : 0 ≤ w ∧ w < 6) (hf : ∀ k, k ∉ wA → k ∉ lA → k ∉ SC → σ' k = σ k) (hl : lok σ') (hL : ∀ x ∈ ln σ', x ∈ ln σ ∨ LOK m σ' x) (ho : ∀ v, 0 ≤ v → v < 6 → v ≠ w → WSl σ σ' v) (hz : σ' 76 (w * 39) = 0) (hW : w ≠ u → σ' 61 w ≠ 0 → WOK σ' w) : JI m u σ' := by
  have hs : stE σ σ' := fun k m => hf k ((by decide : ∀ k ∈ stS, k ∉ wA) k m) ((by decide : ∀ k ∈ stS, k ∉ lA) k m) ((by decide : ∀ k ∈ stS, k ∉ SC) k m)
  have hk : ∀ k ∈ jS, σ' k = σ k := fun k m => hf k ((by decide : ∀ k ∈ jS, k ∉ wA) k m) ((by decide : ∀ k ∈ jS, k ∉ lA) k m) ((by decide : ∀ k ∈ jS, k ∉ SC) k m)
  have hd : ∀ k ∈ dA, σ' k = σ k := fun k m => hf k ((by decide : ∀ k ∈ dA, k ∉ wA) k m) ((by decide : ∀ k ∈ dA, k ∉ lA) k m) ((by decide : ∀ k ∈ dA, k ∉ SC) k m)
  have hp : ∀ k ∈ pA, σ' k = σ k := fun k m => hf k ((by decide : ∀ k ∈ pA, k ∉ wA) k m) ((by decide : ∀ k ∈ pA, k ∉ lA) k m) ((by decide : ∀ k ∈ pA, k ∉ SC) k m)
  have h0 := h
  obtain ⟨j1, j2, j3, j4, j5, j6, j7, j8, j9, j10, j11⟩ := h
  refine JI_step h0 hs hl hk (dmon_eq hd) (pmon_eq (hp _ (by decide))) (JD_eq hs j4 hd) (JP_eq hs j6 hp) hL (fun v v0 v1 vu hu => ?_) ⟨fun v v0 v1 => ⟨?_, ?_⟩, fun p p0 p1 => ?_⟩
  · by_cases e : v = w
    · subst e; exact hW vu hu
    · have hv := ho v v0 v1 e
      rw [hv.1 61 (by decide)] at hu
      exact WOK_sl j1 hs hv (j9 v v0 v1 vu hu)
  · rw [hd 54 (by decide), st_era hs]; exact (j11.1 v v0 v1).1
  · by_cases e : v = w
    · subst e; exact hz
    · rw [(ho v v0 v1 e).2.2.2.1 _ (by omega) (by omega)]; exact (j11.1 v v0 v1).2
  · rw [hp 40 (by decide), st_era hs]; exact j11.2 p p0 p1
theorem JI_l {m : Prop} {u : Int} {σ σ' : qS} (h : JI m u σ) (hf : ∀ k, k ∉ lA → σ' k = σ k) (hl : lok σ') (hL : ∀ x ∈ ln σ', x ∈ ln σ ∨ LOK m σ' x) : JI m u σ' := by
  have hs : stE σ σ' := fun k m => hf k ((by decide : ∀ k ∈ stS, k ∉ lA) k m)
  have hwA : ∀ k ∈ wA, σ' k = σ k := fun k m => hf k ((by decide : ∀ k ∈ wA, k ∉ lA) k m)
  refine JI_w (w := 0) h (by omega) (fun k _ m _ => hf k m) hl hL (fun v _ _ _ => WSl_eq hwA v) ?_ (fun vu hu => ?_)
  · rw [hf 76 (by decide)]; exact (h.2.2.2.2.2.2.2.2.2.2.1 0 (by omega) (by omega)).2
  · rw [hf 61 (by decide)] at hu
    exact WOK_sl h.1 hs (WSl_eq hwA 0) (h.2.2.2.2.2.2.2.2.1 0 (by omega) (by omega) vu hu)
theorem fgt_v (σ : qS) (w : Int) : fgt σ w 62 w = -1 ∧ fgt σ w 64 w = 0 ∧ fgt σ w 65 w = 0 ∧ fgt σ w 66 w = 0 ∧ fgt σ w 67 w = 0 ∧ fgt σ w 70 w = 0 ∧ fgt σ w 73 w = 0 ∧ fgt σ w 75 w = 0 := by
  unfold fgt
  refine ⟨?_, ?_, ?_, ?_, ?_, ?_, ?_, ?_⟩ <;> simp (disch := decide) only [su_k, su_s]
theorem su_o {σ : qS} {k k' : Nat} {i v j : Int} (h : j ≠ i) : su σ k i v k' j = σ k' j := by unfold su; rw [if_neg (fun e => h e.2)]
theorem fgt_o {σ : qS} {w v : Int} (h : v ≠ w) (k : Nat) : fgt σ w k v = σ k v := by
  unfold fgt
  simp only [su_o h]
theorem WSl_w {σ σ' : qS} {v : Int} (h1 : ∀ k ∈ wS, σ' k v = σ k v) (h2 : ∀ k ∈ [68, 69, 71, 72, 74, 76, 77, 78], σ' k = σ k) : WSl σ σ' v := by
  refine ⟨h1, ⟨?_, ?_⟩, ⟨?_, ?_, ?_⟩, ?_, ?_, ?_⟩ <;> (intro i _ _; rw [h2 _ (by decide)])
def fgL : List Nat := [62, 64, 65, 66, 67, 70, 73, 75]
theorem JI_ex {m : Prop} {σ : qS} (w : Int) (h : JI m (-1) σ) : JI m w σ := by
  obtain ⟨j1, j2, j3, j4, j5, j6, j7, j8, j9, j10, j11⟩ := h
  exact ⟨j1, j2, j3, j4, j5, j6, j7, j8, fun v v0 v1 _ hu => j9 v v0 v1 (by omega) hu, j10, j11⟩
theorem JI_in {m : Prop} {σ : qS} {w : Int} (h : JI m w σ) (hw : σ 61 w ≠ 0 → WOK σ w) : JI m (-1) σ := by
  obtain ⟨j1, j2, j3, j4, j5, j6, j7, j8, j9, j10, j11⟩ := h
  refine ⟨j1, j2, j3, j4, j5, j6, j7, j8, fun v v0 v1 _ hu => ?_, j10, j11⟩
  by_cases e : v = w
  · subst e; exact hw hu
  · exact j9 v v0 v1 e hu
theorem JI_fgt0 {m : Prop} {u : Int} {σ : qS} {w : Int} (h : JI m u σ) (hw : 0 ≤ w ∧ w < 6) : JI m u (fgt σ w) := by
  have hF : ∀ k, k ∉ fgL → fgt σ w k = σ k := fun k hk => fgt_F hk
  obtain ⟨v1, v2, v3, -⟩ := fgt_v σ w
  refine JI_w h hw (fun k m1 _ _ => hF k (fun e => m1 ((by decide : ∀ k ∈ fgL, k ∈ wA) k e))) ?_ (fun x hx => Or.inl ?_) (fun v _ _ hv => WSl_w (fun k _ => fgt_o hv k) (fun k m => hF k ?_)) ?_ (fun _ _ => Or.inl ⟨v1, by omega, v2⟩)
  · unfold lok; rw [hF _ (by decide)]; exact h.2.2.1
  · have : ln (fgt σ w) = ln σ := by unfold ln mg; rw [hF 48 (by decide), hF 44 (by decide), hF 45 (by decide), hF 46 (by decide), hF 47 (by decide)]
    rw [this] at hx; exact hx
  · revert k; decide
  · rw [hF _ (by decide)]; exact (h.2.2.2.2.2.2.2.2.2.2.1 w hw.1 hw.2).2
theorem JI_fgt {m : Prop} {σ : qS} {w : Int} (h : JI m w σ) (hw : 0 ≤ w ∧ w < 6) : JI m (-1) (fgt σ w) := JI_in (JI_fgt0 h hw) (fun _ => by
  obtain ⟨v1, v2, v3, -⟩ := fgt_v σ w
  exact Or.inl ⟨v1, by omega, v2⟩)
theorem ln_k {σ σ' : qS} (h : ∀ k ∈ [48, 44, 45, 46, 47], σ' k = σ k) : ln σ' = ln σ := by
  unfold ln mg; rw [h 48 (by decide), h 44 (by decide), h 45 (by decide), h 46 (by decide), h 47 (by decide)]
theorem tl_mem {L : List Ms} {x : Ms} (h : x ∈ tl95 L) : x ∈ L := by
  unfold tl95 at h
  split at h
  · exact (List.eraseIdx_sublist _ _).subset h
  · exact h
theorem tld_mem {σ : qS} {x y : Ms} (h : x ∈ tld σ y) : x ∈ ln σ ∨ x = y := by
  unfold tld cll at h
  split at h
  · exact Or.inl (tl_mem h)
  split at h
  · rcases List.mem_append.mp h with h | h
    · exact Or.inl (tl_mem h)
    · simp at h; exact Or.inr h
  · rcases List.mem_append.mp h with h | h
    · exact Or.inl (tl_mem h)
    · simp at h; exact Or.inr h
theorem op_JI {m : Prop} {u : Int} {σ σ1 : qS} {who r : Int} (h : JI m u σ) (hq : Q_M_opens who σ r σ1) : JI m u σ1 ∧ (∀ k, k ∉ lA → σ1 k = σ k) ∧ (r ≠ 0 → ∃ x : Ms, x.1 = who ∧ LTR m σ1 x ∧ (σ1 51 0 = xw x 0 ∧ σ1 51 2 = xw x 2 ∧ σ1 51 3 = xw x 3 ∧ σ1 51 4 = xw x 4 ∧ σ1 51 5 = xw x 5) ∧ lt8 σ1 = x.2.2) := by
  rcases hq with ⟨rfl, rfl, -⟩ | ⟨i, x, f1, f2, f3, f4, f5, f6, f7, f8⟩
  · exact ⟨h, fun _ _ => rfl, fun e => absurd rfl e⟩
  · have hk : ∀ k, k ∉ lA → σ1 k = σ k := fun k hk => f3 k (fun e => hk (by simp only [lA, List.mem_cons, List.not_mem_nil, or_false] at e ⊢; omega))
    have hJ : JI m u σ1 := JI_l h hk f4 (fun y hy => Or.inl (by rw [f5] at hy; exact (List.eraseIdx_sublist _ _).subset hy))
    refine ⟨hJ, hk, fun hr => ?_⟩
    have hx : x ∈ ln σ := List.mem_of_getElem? f2
    have h1 : x.1 = who := by
      have := List.findIdx?_eq_some_iff_getElem.mp f1
      obtain ⟨h0, h1, -⟩ := this
      rw [List.getElem?_eq_getElem h0] at f2
      have := Option.some.inj f2
      rw [this] at h1
      simpa using h1
    have e : ∀ j : Nat, j < 6 → xw x j = σ1 51 j := fun j hj => by
      unfold xw; rw [← f6]; unfold lt6
      rw [List.getD_eq_getElem?_getD, List.getElem?_map, List.getElem?_range hj]; rfl
    have hs : stE σ σ1 := fun k m => hk k ((by decide : ∀ k ∈ stS, k ∉ lA) k m)
    have hd : ∀ k ∈ dA, σ1 k = σ k := fun k m => hk k ((by decide : ∀ k ∈ dA, k ∉ lA) k m)
    have hL := LOK_m h.1 hs (dmon_eq hd) (pmon_eq (hk _ (by decide))) (m' := m) (fun hm => Or.inr ⟨hm.1, by unfold mapd; rw [st_spl hs, hk 33 (by decide)]; exact hm.2⟩) (h.2.2.2.2.2.2.2.1 x hx)
    refine ⟨x, h1, hL.2 ?_, ⟨(e 0 (by omega)).symm, (e 2 (by omega)).symm, (e 3 (by omega)).symm, (e 4 (by omega)).symm, (e 5 (by omega)).symm⟩, f7⟩
    rw [e 1 (by omega)]
    by_cases he : σ1 51 1 = σ 31 0
    · rw [st_era hs]; exact he
    · rw [if_neg he] at f8; exact absurd f8 hr
theorem tell_JI {m : Prop} {u : Int} {σ σ1 : qS} {to ty a b c d : Int} (h : JI m u σ) (hq : Q_M_tell to ty a b c d σ σ1) (hL : ∀ kv : List Pr, LTR m σ (to, [ty, σ 31 0, a, b, c, d], kv)) : JI m u σ1 ∧ ∀ k, k ∉ lA → σ1 k = σ k := by
  obtain ⟨q1, q2, q3, q4, kv, q5, q6⟩ := hq
  have hk : ∀ k, k ∉ lA → σ1 k = σ k := fun k hk => q1 k (fun e => hk (by simp only [lA, List.mem_cons, List.not_mem_nil, or_false] at e ⊢; omega))
  have hs : stE σ σ1 := fun k m => hk k ((by decide : ∀ k ∈ stS, k ∉ lA) k m)
  have hd : ∀ k ∈ dA, σ1 k = σ k := fun k m => hk k ((by decide : ∀ k ∈ dA, k ∉ lA) k m)
  refine ⟨JI_l h hk q2 (fun y hy => ?_), hk⟩
  rw [q6] at hy
  rcases tld_mem hy with hy | rfl
  · exact Or.inl hy
  · refine Or.inr (LOK_m h.1 hs (dmon_eq hd) (pmon_eq (hk _ (by decide))) (m := m) (fun hm => Or.inr ⟨hm.1, by unfold mapd; rw [st_spl hs, hk 33 (by decide)]; exact hm.2⟩) ⟨?_, fun _ => hL kv⟩)
    refine ⟨Int.le_refl _, ?_⟩
    rcases hL kv with ⟨e, -⟩ | ⟨e, -⟩
    · rw [e]; decide
    · exact ⟨e.1, by omega⟩
def AW (σ : qS) (w : Int) : Prop := σ 61 w ≠ 0 ∧ σ 54 w = σ 31 0 ∧ (σ 62 w ≠ -1 → σ 63 w = σ 31 0)
theorem AW_k {σ σ' : qS} {w : Int} (h : AW σ w) (hk : ∀ k, k ∉ lA → σ' k = σ k) : AW σ' w := by
  unfold AW; rw [hk 61 (by decide), hk 54 (by decide), hk 31 (by decide), hk 62 (by decide), hk 63 (by decide)]; exact h
theorem WR_b {σ : qS} {w : Int} (hj : jobok σ) (h : WRd σ w) : (0 ≤ σ 64 w ∧ σ 64 w ≤ spl σ) ∧ (0 ≤ σ 76 (w * 39 + σ 64 w) ∧ σ 76 (w * 39 + σ 64 w) ≤ 1000) ∧ 0 ≤ σ 75 w ∧ σ 75 w ≤ 1000 := by
  obtain ⟨a1, a2, a3, a4, st, f, b1, b2, b3, b4, b5, b6, b7⟩ := h
  have := WR_1000 hj a2 b2 b3 b4
  have h1 := b5 st (by omega)
  rw [b1, h1, b6]
  omega
theorem rd_P {m : Prop} {σ : qS} {w : Int} (h : JI m (-1) σ) (hw : 0 ≤ w ∧ w < 6) (ha : AW σ w) {x : Ms} (hx : x.1 = w) (hL : LTR m σ x) (hl : σ 51 0 = xw x 0 ∧ σ 51 2 = xw x 2 ∧ σ 51 3 = xw x 3 ∧ σ 51 4 = xw x 4 ∧ σ 51 5 = xw x 5) : P_M_reads w σ := by
  obtain ⟨l0, l2, l3, l4, l5⟩ := hl
  have hj := h.1
  have hsp := spl_b hj
  have hpt := hj.2.2.2.2.2.1
  have hL' : (xw x 0 = 2 ∧ GV m σ (xw x 2)) ∨ (xw x 0 = 5 ∧ FT σ x.1 (xw x 2) (xw x 4) (xw x 5)) ∨ (xw x 0 = 6 ∧ PRl σ (xw x 2) (xw x 3) (xw x 4) (xw x 5) x.2.2) := by
    rcases hL with ⟨e, -⟩ | ⟨-, e⟩
    · omega
    · exact e
  refine ⟨hw, fun e5 => ?_, fun e6 => ?_⟩
  · rcases hL' with ⟨e, -⟩ | ⟨-, f1, f2, f3, f4⟩ | ⟨e, -⟩
    · omega
    · rw [l2, l4]
      refine ⟨hw, by omega, f3, h.2.2.1, hj, fun hk => ?_⟩
      obtain ⟨d1, d2, d3⟩ := h.2.2.2.1 w hw.1 hw.2 ha.2.1
      have := (d3 (xw x 2) f1.1 (by omega) hk).2.1
      omega
    · omega
  · rcases hL' with ⟨e, -⟩ | ⟨e, -⟩ | ⟨-, p1, ⟨o, p2⟩, p3, p4, p5⟩
    · omega
    · omega
    · have hW := h.2.2.2.2.2.2.2.2.1 w hw.1 hw.2 (by omega) ha.1
      have hrd : 38 ≤ σ 62 w → WRd σ w := fun h38 => by
        rcases hW with ⟨e, -⟩ | ⟨e1, e2, e3⟩
        · omega
        · rcases e3 (ha.2.2 e1) with hm | hr
          · have := hm.1; omega
          · exact hr
      refine ⟨hw, ?_, ?_, fun h38 => ?_, fun hmt => ?_⟩
      · rcases hW with ⟨e, -⟩ | ⟨e1, e2, e3⟩
        · omega
        · rcases e3 (ha.2.2 e1) with hm | hr
          · have := hm.1; omega
          · have := hr.1; omega
      · rcases hW with ⟨e, -, es⟩ | ⟨e1, e2, e3⟩
        · omega
        · rcases e3 (ha.2.2 e1) with hm | hr
          · have := hm.2.1; omega
          · have := (WR_b hj hr).1; omega
      · have := WR_b hj (hrd h38); omega
      · obtain ⟨m1, m2, m3, m4⟩ := hmt
        obtain ⟨a1, a2, a3, a4, st, f, b1, b2, b3, b4, b5, b6, b7⟩ := hrd m1
        have hst : (xw x 2).toNat = st := by omega
        have hf : (xw x 3).toNat = f := by
          have := b5 st (by omega)
          rw [b1, this, b6] at m4
          omega
        rw [hst, hf, ← l5, m2] at p4
        rw [hst] at p2
        have hC := chC_len (Lp σ (σ 62 w - 38) st) f
        have hM : chM (Lp σ (σ 62 w - 38) st) f = 0 ∨ chM (Lp σ (σ 62 w - 38) st) f = 1 := by unfold chM; split <;> simp
        have h1000 := pre_1000 hj a2 (σ 62 w - 38) (i := st + 1) (by omega)
        rw [pre_s, List.length_append] at h1000
        rw [l4, p4, b6]
        refine ⟨by omega, by omega, by omega, ?_⟩
        omega

