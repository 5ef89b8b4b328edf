def LT0 (σ : qS) : Prop := σ 49 0 = 0 ∧ σ 50 0 = 0
theorem zu0 : z_ushr 0 1 = 0 := by decide
theorem za0 : z_and 0 1 = 0 := by decide
theorem tld_0 {σ : qS} (h : LT0 σ) (x : Ms) : tld σ x = tl95 (ln σ) ++ [x] := by
  unfold tld cll
  rw [h.1, h.2, za0, if_neg (by decide), if_neg (by omega)]
theorem LT0_u {σ σ' : qS} (h : LT0 σ) (h1 : σ' 49 0 = z_ushr (σ 49 0) 1) (h2 : σ' 50 0 = z_ushr (σ 50 0) 1) : LT0 σ' := by
  rw [h.1, zu0] at h1; rw [h.2, zu0] at h2; exact ⟨h1, h2⟩
theorem LT0_k {σ σ' : qS} (h : LT0 σ) (hk : ∀ k ∈ [49, 50], σ' k = σ k) : LT0 σ' := by
  unfold LT0; rw [hk _ (by decide), hk _ (by decide)]; exact h
def ps (σ : qS) (w : Int) : Int := σ 75 w - σ 76 (w * 39 + σ 64 w)
def oth (w : Int) (σ σ' : qS) : Prop := (∀ v, v ≠ w → ∀ k ∈ [61, 62, 63, 64, 65, 66, 75, 54], σ' k v = σ k v) ∧ (∀ i, (i < w * 39 ∨ w * 39 + 39 ≤ i) → σ' 76 i = σ 76 i) ∧ ∀ i, (i < w * 38 ∨ w * 38 + 38 ≤ i) → σ' 56 i = σ 56 i
theorem oth.rf (w : Int) (σ : qS) : oth w σ σ := ⟨fun _ _ _ _ => rfl, fun _ _ => rfl, fun _ _ => rfl⟩
theorem oth.tr {w : Int} {σ σ1 σ2 : qS} (h : oth w σ σ1) (h' : oth w σ1 σ2) : oth w σ σ2 := ⟨fun v hv k hk => (h'.1 v hv k hk).trans (h.1 v hv k hk), fun i hi => (h'.2.1 i hi).trans (h.2.1 i hi), fun i hi => (h'.2.2 i hi).trans (h.2.2 i hi)⟩
def oK : List Nat := [61, 62, 63, 64, 65, 66, 75, 54, 76, 56]
theorem oth.k {w : Int} {σ σ' : qS} (h : ∀ k ∈ oK, σ' k = σ k) : oth w σ σ' := ⟨fun v _ k hk => by rw [h k ((by decide : ∀ k ∈ [61, 62, 63, 64, 65, 66, 75, 54], k ∈ oK) k hk)], fun i _ => by rw [h 76 (by decide)], fun i _ => by rw [h 56 (by decide)]⟩
theorem oth.of {w : Int} {σ σ' : qS} {S : List Nat} (h : ∀ k, k ∉ S → σ' k = σ k) (hS : ∀ k ∈ oK, k ∉ S) : oth w σ σ' := oth.k (fun k m => h k (hS k m))
theorem oth.su {w : Int} {σ : qS} {k : Nat} {x : Int} (h : k ≠ 76 ∧ k ≠ 56) : oth w σ (su σ k w x) := ⟨fun v hv k' _ => su_o hv, fun i _ => by rw [su_k (fun e => h.1 e.symm)], fun i _ => by rw [su_k (fun e => h.2 e.symm)]⟩
theorem oth.fgt (w : Int) (σ : qS) : oth w σ (fgt σ w) := ⟨fun v hv k' _ => fgt_o hv k', fun i _ => by rw [fgt_F (by decide)], fun i _ => by rw [fgt_F (by decide)]⟩
theorem wk1_id {σ : qS} {w : Int} (h : AW σ w) : wk1 σ w = σ := by
  have e0 : wk0 σ w = σ := by unfold wk0; rw [if_neg h.1]
  have e1 : rnw σ w = σ := by unfold rnw; rw [if_pos h.2.1]
  unfold wk1
  rw [e0, e1, if_neg (fun e => e.2 (h.2.2 e.1))]
def same (w : Int) (σ σ' : qS) : Prop := σ' 62 w = σ 62 w ∧ σ' 64 w = σ 64 w ∧ σ' 65 w = σ 65 w ∧ σ' 66 w = σ 66 w ∧ ps σ' w = ps σ w
def rdK : List Nat := [33, 34, 35, 40, 56, 54, 36, 37, 38, 39, 27, 31, 32, 30, 29, 10, 11, 2, 13]
def fits (w : Int) (σ : qS) (x : Ms) : Prop := 38 ≤ σ 62 w ∧ xw x 5 = σ 62 w - 38 ∧ xw x 2 = σ 64 w ∧ xw x 3 = ps σ w
def RD (w : Int) (σ σ' : qS) : Prop := LT0 σ' ∧ oth w σ σ' ∧ (∀ k ∈ rdK, σ' k = σ k) ∧
  (((ln σ).findIdx? (fun m => m.1 == w) = none ∧ ln σ' = ln σ ∧ same w σ σ') ∨
   ∃ (i : Nat) (x : Ms), (ln σ).findIdx? (fun m => m.1 == w) = some i ∧ (ln σ)[i]? = some x ∧
    ((xw x 1 ≠ σ 31 0 ∧ ln σ' = (ln σ).eraseIdx i ∧ same w σ σ') ∨
     (xw x 1 = σ 31 0 ∧ xw x 0 = 2 ∧ ln σ' = (ln σ).eraseIdx i ∧ ((σ 62 w = -1 ∧ σ' 62 w = xw x 2 ∧ σ' 64 w = 0 ∧ σ' 65 w = 0 ∧ σ' 66 w = 0 ∧ ps σ' w = 0) ∨ (σ 62 w ≠ -1 ∧ same w σ σ'))) ∨
     (xw x 1 = σ 31 0 ∧ xw x 0 = 5 ∧ same w σ σ' ∧ ∃ (c : Int) (kv : List Pr), ln σ' = tl95 ((ln σ).eraseIdx i) ++ [(xw x 5, [6, σ 31 0, xw x 2, xw x 4, c, xw x 3], kv)]) ∨
     (xw x 1 = σ 31 0 ∧ xw x 0 = 6 ∧ ln σ' = (ln σ).eraseIdx i ∧ ((¬ fits w σ x ∧ same w σ σ') ∨ (fits w σ x ∧ σ' 62 w = σ 62 w ∧ σ' 65 w = 0 ∧ σ' 66 w = 0 ∧ ((σ' 64 w = σ 64 w ∧ ps σ' w = ps σ w + 8) ∨ (σ' 64 w = σ 64 w + 1 ∧ ps σ' w = 0)))))))
theorem ps_k {w : Int} {σ σ' : qS} (h : ∀ k ∈ [75, 76, 64], σ' k = σ k) : ps σ' w = ps σ w := by
  unfold ps; rw [h _ (by decide), h _ (by decide), h _ (by decide)]
theorem same.k {w : Int} {σ σ' : qS} (h : ∀ k ∈ [62, 64, 65, 66, 75, 76], σ' k = σ k) : same w σ σ' := by
  refine ⟨?_, ?_, ?_, ?_, ps_k (fun k m => h k ((by decide : ∀ k ∈ [75, 76, 64], k ∈ [62, 64, 65, 66, 75, 76]) k m))⟩
  all_goals rw [h _ (by decide)]
theorem same.tr {w : Int} {σ σ1 σ2 : qS} (h : same w σ σ1) (h' : same w σ1 σ2) : same w σ σ2 := ⟨h'.1.trans h.1, h'.2.1.trans h.2.1, h'.2.2.1.trans h.2.2.1, h'.2.2.2.1.trans h.2.2.2.1, h'.2.2.2.2.trans h.2.2.2.2⟩
theorem op_x {σ1 : qS} {x : Ms} (h : lt6 σ1 = x.2.1) : ∀ j : Nat, j < 6 → xw x j = σ1 51 j := fun j hj => by
  unfold xw; rw [← h]; unfold lt6
  rw [List.getD_eq_getElem?_getD, List.getElem?_map, List.getElem?_range hj]; rfl
theorem tld_L {σ σ' : qS} {x : Ms} {L : List Ms} (h0 : LT0 σ) (h : ln σ' = tld σ x) (hL : ln σ = L) : ln σ' = tl95 L ++ [x] := by rw [h, tld_0 h0, hL]
theorem ltr_eff {σ σ' : qS} {w : Int} (h : JI False (-1) σ) (hw : 0 ≤ w ∧ w < 6) (ha : AW σ w) (h0 : LT0 σ) (hq : Ltr w σ σ') : RD w σ σ' := by
  obtain ⟨r, σ1, q, c⟩ := hq
  obtain ⟨o1, o2, o3⟩ := op_JI h q
  have kL : ∀ {S : List Nat}, (∀ k ∈ S, k ∉ lA) → ∀ k ∈ S, σ1 k = σ k := fun hS k m => o2 k (hS k m)
  have b1 : oth w σ σ1 := oth.of o2 (by decide)
  have b3 : same w σ σ1 := same.k (kL (by decide))
  rcases q with ⟨rfl, rfl, q1⟩ | ⟨i, x, f1, f2, f3, f4, f5, f6, f7, f8⟩
  · rcases c with ⟨-, rfl⟩ | ⟨e, -⟩
    · exact ⟨h0, oth.rf _ _, fun _ _ => rfl, Or.inl ⟨q1, rfl, same.k (fun _ _ => rfl)⟩⟩
    · exact absurd rfl e
  · have b0 : LT0 σ1 := LT0_k h0 (fun k m => f3 k ((by decide : ∀ k ∈ [49, 50], k ∉ [44, 45, 46, 47, 48, 51, 52, 53]) k m))
    have ex := op_x f6
    have e1 : xw x 1 = σ1 51 1 := ex 1 (by omega)
    rcases c with ⟨c0, rfl⟩ | ⟨hr, c⟩
    · refine ⟨b0, b1, kL (by decide), Or.inr ⟨i, x, f1, f2, Or.inl ⟨?_, f5, b3⟩⟩⟩
      rw [e1]; intro e; rw [if_pos e] at f8; omega
    · have he : xw x 1 = σ 31 0 := by
        rw [e1]
        by_cases e : σ1 51 1 = σ 31 0
        · exact e
        · rw [if_neg e] at f8; exact absurd f8 hr
      have g0 : σ1 51 0 = xw x 0 := (ex 0 (by omega)).symm
      have g2 : σ1 51 2 = xw x 2 := (ex 2 (by omega)).symm
      have g3 : σ1 51 3 = xw x 3 := (ex 3 (by omega)).symm
      have g4 : σ1 51 4 = xw x 4 := (ex 4 (by omega)).symm
      have g5 : σ1 51 5 = xw x 5 := (ex 5 (by omega)).symm
      obtain ⟨x', x1, x2, x3, x4⟩ := o3 hr
      have hT : (σ1 51 0 = 2) ∨ (σ1 51 0 = 5 ∧ FT σ1 w (σ1 51 2) (σ1 51 4) (σ1 51 5)) ∨ (σ1 51 0 = 6 ∧ ∃ kv, PRl σ1 (σ1 51 2) (σ1 51 3) (σ1 51 4) (σ1 51 5) kv) := by
        obtain ⟨y0, y2, y3, y4, y5⟩ := x3
        rcases x2 with ⟨e, -⟩ | ⟨-, e⟩
        · omega
        · rw [← y0, ← y2, ← y3, ← y4, ← y5, x1] at e
          rcases e with ⟨e, -⟩ | e | ⟨e1, e2⟩
          · exact Or.inl e
          · exact Or.inr (Or.inl e)
          · exact Or.inr (Or.inr ⟨e1, _, e2⟩)
      have a1 := AW_k ha o2
      rcases c with ⟨c0, rfl⟩ | ⟨c0, c⟩ | ⟨c0, c⟩ | ⟨⟨c0, c1, c2⟩, rfl⟩
      · by_cases ht : σ1 62 w = -1
        · rw [if_pos ht]
          have eK : ∀ k, k ∉ fgL → k ≠ 63 → (su (su (fgt σ1 w) 62 w (σ1 51 2)) 63 w (σ1 31 0)) k = σ1 k := fun k hk he => by
            rw [su_k he, su_k (fun e => hk (by rw [e]; decide)), fgt_F hk]
          have sK : ∀ {S : List Nat}, (∀ k ∈ S, k ∉ fgL ∧ k ≠ 63) → ∀ k ∈ S, (su (su (fgt σ1 w) 62 w (σ1 51 2)) 63 w (σ1 31 0)) k = σ1 k := fun hS k m => eK k (hS k m).1 (hS k m).2
          obtain ⟨v1, v2, v3, v4, v5, v6, v7, v8⟩ := fgt_v σ1 w
          have es : (su (su (fgt σ1 w) 62 w (σ1 51 2)) 63 w (σ1 31 0)) 64 w = 0 := by rw [su_k (by decide), su_k (by decide), v2]
          refine ⟨LT0_k b0 (sK (by decide)), b1.tr (((oth.fgt w σ1).tr (oth.su (by decide))).tr (oth.su (by decide))), fun k m => (sK (by decide) k m).trans (kL (by decide) k m), Or.inr ⟨i, x, f1, f2, Or.inr (Or.inl ⟨he, by rw [← g0]; exact c0, by rw [ln_k (sK (by decide))]; exact f5, Or.inl ⟨?_, ?_, es, ?_, ?_, ?_⟩⟩)⟩⟩
          · rw [← b3.1]; exact ht
          · rw [su_k (by decide), su_s, g2]
          · rw [su_k (by decide), su_k (by decide), v3]
          · rw [su_k (by decide), su_k (by decide), v4]
          · unfold ps
            rw [es, su_k (by decide), su_k (by decide), v8, eK 76 (by decide) (by decide), Int.add_zero, (o1.2.2.2.2.2.2.2.2.2.2.1 w hw.1 hw.2).2]
            rfl
        · rw [if_neg ht]
          exact ⟨b0, b1, kL (by decide), Or.inr ⟨i, x, f1, f2, Or.inr (Or.inl ⟨he, by rw [← g0]; exact c0, f5, Or.inr ⟨by rw [← b3.1]; exact ht, b3⟩⟩)⟩⟩
      · rcases hT with e | ⟨-, t1, t2, t3, t4⟩ | ⟨e, -⟩
        · omega
        · rcases c with ⟨e, -⟩ | ⟨-, d1, d2, d3, d4, kv, d5, d6, d7⟩
          · exact absurd e t2.2
          · have dk : ∀ {S : List Nat}, (∀ k ∈ S, k ∉ [44, 45, 46, 47, 48, 49, 50]) → ∀ k ∈ S, σ' k = σ1 k := fun hS k m => d1 k (hS k m)
            have hl := tld_L b0 d7 f5
            rw [g2, g3, g4, g5, o2 31 (by decide)] at hl
            exact ⟨LT0_u b0 d3 d4, b1.tr (oth.of d1 (by decide)), fun k m => (dk (by decide) k m).trans (kL (by decide) k m), Or.inr ⟨i, x, f1, f2, Or.inr (Or.inr (Or.inl ⟨he, by rw [← g0]; exact c0, b3.tr (same.k (dk (by decide))), _, kv, hl⟩))⟩⟩
        · omega
      · rcases hT with e | ⟨e, -⟩ | ⟨-, kv, t1, t2, t3, t4, t5⟩
        · omega
        · omega
        · have hm : mt σ1 w ↔ fits w σ x := by
            unfold mt fits
            have := b3.2.2.2.2
            unfold ps at this ⊢
            rw [g5, g2, g3, b3.1, b3.2.1] at *
            rw [this]
          rcases c with ⟨c1, rfl⟩ | ⟨c1, rfl⟩
          · exact ⟨b0, b1, kL (by decide), Or.inr ⟨i, x, f1, f2, Or.inr (Or.inr (Or.inr ⟨he, by rw [← g0]; exact c0, f5, Or.inl ⟨fun e => c1 (hm.mpr e), b3⟩⟩))⟩⟩
          · obtain ⟨u1, u2, u3, u4, u5, u6, u7, u8, u9⟩ := gts_v (σ := σ1) (w := w)
            have uk : ∀ {S : List Nat}, (∀ k ∈ S, k ∉ [77, 78, 75, 65, 66, 64, 76]) → ∀ k ∈ S, gts σ1 w k = σ1 k := fun hS k m => u1 k (hS k m)
            have hst : 0 ≤ σ1 64 w ∧ σ1 64 w < 38 := by
              have := spl_b o1.1
              have e := c1.2.2.1
              rw [← e]
              omega
            have ho : oth w σ1 (gts σ1 w) := by
              refine ⟨fun v hv k hk => ?_, fun i hi => ?_, fun i _ => by rw [u1 56 (by decide)]⟩
              · by_cases m : k ∈ [75, 65, 66, 64]
                · exact u2 k m v hv
                · rw [u1 k]
                  revert hk m
                  simp only [List.mem_cons, List.not_mem_nil, or_false, not_or]
                  omega
              · rw [u9]
                split
                · rfl
                · rw [if_neg (by omega)]
            refine ⟨LT0_k b0 (uk (by decide)), b1.tr ho, fun k m => (uk (by decide) k m).trans (kL (by decide) k m), Or.inr ⟨i, x, f1, f2, Or.inr (Or.inr (Or.inr ⟨he, by rw [← g0]; exact c0, by rw [ln_k (uk (by decide))]; exact f5, Or.inr ⟨hm.mp c1, ?_, u6, u7, ?_⟩⟩))⟩⟩
            · rw [u1 62 (by decide)]; exact b3.1
            · by_cases c4 : σ1 51 4 % 2 = 1
              · refine Or.inl ⟨by rw [u8, if_pos c4]; exact b3.2.1, ?_⟩
                rw [← b3.2.2.2.2]
                unfold ps
                rw [u5, u8, if_pos c4, u9, if_pos c4]
                have : σ1 51 4 / 2 = 8 := by
                  have h8 : chM (Lp σ1 (σ1 51 5) (σ1 51 2).toNat) (σ1 51 3).toNat = 1 := by
                    unfold chM at t4 ⊢
                    split
                    · rfl
                    · rename_i hh; rw [if_neg hh] at t4; omega
                  have h9 : (chC (Lp σ1 (σ1 51 5) (σ1 51 2).toNat) (σ1 51 3).toNat).length = 8 := by
                    unfold chM at h8
                    split at h8
                    · rename_i hh
                      unfold chC
                      rw [List.length_take, List.length_drop]; omega
                    · omega
                  rw [h8, h9] at t4
                  omega
                omega
              · refine Or.inr ⟨by rw [u8, if_neg c4, b3.2.1], ?_⟩
                unfold ps
                rw [u5, u8, if_neg c4, u9, if_neg c4, if_pos rfl]
                omega
      · rcases hT with e | ⟨e, -⟩ | ⟨e, -⟩ <;> omega

