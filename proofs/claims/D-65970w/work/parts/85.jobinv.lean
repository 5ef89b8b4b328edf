def stS : List Nat := [32, 29, 10, 11, 12, 13, 2, 0, 1, 6, 7, 8, 31]
def stE (σ σ' : qS) : Prop := ∀ k ∈ stS, σ' k = σ k
theorem stE.rf (σ : qS) : stE σ σ := fun _ _ => rfl
theorem stE.tr {σ σ1 σ2 : qS} (h : stE σ σ1) (h' : stE σ1 σ2) : stE σ σ2 := fun k hk => (h' k hk).trans (h k hk)
theorem st_era {σ σ' : qS} (h : stE σ σ') : σ' 31 = σ 31 := h _ (by decide)
theorem st_pts {σ σ' : qS} (h : stE σ σ') : σ' 13 = σ 13 := h _ (by decide)
theorem st_jb {σ σ' : qS} (h : stE σ σ') : jb σ' = jb σ := by unfold jb; rw [h 29 (by decide), h 32 (by decide)]
theorem st_spl {σ σ' : qS} (h : stE σ σ') : spl σ' = spl σ := by unfold spl all_ rc; rw [st_jb h, h 10 (by decide), h 11 (by decide), h 2 (by decide)]
theorem st_all {σ σ' : qS} (h : stE σ σ') : all_ σ' = all_ σ := by unfold all_ rc; rw [st_jb h, h 10 (by decide), h 11 (by decide), h 2 (by decide)]
theorem st_job {σ σ' : qS} (h : stE σ σ') (hj : jobok σ) : jobok σ' := by unfold jobok at *; rw [st_jb h, h 32 (by decide), h 10 (by decide), h 11 (by decide), h 12 (by decide), h 13 (by decide), h 2 (by decide)]; exact hj
theorem st_fM {σ σ' : qS} (h : stE σ σ') : fM σ' = fM σ := fM_k (fun k m => h k (by revert k; decide))
theorem st_rec {σ σ' : qS} (h : stE σ σ') : recM σ' = recM σ := by unfold recM; rw [st_jb h, st_fM h, h 10 (by decide), h 11 (by decide)]
theorem st_prg {σ σ' : qS} (h : stE σ σ') (p : Int) : prg σ' p = prg σ p := prg_keep p (h _ (by decide)) (h _ (by decide)) (h _ (by decide))
theorem st_pok {σ σ' : qS} (h : stE σ σ') {p : Int} (hp : progok σ p) : progok σ' p := progok_keep hp (h _ (by decide)) (h _ (by decide)) (h _ (by decide))
theorem st_out {σ σ' : qS} (h : stE σ σ') : OUTm σ' = OUTm σ := by funext k; unfold OUTm; rw [st_prg h, st_prg h, st_rec h, st_jb h]
theorem st_prs {σ σ' : qS} (h : stE σ σ') : PRSm σ' = PRSm σ := by unfold PRSm; rw [st_prg h, st_prg h, st_rec h, st_jb h]
theorem st_tot {σ σ' : qS} (h : stE σ σ') : TOT σ' = TOT σ := by unfold TOT; rw [st_prs h]
theorem st_fpt {σ σ' : qS} (h : stE σ σ') : fpt σ' = fpt σ := by funext p l; unfold fpt prt; rw [st_jb h, st_pts h]
theorem st_lp {σ σ' : qS} (h : stE σ σ') : Lp σ' = Lp σ := by funext p k; unfold Lp; rw [st_fpt h, st_out h]
theorem st_pre {σ σ' : qS} (h : stE σ σ') : pre σ' = pre σ := by funext p k; unfold pre; rw [st_lp h]
theorem st_mpe {σ σ' : qS} (h : stE σ σ') : MPE σ' = MPE σ := by funext t s; unfold MPE; rw [st_rec h, st_prg h, st_jb h]
theorem st_jo {σ σ' : qS} (h : stE σ σ') : JOm σ' = JOm σ := by rw [JOm_e, JOm_e, st_prs h, st_pts h, st_jb h, st_prg h]
theorem st_par {σ σ' : qS} (h : stE σ σ') (L : List Pr) (p : Nat) : PAR (prg σ' (jb σ' * 3 + 2)) (σ' 13 (jb σ')) L p = PAR (prg σ (jb σ * 3 + 2)) (σ 13 (jb σ)) L p := by rw [st_prg h, st_pts h, st_jb h]
def KF (σ : qS) (w k : Int) : Prop := k < spl σ ∧ (0 ≤ σ 56 (w * 38 + k) ∧ 0 ≤ σ 57 (w * 38 + k) ∧ σ 56 (w * 38 + k) + σ 57 (w * 38 + k) ≤ σ 55 w) ∧ OUTm σ k.toNat = some (dkp σ w k) ∧ σ 58 (w * 38 + k) = sumf σ w (σ 57 (w * 38 + k)).toNat (σ 56 (w * 38 + k)) (σ 57 (w * 38 + k))
def kln (σ : qS) (w k : Int) : Int := if σ 56 (w * 38 + k) = -1 then 0 else (((OUTm σ k.toNat).getD []).length : Int)
def DK (σ : qS) (w : Int) : Prop := (0 ≤ σ 55 w ∧ σ 55 w ≤ 1000) ∧ σ 55 w = ssum (kln σ w) 38 ∧ ∀ k, 0 ≤ k → k < 38 → σ 56 (w * 38 + k) ≠ -1 → KF σ w k
def KPT (σ : qS) (w k : Int) : Prop := σ 54 w = σ 31 0 ∧ σ 56 (w * 38 + k) ≠ -1
def SB (σ : qS) (k : Int) : Prop := (0 ≤ σ 33 k ∧ σ 33 k < 6) ∧ KPT σ (σ 33 k) k ∧ σ 57 (σ 33 k * 38 + k) = σ 34 k
def PTo (σ : qS) (p : Int) : Prop := ∃ L o, PRSm σ = some L ∧ L.length ≤ 1000 ∧ PAR (prg σ (jb σ * 3 + 2)) (σ 13 (jb σ)) L p.toNat = some o ∧ o.length ≤ 300 ∧ σ 41 p = o.length ∧ row σ 42 43 (p * 300) o.length = o
def xw (x : Ms) (i : Nat) : Int := x.2.1.getD i 0
def DN (σ : qS) (a b c : Int) : Prop := (0 ≤ a ∧ a < 6) ∧ ((0 ≤ b ∧ b < 38 ∧ KPT σ a b ∧ σ 57 (a * 38 + b) = c) ∨ (38 ≤ b ∧ b < 38 + σ 13 (jb σ) ∧ σ 40 (b - 38) = σ 31 0))
def GV (m : Prop) (σ : qS) (t : Int) : Prop := (0 ≤ t ∧ t < spl σ) ∨ (38 ≤ t ∧ t < 38 + σ 13 (jb σ) ∧ (TOT σ ∨ (m ∧ mapd σ)))
def FT (σ : qS) (to a c d : Int) : Prop := (0 ≤ a ∧ a < spl σ) ∧ KPT σ to a ∧ 0 ≤ c ∧ (0 ≤ d ∧ d < 6)
def PRl (σ : qS) (a b c d : Int) (kv : List Pr) : Prop := (0 ≤ a ∧ a < spl σ) ∧ (∃ o, OUTm σ a.toNat = some o) ∧ 0 ≤ b ∧ c = 2 * ((chC (Lp σ d a.toNat) b.toNat).length : Int) + chM (Lp σ d a.toNat) b.toNat ∧ kv.take (chC (Lp σ d a.toNat) b.toNat).length = chC (Lp σ d a.toNat) b.toNat
def LTR (m : Prop) (σ : qS) (x : Ms) : Prop := (x.1 = 6 ∧ ((xw x 0 = 1 ∧ 0 ≤ xw x 2 ∧ xw x 2 < 6) ∨ (xw x 0 = 3 ∧ DN σ (xw x 2) (xw x 3) (xw x 4)) ∨ (xw x 0 = 4 ∧ JOm σ = none) ∨ (xw x 0 = 7 ∧ 0 ≤ xw x 2 ∧ TOT σ))) ∨ ((0 ≤ x.1 ∧ x.1 < 6) ∧ ((xw x 0 = 2 ∧ GV m σ (xw x 2)) ∨ (xw x 0 = 5 ∧ FT σ x.1 (xw x 2) (xw x 4) (xw x 5)) ∨ (xw x 0 = 6 ∧ PRl σ (xw x 2) (xw x 3) (xw x 4) (xw x 5) x.2.2)))
def LOK (m : Prop) (σ : qS) (x : Ms) : Prop := (xw x 1 ≤ σ 31 0 ∧ 0 ≤ x.1 ∧ x.1 ≤ 6) ∧ (xw x 1 = σ 31 0 → LTR m σ x)
def WMp (σ : qS) (w : Int) : Prop := (0 ≤ σ 62 w ∧ σ 62 w < spl σ) ∧ (0 ≤ σ 64 w ∧ σ 64 w ≤ 16) ∧ ∃ E, BF σ w E ∧ (E.length : Int) ≤ 4 * σ 64 w ∧ MPE σ (σ 62 w).toNat (σ 64 w).toNat = some E
def WRd (σ : qS) (w : Int) : Prop := (38 ≤ σ 62 w ∧ σ 62 w < 38 + σ 13 (jb σ)) ∧ TOT σ ∧ (0 ≤ σ 65 w ∧ σ 65 w ≤ 13) ∧ (0 ≤ σ 66 w ∧ σ 66 w < 12) ∧ ∃ st f : Nat, σ 64 w = st ∧ (st : Int) ≤ spl σ ∧ f ≤ (Lp σ (σ 62 w - 38) st).length ∧ ((st : Int) = spl σ → f = 0) ∧ (∀ i : Nat, i ≤ st → σ 76 (w * 39 + i) = (pre σ (σ 62 w - 38) i).length) ∧ σ 75 w = ((pre σ (σ 62 w - 38) st).length + f : Nat) ∧ row σ 77 78 (w * 1000) ((pre σ (σ 62 w - 38) st).length + f) = pre σ (σ 62 w - 38) st ++ (Lp σ (σ 62 w - 38) st).take f
def WOK (σ : qS) (w : Int) : Prop := (σ 62 w = -1 ∧ (0 ≤ σ 65 w ∧ σ 65 w ≤ 5) ∧ σ 64 w = 0) ∨ (σ 62 w ≠ -1 ∧ σ 63 w ≤ σ 31 0 ∧ (σ 63 w = σ 31 0 → WMp σ w ∨ WRd σ w))
def GVN (σ : qS) : Prop := σ 36 0 ≠ 0 → True
def POK (σ : qS) : Prop := progok σ (jb σ * 3) ∧ progok σ (jb σ * 3 + 1) ∧ progok σ (jb σ * 3 + 2)
def JD (σ : qS) : Prop := ∀ w, 0 ≤ w → w < 6 → σ 54 w = σ 31 0 → DK σ w
def JS (σ : qS) : Prop := ∀ k, 0 ≤ k → k < 38 → σ 33 k ≠ -1 → SB σ k
def JP (σ : qS) : Prop := ∀ p, 0 ≤ p → p < 6 → σ 40 p = σ 31 0 → PTo σ p
def JQ (σ : qS) : Prop := ∀ p, 0 ≤ p → p < 6 → σ 35 p ≠ 0 → p < σ 13 (jb σ) ∧ σ 40 p = σ 31 0
def JL (m : Prop) (σ : qS) : Prop := ∀ x ∈ ln σ, LOK m σ x
def JW (u : Int) (σ : qS) : Prop := ∀ w, 0 ≤ w → w < 6 → w ≠ u → σ 61 w ≠ 0 → WOK σ w
def JI (m : Prop) (u : Int) (σ : qS) : Prop := jobok σ ∧ POK σ ∧ lok σ ∧ JD σ ∧ JS σ ∧ JP σ ∧ JQ σ ∧ JL m σ ∧ JW u σ ∧ GVN σ ∧ B7 σ
def ag (σ σ' : qS) (k : Nat) (lo hi : Int) : Prop := ∀ i, lo ≤ i → i < hi → σ' k i = σ k i
def wS : List Nat := [61, 62, 63, 64, 65, 66, 67, 70, 73, 75]
def WSl (σ σ' : qS) (w : Int) : Prop := (∀ k ∈ wS, σ' k w = σ k w) ∧ (ag σ σ' 68 (w * 8) (w * 8 + 8) ∧ ag σ σ' 69 (w * 8) (w * 8 + 8)) ∧ (ag σ σ' 71 (w * 64) (w * 64 + 64) ∧ ag σ σ' 72 (w * 64) (w * 64 + 64) ∧ ag σ σ' 74 (w * 65) (w * 65 + 65)) ∧ ag σ σ' 76 (w * 39) (w * 39 + 39) ∧ ag σ σ' 77 (w * 1000) (w * 1000 + 1000) ∧ ag σ σ' 78 (w * 1000) (w * 1000 + 1000)
def wA : List Nat := wS ++ [68, 69, 71, 72, 74, 76, 77, 78]
theorem WSl_eq {σ σ' : qS} (h : ∀ k ∈ wA, σ' k = σ k) (w : Int) : WSl σ σ' w := by
  refine ⟨fun k m => by rw [h k (List.mem_append_left _ m)], ⟨?_, ?_⟩, ⟨?_, ?_, ?_⟩, ?_, ?_, ?_⟩ <;> (intro i _ _; rw [h _ (by decide)])
theorem row_ag {σ σ' : qS} {k1 k2 : Nat} {lo hi b : Int} {n : Nat} (h1 : ag σ σ' k1 lo hi) (h2 : ag σ σ' k2 lo hi) (hb : lo ≤ b) (hn : b + n ≤ hi) : row σ' k1 k2 b n = row σ k1 k2 b n := row_keep (fun i i0 i1 => ⟨h1 i (by omega) (by omega), h2 i (by omega) (by omega)⟩)
theorem BF_sl {σ σ' : qS} {w : Int} (h : WSl σ σ' w) {E : List Pr} (hB : BF σ w E) : BF σ' w E := by
  obtain ⟨h1, h2, h3, -⟩ := h
  have e1 := h1 67 (by decide)
  have e2 := h1 70 (by decide)
  have e3 := h1 73 (by decide)
  obtain ⟨b0, b1, b2, b3, b4, b5, b6, b7⟩ := hB
  unfold BF
  rw [e1, e2, e3]
  refine ⟨b0, b1, b2, b3, b4, fun i hi => ?_, fun i hi => ?_, ?_⟩
  · rw [h3.2.2 _ (by omega) (by omega), h3.2.2 _ (by omega) (by omega)]; exact b5 i hi
  · rw [row_ag h3.1 h3.2.1 (by omega) (by omega)]; exact b6 i hi
  · rw [row_ag h2.1 h2.2 (by omega) (by omega)]; exact b7
theorem WR_1000 {σ : qS} (hj : jobok σ) (hT : TOT σ) {p : Int} {st f : Nat} (h1 : (st : Int) ≤ spl σ) (h2 : f ≤ (Lp σ p st).length) (h3 : (st : Int) = spl σ → f = 0) : (pre σ p st).length + f ≤ 1000 := by
  by_cases e : (st : Int) = spl σ
  · have := pre_1000 hj hT p h1
    have := h3 e
    omega
  · have := pre_1000 hj hT p (i := st + 1) (by omega)
    rw [pre_s, List.length_append] at this
    omega
theorem WOK_sl {σ σ' : qS} {w : Int} (hj : jobok σ) (hs : stE σ σ') (h : WSl σ σ' w) (hw : WOK σ w) : WOK σ' w := by
  have h1 := h.1
  have e1 := h1 62 (by decide)
  have e2 := h1 63 (by decide)
  have e3 := h1 64 (by decide)
  have e4 := h1 65 (by decide)
  have e5 := h1 66 (by decide)
  have e6 := h1 75 (by decide)
  unfold WOK
  rw [e1, e2, e3, e4, st_era hs]
  rcases hw with hw | ⟨w1, w2, w3⟩
  · exact Or.inl hw
  refine Or.inr ⟨w1, w2, fun he => ?_⟩
  rcases w3 he with ⟨a1, a2, E, a3, a4, a5⟩ | ⟨a1, a2, a3, a4, st, f, b1, b2, b3, b4, b5, b6, b7⟩
  · refine Or.inl ?_
    unfold WMp
    rw [e1, e3, st_spl hs, st_mpe hs]
    exact ⟨a1, a2, E, BF_sl h a3, a4, a5⟩
  · refine Or.inr ?_
    have hb := WR_1000 hj a2 b2 b3 b4
    have hsp := spl_b hj
    unfold WRd
    rw [e1, e3, e4, e5, e6, st_jb hs, st_pts hs, st_tot hs, st_spl hs, st_lp hs, st_pre hs]
    refine ⟨a1, a2, a3, a4, st, f, b1, b2, b3, b4, fun i hi => ?_, b6, ?_⟩
    · rw [h.2.2.2.1 _ (by omega) (by omega)]; exact b5 i hi
    · rw [row_ag h.2.2.2.2.1 h.2.2.2.2.2 (by omega) (by omega)]; exact b7
def DSl (σ σ' : qS) (w : Int) : Prop := (σ' 54 w = σ 54 w ∧ σ' 55 w = σ 55 w) ∧ (ag σ σ' 56 (w * 38) (w * 38 + 38) ∧ ag σ σ' 57 (w * 38) (w * 38 + 38) ∧ ag σ σ' 58 (w * 38) (w * 38 + 38)) ∧ ag σ σ' 59 (w * 1000) (w * 1000 + 1000) ∧ ag σ σ' 60 (w * 1000) (w * 1000 + 1000)
def dA : List Nat := [54, 55, 56, 57, 58, 59, 60]
theorem DSl_eq {σ σ' : qS} (h : ∀ k ∈ dA, σ' k = σ k) (w : Int) : DSl σ σ' w := by
  refine ⟨⟨by rw [h _ (by decide)], by rw [h _ (by decide)]⟩, ⟨?_, ?_, ?_⟩, ?_, ?_⟩ <;> (intro i _ _; rw [h _ (by decide)])
theorem sumf_ag {σ σ' : qS} {w : Int} {hi : Int} (h1 : ag σ σ' 59 (w * 1000) (w * 1000 + hi)) (h2 : ag σ σ' 60 (w * 1000) (w * 1000 + hi)) : ∀ (n : Nat) (a h : Int), 0 ≤ a → a + n ≤ hi → sumf σ' w n a h = sumf σ w n a h
  | 0, a, h, _, _ => rfl
  | n + 1, a, h, h0, h3 => by rw [sumf, sumf, h1 _ (by omega) (by omega), h2 _ (by omega) (by omega)]; exact sumf_ag h1 h2 n _ _ (by omega) (by omega)
theorem KF_sl {σ σ' : qS} {w k : Int} (hs : stE σ σ') (hk : 0 ≤ k ∧ k < 38) {hi : Int} (ht : σ 55 w ≤ hi) (ht' : σ 55 w ≤ σ' 55 w) (a1 : σ' 56 (w * 38 + k) = σ 56 (w * 38 + k)) (a2 : σ' 57 (w * 38 + k) = σ 57 (w * 38 + k)) (a3 : σ' 58 (w * 38 + k) = σ 58 (w * 38 + k)) (h1 : ag σ σ' 59 (w * 1000) (w * 1000 + hi)) (h2 : ag σ σ' 60 (w * 1000) (w * 1000 + hi)) (h : KF σ w k) : KF σ' w k := by
  obtain ⟨k1, k2, k3, k4⟩ := h
  unfold KF dkp
  rw [a1, a2, a3, st_spl hs, st_out hs]
  refine ⟨k1, ⟨k2.1, k2.2.1, by omega⟩, ?_, ?_⟩
  · rw [k3]
    unfold dkp
    rw [row_ag h1 h2 (by omega) (by omega)]
  · rw [k4, sumf_ag h1 h2 _ _ _ k2.1 (by omega)]
theorem DK_sl {σ σ' : qS} {w : Int} (hs : stE σ σ') (h : DSl σ σ' w) (hd : DK σ w) : DK σ' w := by
  obtain ⟨⟨h0, h1⟩, ⟨h2, h3, h4⟩, h5, h6⟩ := h
  obtain ⟨d1, d2, d3⟩ := hd
  refine ⟨by rw [h1]; exact d1, ?_, fun k k0 k1 hk => ?_⟩
  · rw [h1, d2]
    apply ssum_c
    intro i i0 i1
    unfold kln
    rw [h2 _ (by omega) (by omega), st_out hs]
  · rw [h2 _ (by omega) (by omega)] at hk
    exact KF_sl hs ⟨k0, k1⟩ (hi := 1000) d1.2 (by omega) (h2 _ (by omega) (by omega)) (h3 _ (by omega) (by omega)) (h4 _ (by omega) (by omega)) h5 h6 (d3 k k0 k1 hk)
def pA : List Nat := [40, 41, 42, 43]
theorem PTo_sl {σ σ' : qS} {p : Int} (hs : stE σ σ') (h1 : σ' 41 p = σ 41 p) (h2 : ag σ σ' 42 (p * 300) (p * 300 + 300)) (h3 : ag σ σ' 43 (p * 300) (p * 300 + 300)) (h : PTo σ p) : PTo σ' p := by
  obtain ⟨L, o, a1, a2, a3, a4, a5, a6⟩ := h
  exact ⟨L, o, by rw [st_prs hs]; exact a1, a2, by rw [st_par hs]; exact a3, a4, by rw [h1]; exact a5, by rw [row_ag h2 h3 (by omega) (by omega)]; exact a6⟩
def dmon (σ σ' : qS) : Prop := ∀ w, 0 ≤ w → w < 6 → σ 54 w = σ 31 0 → σ' 54 w = σ 31 0 ∧ ∀ k, 0 ≤ k → k < 38 → σ 56 (w * 38 + k) ≠ -1 → σ' 56 (w * 38 + k) ≠ -1 ∧ σ' 57 (w * 38 + k) = σ 57 (w * 38 + k)
theorem dmon_eq {σ σ' : qS} (h : ∀ k ∈ dA, σ' k = σ k) : dmon σ σ' := fun w _ _ he => by
  rw [h 54 (by decide), h 56 (by decide), h 57 (by decide)]
  exact ⟨he, fun k _ _ hk => ⟨hk, rfl⟩⟩
def pmon (σ σ' : qS) : Prop := ∀ p, 0 ≤ p → p < 6 → σ 40 p = σ 31 0 → σ' 40 p = σ 31 0
theorem KPT_m {σ σ' : qS} (hs : stE σ σ') (hd : dmon σ σ') {w k : Int} (hw : 0 ≤ w ∧ w < 6) (hk : 0 ≤ k ∧ k < 38) (h : KPT σ w k) : KPT σ' w k ∧ σ' 57 (w * 38 + k) = σ 57 (w * 38 + k) := by
  obtain ⟨x1, x2⟩ := hd w hw.1 hw.2 h.1
  obtain ⟨x3, x4⟩ := x2 k hk.1 hk.2 h.2
  exact ⟨⟨by rw [st_era hs]; exact x1, x3⟩, x4⟩
theorem LTR_m {m m' : Prop} {σ σ' : qS} (hj : jobok σ) (hs : stE σ σ') (hd : dmon σ σ') (hp : pmon σ σ') (hm : m ∧ mapd σ → TOT σ ∨ (m' ∧ mapd σ')) {x : Ms} (h : LTR m σ x) : LTR m' σ' x := by
  have hsp := spl_b hj
  rcases h with ⟨h0, h⟩ | ⟨h0, h⟩
  · refine Or.inl ⟨h0, ?_⟩
    rcases h with h | ⟨h, ⟨a1, a2⟩⟩ | ⟨h, a1⟩ | ⟨h, a1, a2⟩
    · exact Or.inl h
    · refine Or.inr (Or.inl ⟨h, a1, ?_⟩)
      rcases a2 with ⟨b1, b2, b3, b4⟩ | ⟨b1, b2, b3⟩
      · obtain ⟨c1, c2⟩ := KPT_m hs hd a1 ⟨b1, b2⟩ b3
        exact Or.inl ⟨b1, b2, c1, by rw [c2]; exact b4⟩
      · have := hj.2.2.2.2.2.1
        refine Or.inr ⟨b1, by rw [st_pts hs, st_jb hs]; exact b2, ?_⟩
        rw [st_era hs]
        exact hp _ (by omega) (by omega) b3
    · exact Or.inr (Or.inr (Or.inl ⟨h, by rw [st_jo hs]; exact a1⟩))
    · exact Or.inr (Or.inr (Or.inr ⟨h, a1, by rw [st_tot hs]; exact a2⟩))
  · refine Or.inr ⟨h0, ?_⟩
    rcases h with ⟨h, a⟩ | ⟨h, a1, a2, a3, a4⟩ | ⟨h, a1, a2, a3, a4, a5⟩
    · refine Or.inl ⟨h, ?_⟩
      unfold GV
      rw [st_spl hs, st_pts hs, st_jb hs, st_tot hs]
      rcases a with a | ⟨b1, b2, b3⟩
      · exact Or.inl a
      · refine Or.inr ⟨b1, b2, ?_⟩
        rcases b3 with b3 | b3
        · exact Or.inl b3
        · exact hm b3
    · refine Or.inr (Or.inl ⟨h, by rw [st_spl hs]; exact a1, (KPT_m hs hd h0 ⟨a1.1, by omega⟩ a2).1, a3, a4⟩)
    · refine Or.inr (Or.inr ⟨h, ?_⟩)
      unfold PRl
      rw [st_spl hs, st_out hs, st_lp hs]
      exact ⟨a1, a2, a3, a4, a5⟩
theorem LOK_m {m m' : Prop} {σ σ' : qS} (hj : jobok σ) (hs : stE σ σ') (hd : dmon σ σ') (hp : pmon σ σ') (hm : m ∧ mapd σ → TOT σ ∨ (m' ∧ mapd σ')) {x : Ms} (h : LOK m σ x) : LOK m' σ' x := by
  unfold LOK
  rw [st_era hs]
  exact ⟨h.1, fun e => LTR_m hj hs hd hp hm (h.2 e)⟩
def jS : List Nat := [33, 34, 35, 36, 37, 38, 39]
theorem JI_step {m : Prop} {u u' : Int} {σ σ' : qS} (h : JI m u σ) (hs : stE σ σ') (hl : lok σ') (hk : ∀ k ∈ jS, σ' k = σ k) (hd : dmon σ σ') (hp : pmon σ σ') (hD : JD σ') (hP : JP σ') (hL : ∀ x ∈ ln σ', x ∈ ln σ ∨ LOK m σ' x) (hW : JW u' σ') (h7 : B7 σ') : JI m u' σ' := by
  obtain ⟨j1, j2, j3, j4, j5, j6, j7, j8, j9, j10, j11⟩ := h
  have hmp : mapd σ → mapd σ' := fun hm => by unfold mapd at *; rw [st_spl hs, hk 33 (by decide)]; exact hm
  refine ⟨st_job hs j1, ?_, hl, hD, ?_, hP, ?_, fun x hx => ?_, hW, ?_, h7⟩
  · unfold POK; rw [st_jb hs]; exact ⟨st_pok hs j2.1, st_pok hs j2.2.1, st_pok hs j2.2.2⟩
  · intro k k0 k1 hb
    rw [hk 33 (by decide)] at hb
    obtain ⟨s1, s2, s3⟩ := j5 k k0 k1 hb
    obtain ⟨c1, c2⟩ := KPT_m hs hd s1 ⟨k0, k1⟩ s2
    unfold SB
    rw [hk 33 (by decide), hk 34 (by decide), c2]
    exact ⟨s1, c1, s3⟩
  · intro p p0 p1 hb
    rw [hk 35 (by decide)] at hb
    obtain ⟨q1, q2⟩ := j7 p p0 p1 hb
    exact ⟨by rw [st_pts hs, st_jb hs]; exact q1, by rw [st_era hs]; exact hp p p0 p1 q2⟩
  · rcases hL x hx with hx | hx
    · exact LOK_m j1 hs hd hp (fun hm => Or.inr ⟨hm.1, hmp hm.2⟩) (j8 x hx)
    · exact hx
  · exact fun _ => trivial

