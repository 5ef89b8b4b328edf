def fD (σ : qS) (f : Int) : List Pr := if 0 ≤ f ∧ f < 16 then row σ 100 101 (300 * f) (σ 102 f).toNat else []
def fM (σ : qS) (f : Int) : List Pr := if 0 ≤ f ∧ f < 16 then row σ 0 1 (f * 300) (σ 2 f).toNat else []
theorem fD_i {σ : qS} {f : Int} (h : 0 ≤ f ∧ f < 16) : fD σ f = row σ 100 101 (300 * f) (σ 102 f).toNat := by unfold fD; rw [if_pos h]
theorem fM_i {σ : qS} {f : Int} (h : 0 ≤ f ∧ f < 16) : fM σ f = row σ 0 1 (f * 300) (σ 2 f).toNat := by unfold fM; rw [if_pos h]
def OUTk (mp cp : Prg) (recs : List Pr) (k : Nat) : Option (List Pr) := splo mp cp ((recs.drop (16 * k)).take 16)
def nSp (recs : List Pr) : Nat := (recs.length + 15) / 16
def PRS (mp cp : Prg) (recs : List Pr) : Option (List Pr) := ocat ((List.range (nSp recs)).map (OUTk mp cp recs))
def PAR (rp : Prg) (n : Int) (L : List Pr) (p : Nat) : Option (List Pr) := gmapf (fun k vs => lcall rp 2 k vs) (fun k => k % n == p) L.length (srt L)
def JO (mp cp rp : Prg) (n : Int) (recs : List Pr) : Option (List Pr) := match PRS mp cp recs with
  | none => none
  | some L => if 1000 < L.length then none else (match ocat ((List.range n.toNat).map (PAR rp n L)) with
    | none => none
    | some O => if 300 < O.length then none else some O)
def recD (σ : qS) (j : Int) : List Pr := fD σ (σ 108 j) ++ (if σ 109 j < 0 then [] else fD σ (σ 109 j))
theorem recD_len {σ : qS} {j : Int} (h : djbk σ j) : ((recD σ j).length : Int) = dall σ j := by
  obtain ⟨hj, h2, h3, h4⟩ := h
  have s1 := h4 _ h2.1 h2.2
  unfold recD dall
  rw [fD_i h2, List.length_append, row_len]
  split
  · simp; omega
  · have s2 := h4 (σ 109 j) (by omega) h3.2
    rw [fD_i ⟨by omega, h3.2⟩, row_len]; omega
theorem recD_at {σ : qS} {j : Int} (h : djbk σ j) (i : Nat) (hi : (i : Int) < dall σ j) : (recD σ j)[i]? = some (drec σ j i) := by
  obtain ⟨hj, h2, h3, h4⟩ := h
  have s1 := h4 _ h2.1 h2.2
  unfold recD dall at *
  unfold drec drat
  rw [fD_i h2]
  by_cases e : (i : Int) < σ 102 (σ 108 j)
  · rw [if_pos e, List.getElem?_append_left (by rw [row_len]; omega)]
    rw [row_at (by omega)]
  · rw [if_neg e]
    by_cases e2 : σ 109 j < 0
    · rw [if_pos e2] at hi; omega
    · rw [if_neg e2] at hi ⊢
      have s2 := h4 (σ 109 j) (by omega) h3.2
      rw [List.getElem?_append_right (by rw [row_len]; omega), fD_i ⟨by omega, h3.2⟩]
      rw [row_len, row_at (by omega), show 300 * σ 109 j + (((i - (σ 102 (σ 108 j)).toNat : Nat)) : Int) = 300 * σ 109 j + i - σ 102 (σ 108 j) by omega]
theorem drecs_e {σ : qS} {j : Int} (h : djbk σ j) (fr n : Nat) (hn : (fr + n : Int) ≤ dall σ j) : drecs σ j fr n = ((recD σ j).drop fr).take n := by
  apply List.ext_getElem?
  intro i
  unfold drecs
  by_cases hi : i < n
  · rw [List.getElem?_map, List.getElem?_range hi, Option.map_some, List.getElem?_take_of_lt hi, List.getElem?_drop, recD_at h (fr + i) (by omega)]
    congr 2
  · rw [List.getElem?_eq_none (by simp; omega), List.getElem?_eq_none (by rw [List.length_take]; omega)]
theorem dspl_e {σ : qS} {j : Int} (h : djbk σ j) (k : Nat) (hk : (16 * k : Int) < dall σ j) : dspl σ j (0 + 16 * k) (if dall σ j ≤ 0 + 16 * k + 16 then dall σ j else 0 + 16 * k + 16) = OUTk (dprg σ (3 * j)) (dprg σ (3 * j + 1)) (recD σ j) k := by
  have hl := recD_len h
  unfold dspl OUTk
  congr 1
  rw [Int.zero_add]
  split
  next e =>
    have e1 : (dall σ j - 16 * k).toNat = (recD σ j).length - 16 * k := by omega
    have := drecs_e h (16 * k) ((recD σ j).length - 16 * k) (by omega)
    rw [show ((16 * k : Nat) : Int) = 16 * k by omega] at this
    rw [e1, this, List.take_of_length_le (by rw [List.length_drop]; omega), List.take_of_length_le (by rw [List.length_drop]; omega)]
  next e =>
    have := drecs_e h (16 * k) 16 (by omega)
    rw [show ((16 * k : Nat) : Int) = 16 * k by omega] at this
    rw [show ((16 : Int) * k + 16 - 16 * k).toNat = 16 by omega, this]
theorem dprs_e {σ : qS} {j : Int} (h : djbk σ j) : dprs σ j = PRS (dprg σ (3 * j)) (dprg σ (3 * j + 1)) (recD σ j) := by
  have hl := recD_len h
  unfold dprs PRS dsps nSp
  rw [show ((dall σ j + 15) / 16).toNat = ((recD σ j).length + 15) / 16 by omega]
  congr 1
  apply List.map_congr_left
  intro k hk
  have := List.mem_range.mp hk
  exact dspl_e h k (by omega)
theorem dout_e {σ : qS} {j : Int} (h : djbk σ j) : dout σ j = JO (dprg σ (3 * j)) (dprg σ (3 * j + 1)) (dprg σ (3 * j + 2)) (σ 111 j) (recD σ j) := by
  unfold dout JO
  rw [dprs_e h]
  cases PRS (dprg σ (3 * j)) (dprg σ (3 * j + 1)) (recD σ j) with
  | none => rfl
  | some L =>
    simp only
    have e : dred σ j L 0 (σ 111 j).toNat = ocat ((List.range (σ 111 j).toNat).map (PAR (dprg σ (3 * j + 2)) (σ 111 j) L)) := by
      unfold dred
      congr 1
      apply List.map_congr_left
      intro p _
      rw [Nat.zero_add]; rfl
    rw [e]
    split
    · rfl
    · cases ocat ((List.range (σ 111 j).toNat).map (PAR (dprg σ (3 * j + 2)) (σ 111 j) L)) <;> rfl
def runF (jf : Int → (Int → List Pr) → Option (List Pr)) (ot : Int → Int) : List Int → (Int → List Pr) → Int × (Int → List Pr)
  | [], FS => (-1, FS)
  | j :: t, FS => match jf j FS with
    | none => (j, FS)
    | some O => runF jf ot t (fun f => if f = ot j then O else FS f)
def jfD (σ : qS) (j : Int) (FS : Int → List Pr) : Option (List Pr) := JO (dprg σ (3 * j)) (dprg σ (3 * j + 1)) (dprg σ (3 * j + 2)) (σ 111 j) (FS (σ 108 j) ++ (if σ 109 j < 0 then [] else FS (σ 109 j)))
def jfM (σ : qS) (j : Int) (FS : Int → List Pr) : Option (List Pr) := JO (prg σ (j * 3)) (prg σ (j * 3 + 1)) (prg σ (j * 3 + 2)) (σ 13 j) (FS (σ 10 j) ++ (if σ 11 j < 0 then [] else FS (σ 11 j)))
theorem jfD_e {σ : qS} {j : Int} (h : djbk σ j) : dout σ j = jfD σ j (fD σ) := dout_e h
theorem dwo_fs {σ σ' : qS} {f : Int} {O : List Pr} (h : dwo σ f O σ') (hf : 0 ≤ f ∧ f < 16) (hO : O.length ≤ 300) (hs : ∀ x, 0 ≤ x → x < 16 → 0 ≤ σ 102 x ∧ σ 102 x ≤ 300) : fD σ' = fun x => if x = f then O else fD σ x := by
  obtain ⟨h1, h2, h3, h4⟩ := h
  funext x
  by_cases e : x = f
  · subst e
    rw [if_pos rfl, fD_i hf, h2, if_pos rfl, Int.toNat_natCast]
    exact h4
  · rw [if_neg e]
    unfold fD
    by_cases hx : 0 ≤ x ∧ x < 16
    · rw [if_pos hx, if_pos hx, h2, if_neg e]
      have := hs x hx.1 hx.2
      exact row_keep (fun i i0 i1 => h3 i (by omega))
    · rw [if_neg hx, if_neg hx]
theorem jfD_k {σ σ' : qS} (h : F_dwo σ σ') : jfD σ' = jfD σ := by
  funext j FS
  unfold jfD
  rw [dprg_keep _ (h _ (by decide)) (h _ (by decide)) (h _ (by decide)), dprg_keep _ (h _ (by decide)) (h _ (by decide)) (h _ (by decide)), dprg_keep _ (h _ (by decide)) (h _ (by decide)) (h _ (by decide)), h 111 (by decide), h 108 (by decide), h 109 (by decide)]
theorem F_dwk.wo {σ σ' : qS} (h : F_dwk σ σ') : F_dwo σ σ' := fun q hq => h q (fun e => hq (by simp only [List.mem_cons, List.not_mem_nil, or_false] at e ⊢; omega))
theorem F_dwo.tr {σ σ1 σ2 : qS} (h : F_dwo σ σ1) (h' : F_dwo σ1 σ2) : F_dwo σ σ2 := fun k hk => (h' k hk).trans (h k hk)
def ordL (σ : qS) (k : Int) (n : Nat) : List Int := (List.range n).map (fun i : Nat => σ 112 (k + i))
theorem ordL_s (σ : qS) (k : Int) (n : Nat) : ordL σ k (n + 1) = σ 112 k :: ordL σ (k + 1) n := by
  unfold ordL
  rw [List.range_succ_eq_map, List.map_cons, List.map_map]
  congr 1
  · simp
  · apply List.map_congr_left
    intro i _
    show σ 112 _ = σ 112 _
    congr 1
    simp; omega
theorem dfr_run : ∀ (n : Nat) (k : Int) (σ : qS) (r : Int) (σ' : qS), dfr n k σ r σ' → (∀ x, k ≤ x → x < k + n → P_D_worked (σ 112 x) σ) → (∀ x, 0 ≤ x → x < 16 → 0 ≤ σ 102 x ∧ σ 102 x ≤ 300) → (r, fD σ') = runF (jfD σ) (σ 110) (ordL σ k n) (fD σ) ∧ F_dwo σ σ' ∧ ∀ x, 0 ≤ x → x < 16 → 0 ≤ σ' 102 x ∧ σ' 102 x ≤ 300
  | 0, k, σ, r, σ', h, _, hs => by
    obtain ⟨rfl, rfl⟩ := h
    exact ⟨rfl, fun _ _ => rfl, hs⟩
  | n + 1, k, σ, r, σ', h, hP, hs => by
    have hj := hP k (by omega) (by omega)
    rw [ordL_s, runF]
    rcases h with ⟨h1, rfl, h3⟩ | ⟨O, σ1, h1, hO, h2, h3⟩
    · rw [jfD_e hj.1] at h1
      rw [h1]
      have e : fD σ' = fD σ := by
        funext x; unfold fD row; rw [h3 100 (by decide), h3 101 (by decide), h3 102 (by decide)]
      exact ⟨by simp only [e], h3.wo, by rw [h3 102 (by decide)]; exact hs⟩
    · have h1' := h1
      rw [jfD_e hj.1] at h1
      rw [h1]
      simp only
      have hs1 : ∀ x, 0 ≤ x → x < 16 → 0 ≤ σ1 102 x ∧ σ1 102 x ≤ 300 := fun x x0 x1 => by
        rw [h2.2.1]
        split
        · omega
        · exact hs x x0 x1
      obtain ⟨g1, g2, g3⟩ := dfr_run n (k + 1) σ1 r σ' h3 (fun x x0 x1 => by rw [h2.1 112 (by decide)]; exact dwo_P h2 hO (hP x (by omega) (by omega))) hs1
      refine ⟨?_, h2.1.tr g2, g3⟩
      rw [g1, jfD_k h2.1, h2.1 110 (by decide), dwo_fs h2 hj.2.2.2 hO hs]
      unfold ordL
      rw [h2.1 112 (by decide)]

