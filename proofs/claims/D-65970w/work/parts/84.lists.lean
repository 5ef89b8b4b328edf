theorem ldoes_key {key o a : Int} {l : List Int} {c : Int → Int} {vs : List Int} {em : List Pr} {x : List Int × (Int → Int) × List Int × List Pr} (h : ldoes 1 key o a l c vs em = some x) (he : ∀ y ∈ em, y.1 = key) : ∀ y ∈ x.2.2.2, y.1 = key := by
  have fin : ∀ {p : List Int} {q : Int → Int} {r : List Int}, some (p, q, r, em) = some x → ∀ y ∈ x.2.2.2, y.1 = key := fun e => by
    have := Option.some.inj e
    subst this
    exact he
  unfold ldoes at h
  split at h
  · split at h
    · exact fin h
    · cases h
  split at h
  · split at h
    · exact fin h
    · cases h
  split at h
  · cases vs with
    | nil => cases h
    | cons v t =>
      simp only at h
      split at h
      · exact fin h
      · cases h
  split at h
  · split at h
    · exact fin h
    · cases h
  split at h
  · split at h
    · exact fin h
    · cases h
  split at h
  · cases l with
    | nil => cases h
    | cons v t => exact fin h
  split at h
  · cases l with
    | nil => cases h
    | cons v t =>
      simp only at h
      split at h
      · exact fin h
      · cases h
  split at h
  · cases l with
    | nil => cases h
    | cons v t => exact fin h
  split at h
  · cases l with
    | nil => cases h
    | cons v t => cases t with
      | nil => cases h
      | cons v2 t2 => exact fin h
  cases l with
  | nil => simp [memit] at h
  | cons v t =>
    simp only [memit, if_true] at h
    split at h
    · cases h
    · have := Option.some.inj h
      subst this
      intro y hy
      rcases List.mem_append.mp hy with hy | hy
      · exact he y hy
      · rw [List.mem_singleton] at hy
        rw [hy]
theorem lrun_key {g : Prg} {key : Int} : ∀ (n : Nat) (at_ : Int) (l : List Int) (c : Int → Int) (vs : List Int) (em r : List Pr), (∀ x ∈ em, x.1 = key) → lrun g 1 key n at_ l c vs em = some r → ∀ x ∈ r, x.1 = key
  | 0, at_, l, c, vs, em, r, he, h => by
    rw [lrun] at h
    split at h
    · exact Option.some.inj h ▸ he
    · cases h
  | n + 1, at_, l, c, vs, em, r, he, h => by
    rw [lrun_s] at h
    split at h
    · exact Option.some.inj h ▸ he
    split at h
    · exact Option.some.inj h ▸ he
    split at h
    · exact lrun_key n _ _ _ _ _ _ he h
    split at h
    · cases l with
      | nil => cases h
      | cons v t => exact lrun_key n _ _ _ _ _ _ he h
    split at h
    · revert h
      cases mcomp (g.1 at_) l with
      | none => intro h; cases h
      | some l2 => intro h; exact lrun_key n _ _ _ _ _ _ he h
    · revert h
      cases hd : ldoes 1 key (g.1 at_) (g.2.1 at_) l c vs em with
      | none => intro h; cases h
      | some x => intro h; exact lrun_key n _ _ _ _ _ _ (ldoes_key hd he) h
theorem lcall_key {g : Prg} {key : Int} {vs : List Int} {r : List Pr} (h : lcall g 1 key vs = some r) : ∀ x ∈ r, x.1 = key := lrun_key 400 0 _ _ _ [] r (fun x hx => by cases hx) h
theorem gmap_srt {f : Int → List Int → Option (List Pr)} (hf : ∀ k vs e, f k vs = some e → ∀ x ∈ e, x.1 = k) : ∀ (n : Nat) (l o : List Pr), srtd l → gmap f n l = some o → srtd o ∧ ∀ x ∈ o, ∃ y ∈ l, x.1 = y.1
  | 0, l, o, hs, h => by
    rw [gmap] at h
    have := Option.some.inj h
    subst this
    exact ⟨List.Pairwise.nil, fun x hx => by cases hx⟩
  | n + 1, [], o, hs, h => by
    rw [gmap] at h
    have := Option.some.inj h
    subst this
    exact ⟨List.Pairwise.nil, fun x hx => by cases hx⟩
  | n + 1, x :: t, o, hs, h => by
    rw [gmap] at h
    have hs' := List.pairwise_cons.mp hs
    cases he : f x.1 (x.2 :: (t.takeWhile (fun p => p.1 == x.1)).map (fun p => p.2)) with
    | none => rw [he] at h; cases h
    | some e =>
      rw [he] at h
      simp only at h
      cases hb : gmap f n (t.dropWhile (fun p => p.1 == x.1)) with
      | none => rw [hb] at h; cases h
      | some b =>
        rw [hb] at h
        have := Option.some.inj h
        subst this
        have hsub : List.Sublist (t.dropWhile (fun p => p.1 == x.1)) t := List.dropWhile_sublist _
        obtain ⟨i1, i2⟩ := gmap_srt hf n _ b (hs'.2.sublist hsub) hb
        have hk := hf _ _ _ he
        refine ⟨List.pairwise_append.mpr ⟨?_, i1, fun a ha c hc => ?_⟩, fun a ha => ?_⟩
        · refine List.Pairwise.imp_of_mem (R := fun _ _ => True) (fun {a b} ha hb _ => ?_) (List.pairwise_of_forall (fun _ _ => trivial))
          rw [hk a ha, hk b hb]; exact Int.le_refl _
        · rw [hk a ha]
          obtain ⟨y, hy, ey⟩ := i2 c hc
          rw [ey]
          exact hs'.1 y (hsub.subset hy)
        · rcases List.mem_append.mp ha with ha | ha
          · exact ⟨x, List.mem_cons_self, hk a ha⟩
          · obtain ⟨y, hy, ey⟩ := i2 a ha
            exact ⟨y, List.mem_cons_of_mem _ (hsub.subset hy), ey⟩
theorem splo_srt {mp cp : Prg} {recs o : List Pr} (h : splo mp cp recs = some o) : srtd o := by
  unfold splo at h
  cases hE : ocat (recs.map (fun r => lcall mp 0 r.1 [r.2])) with
  | none => rw [hE] at h; cases h
  | some E =>
    rw [hE] at h
    simp only at h
    split at h
    · have := Option.some.inj h
      subst this
      exact (srt_SS E).1
    · exact (gmap_srt (fun k vs e he => lcall_key he) _ _ _ (srt_SS E).1 h).1
theorem dw_ne {x : Pr} : ∀ {t : List Pr}, srtd (x :: t) → ∀ y ∈ t.dropWhile (fun p => p.1 == x.1), y.1 ≠ x.1
  | [], _, y, hy => by simp at hy
  | z :: t, h, y, hy => by
    have h' := List.pairwise_cons.mp h
    have h2 := List.pairwise_cons.mp h'.2
    rw [List.dropWhile_cons] at hy
    by_cases e : z.1 = x.1
    · rw [if_pos (by simpa using e)] at hy
      exact dw_ne (List.pairwise_cons.mpr ⟨fun a ha => h'.1 a (List.mem_cons_of_mem _ ha), h2.2⟩) y hy
    · rw [if_neg (by simpa using e)] at hy
      have hz := h'.1 z List.mem_cons_self
      rcases List.mem_cons.mp hy with rfl | hy
      · exact e
      · have := h2.1 y hy; omega
theorem tw_eq {x : Pr} {t : List Pr} : ∀ y ∈ t.takeWhile (fun p => p.1 == x.1), y.1 = x.1 := by
  induction t with
  | nil => intro y hy; simp at hy
  | cons z t ih =>
    intro y hy
    rw [List.takeWhile_cons] at hy
    by_cases e : z.1 = x.1
    · rw [if_pos (by simpa using e)] at hy
      rcases List.mem_cons.mp hy with rfl | hy
      · exact e
      · exact ih y hy
    · rw [if_neg (by simpa using e)] at hy; cases hy
theorem gmapf_flt {f : Int → List Int → Option (List Pr)} {P : Int → Bool} : ∀ (n : Nat) (l : List Pr), srtd l → l.length ≤ n → gmapf f P n l = gmap f n (l.filter (fun x => P x.1))
  | 0, l, _, h => by rw [gmapf, gmap]
  | n + 1, [], _, _ => by rw [gmapf]; rfl
  | n + 1, x :: t, hs, h => by
    have hs' := List.pairwise_cons.mp hs
    have hsub : List.Sublist (t.dropWhile (fun p => p.1 == x.1)) t := List.dropWhile_sublist _
    have ht : t = t.takeWhile (fun p => p.1 == x.1) ++ t.dropWhile (fun p => p.1 == x.1) := (List.takeWhile_append_dropWhile).symm
    have hl := hsub.length_le
    simp only [List.length_cons] at h
    have ih := gmapf_flt (f := f) (P := P) n (t.dropWhile (fun p => p.1 == x.1)) (hs'.2.sublist hsub) (by omega)
    have hne : ∀ y ∈ (t.dropWhile (fun p => p.1 == x.1)).filter (fun x => P x.1), y.1 ≠ x.1 := fun y hy => dw_ne hs y (List.mem_filter.mp hy).1
    have hfl : ((t.dropWhile (fun p => p.1 == x.1)).filter (fun x => P x.1)).length ≤ n := Nat.le_trans (List.length_filter_le _ _) (by omega)
    have hft : t.filter (fun x => P x.1) = (t.takeWhile (fun p => p.1 == x.1)).filter (fun x => P x.1) ++ (t.dropWhile (fun p => p.1 == x.1)).filter (fun x => P x.1) := by
      rw [← List.filter_append, ← ht]
    generalize hD : (t.dropWhile (fun p => p.1 == x.1)).filter (fun x => P x.1) = D at *
    rw [gmapf, List.filter_cons]
    by_cases hP : P x.1 = true
    · rw [if_pos hP, if_pos hP, gmap]
      have e1 : (t.takeWhile (fun p => p.1 == x.1)).filter (fun x => P x.1) = t.takeWhile (fun p => p.1 == x.1) := List.filter_eq_self.mpr (fun y hy => by rw [tw_eq y hy]; exact hP)
      rw [e1] at hft
      have tD : D.takeWhile (fun p => p.1 == x.1) = [] ∧ D.dropWhile (fun p => p.1 == x.1) = D := by
        cases D with
        | nil => exact ⟨rfl, rfl⟩
        | cons d D2 =>
          have := hne d List.mem_cons_self
          rw [List.takeWhile_cons, List.dropWhile_cons, if_neg (by simpa using this), if_neg (by simpa using this)]
          exact ⟨rfl, rfl⟩
      have e2 : (t.filter (fun x => P x.1)).takeWhile (fun p => p.1 == x.1) = t.takeWhile (fun p => p.1 == x.1) := by
        rw [hft, List.takeWhile_append_of_pos (fun y hy => by simpa using tw_eq y hy), tD.1, List.append_nil]
      have e3 : (t.filter (fun x => P x.1)).dropWhile (fun p => p.1 == x.1) = D := by
        rw [hft, List.dropWhile_append_of_pos (fun y hy => by simpa using tw_eq y hy), tD.2]
      rw [e2, e3, ih]
      cases f x.1 (x.2 :: (t.takeWhile (fun p => p.1 == x.1)).map (fun p => p.2)) <;> rfl
    · rw [if_neg hP, if_neg hP, ih]
      have e1 : (t.takeWhile (fun p => p.1 == x.1)).filter (fun x => P x.1) = [] := List.filter_eq_nil_iff.mpr (fun y hy => by rw [tw_eq y hy]; exact hP)
      rw [hft, e1, List.nil_append]
      exact gmap_fuel _ _ _ (by omega) (by omega)
theorem srt_flt (P : Int → Bool) (L : List Pr) : (srt L).filter (fun x => P x.1) = srt (L.filter (fun x => P x.1)) := by
  apply srt_eq
  have h := srt_SS L
  refine ⟨h.1.sublist List.filter_sublist, fun k => ?_⟩
  have key : ∀ l : List Pr, fk k (l.filter (fun x => P x.1)) = (fk k l).filter (fun x => P x.1) := fun l => by
    unfold fk; rw [List.filter_filter, List.filter_filter]; apply List.filter_congr; intro x _; rw [Bool.and_comm]
  rw [key, key, h.2 k]
theorem ocat_s : ∀ {l : List (Option (List Pr))} {L : List Pr}, ocat l = some L → (∀ x ∈ l, ∃ a, x = some a) ∧ L = (l.map (fun o => o.getD [])).flatten
  | [], L, h => by
    rw [ocat] at h
    exact ⟨fun x hx => (by cases hx), (Option.some.inj h).symm⟩
  | none :: t, L, h => by rw [ocat] at h; cases h
  | some a :: t, L, h => by
    rw [ocat] at h
    cases hb : ocat t with
    | none => rw [hb] at h; cases h
    | some b =>
      rw [hb] at h
      have := Option.some.inj h
      subst this
      obtain ⟨i1, i2⟩ := ocat_s hb
      refine ⟨fun x hx => ?_, by rw [i2]; rfl⟩
      rcases List.mem_cons.mp hx with rfl | hx
      · exact ⟨a, rfl⟩
      · exact i1 x hx
theorem ocat_i : ∀ {l : List (Option (List Pr))}, (∀ x ∈ l, ∃ a, x = some a) → ocat l = some ((l.map (fun o => o.getD [])).flatten)
  | [], _ => rfl
  | x :: t, h => by
    obtain ⟨a, rfl⟩ := h x List.mem_cons_self
    rw [ocat, ocat_i (fun y hy => h y (List.mem_cons_of_mem _ hy))]
    rfl
theorem ocat_n {l : List (Option (List Pr))} (h : none ∈ l) : ocat l = none := by
  cases hb : ocat l with
  | none => rfl
  | some b => obtain ⟨a, e⟩ := (ocat_s hb).1 _ h; cases e
theorem PRS_n {mp cp : Prg} {recs : List Pr} {k : Nat} (hk : k < nSp recs) (h : OUTk mp cp recs k = none) : PRS mp cp recs = none := ocat_n (List.mem_map.mpr ⟨k, List.mem_range.mpr hk, h⟩)
theorem PRS_s {mp cp : Prg} {recs L : List Pr} (h : PRS mp cp recs = some L) : (∀ k, k < nSp recs → ∃ o, OUTk mp cp recs k = some o) ∧ L = ((List.range (nSp recs)).map (fun k => (OUTk mp cp recs k).getD [])).flatten := by
  obtain ⟨h1, h2⟩ := ocat_s h
  refine ⟨fun k hk => h1 _ (List.mem_map.mpr ⟨k, List.mem_range.mpr hk, rfl⟩), ?_⟩
  rw [h2, List.map_map]; rfl
theorem PRS_i {mp cp : Prg} {recs : List Pr} (h : ∀ k, k < nSp recs → ∃ o, OUTk mp cp recs k = some o) : PRS mp cp recs = some ((List.range (nSp recs)).map (fun k => (OUTk mp cp recs k).getD [])).flatten := by
  have := ocat_i (l := (List.range (nSp recs)).map (OUTk mp cp recs)) (fun x hx => by
    obtain ⟨k, hk, e⟩ := List.mem_map.mp hx
    obtain ⟨o, ho⟩ := h k (List.mem_range.mp hk)
    exact ⟨o, by rw [← e, ho]⟩)
  unfold PRS
  rw [this, List.map_map]; rfl
theorem flat_s {α : Type} (g : Nat → List α) (n : Nat) : ((List.range (n + 1)).map g).flatten = ((List.range n).map g).flatten ++ g n := by
  rw [List.range_succ, List.map_append, List.flatten_append]; simp
theorem flat_len (g : Nat → List Pr) : ∀ n : Nat, ((((List.range n).map g).flatten).length : Int) = ssum (fun k => ((g k.toNat).length : Int)) n
  | 0 => rfl
  | n + 1 => by
    rw [flat_s, ssum, ← flat_len g n, List.length_append, Int.toNat_natCast]; omega
theorem flat_flt {α : Type} (g : Nat → List α) (P : α → Bool) : ∀ n : Nat, ((List.range n).map (fun k => (g k).filter P)).flatten = (((List.range n).map g).flatten).filter P
  | 0 => rfl
  | n + 1 => by rw [flat_s, flat_s, flat_flt g P n, List.filter_append]
theorem ssum_mono {f g : Int → Int} : ∀ n : Nat, (∀ i : Int, 0 ≤ i → i < n → f i ≤ g i) → ssum f n ≤ ssum g n
  | 0, _ => Int.le_refl _
  | n + 1, h => by
    have := ssum_mono n (fun i h0 h1 => h i h0 (by omega))
    have h2 := h n (by omega) (by omega)
    rw [ssum, ssum]; omega
theorem ssum_one {f g : Int → Int} {t : Int} : ∀ n : Nat, (∀ i : Int, 0 ≤ i → i < n → f i ≤ g i) → 0 ≤ t → t < n → f t = 0 → ssum f n + g t ≤ ssum g n
  | 0, _, h0, h1, _ => by omega
  | n + 1, h, h0, h1, ht => by
    have h2 := h n (by omega) (by omega)
    rw [ssum, ssum]
    by_cases e : t = n
    · subst e
      have := ssum_mono n (fun i h0 h1 => h i h0 (by omega))
      omega
    · have := ssum_one n (fun i h0 h1 => h i h0 (by omega)) h0 (by omega) ht
      omega
theorem ssum_up {f : Int → Int} {n : Nat} : ∀ m : Nat, (∀ i : Int, n ≤ i → i < n + m → f i = 0) → ssum f (n + m) = ssum f n
  | 0, _ => rfl
  | m + 1, h => by
    have := ssum_up m (fun i h0 h1 => h i h0 (by omega))
    have h2 := h ((n + m : Nat) : Int) (by omega) (by omega)
    rw [show n + (m + 1) = (n + m) + 1 by omega, ssum, this, h2]; omega
theorem ssum_c {f g : Int → Int} : ∀ n : Nat, (∀ i : Int, 0 ≤ i → i < n → f i = g i) → ssum f n = ssum g n
  | 0, _ => rfl
  | n + 1, h => by rw [ssum, ssum, ssum_c n (fun i h0 h1 => h i h0 (by omega)), h n (by omega) (by omega)]
theorem ssum_su {f g : Int → Int} {t v : Int} : ∀ n : Nat, (∀ i : Int, 0 ≤ i → i < n → i ≠ t → g i = f i) → 0 ≤ t → t < n → g t = f t + v → ssum g n = ssum f n + v
  | 0, _, h0, h1, _ => by omega
  | n + 1, h, h0, h1, ht => by
    rw [ssum, ssum]
    by_cases e : t = n
    · subst e
      rw [ssum_c (f := g) (g := f) n (fun i h0 h1 => h i h0 (by omega) (by omega)), ht]; omega
    · rw [ssum_su n (fun i h0 h1 => h i h0 (by omega)) h0 (by omega) ht, h n (by omega) (by omega) (fun x => e x.symm)]; omega
def recM (σ : qS) : List Pr := fM σ (σ 10 (jb σ)) ++ (if σ 11 (jb σ) < 0 then [] else fM σ (σ 11 (jb σ)))
theorem recM_len {σ : qS} (h : jobok σ) : ((recM σ).length : Int) = all_ σ := by
  obtain ⟨-, -, h2, h3, -, -, h4⟩ := h
  have s1 := h4 _ h2.1 h2.2
  unfold recM all_ rc
  rw [fM_i h2, List.length_append, row_len]
  rw [if_neg (show ¬ σ 10 (jb σ) = -1 by omega)]
  by_cases e : σ 11 (jb σ) = -1
  · rw [if_pos (show σ 11 (jb σ) < 0 by omega), if_pos e, List.length_nil]; omega
  · have s2 := h4 (σ 11 (jb σ)) (by omega) h3.2
    rw [if_neg (show ¬ σ 11 (jb σ) < 0 by omega), if_neg e, fM_i ⟨by omega, h3.2⟩, row_len]; omega
theorem recM_at {σ : qS} (h : jobok σ) (i : Nat) (hi : (i : Int) < all_ σ) : (recM σ)[i]? = some (σ 0 (rat σ i), σ 1 (rat σ i)) := by
  obtain ⟨-, -, h2, h3, -, -, h4⟩ := h
  have s1 := h4 _ h2.1 h2.2
  unfold recM
  unfold all_ rc at hi
  unfold rat
  rw [if_neg (by omega)] at hi
  rw [fM_i h2]
  by_cases e : (i : Int) < σ 2 (σ 10 (jb σ))
  · rw [if_pos e, List.getElem?_append_left (by rw [row_len]; omega), row_at (by omega)]
  · rw [if_neg e]
    by_cases e2 : σ 11 (jb σ) = -1
    · rw [if_pos e2] at hi; omega
    · rw [if_neg e2] at hi
      have s2 := h4 (σ 11 (jb σ)) (by omega) h3.2
      rw [if_neg (by omega), List.getElem?_append_right (by rw [row_len]; omega), fM_i ⟨by omega, h3.2⟩, row_len, row_at (by omega), show σ 11 (jb σ) * 300 + (((i - (σ 2 (σ 10 (jb σ))).toNat : Nat)) : Int) = σ 11 (jb σ) * 300 + i - σ 2 (σ 10 (jb σ)) by omega]
theorem spl_n {σ : qS} (h : jobok σ) : spl σ = (nSp (recM σ) : Nat) := by
  have := recM_len h
  unfold spl nSp
  omega
def OUTm (σ : qS) (k : Nat) : Option (List Pr) := OUTk (prg σ (jb σ * 3)) (prg σ (jb σ * 3 + 1)) (recM σ) k
def PRSm (σ : qS) : Option (List Pr) := PRS (prg σ (jb σ * 3)) (prg σ (jb σ * 3 + 1)) (recM σ)
def JOm (σ : qS) : Option (List Pr) := jfM σ (jb σ) (fM σ)
theorem JOm_n {σ : qS} {k : Nat} (h : jobok σ) (hk : (k : Int) < spl σ) (ho : OUTm σ k = none) : JOm σ = none := by
  have := PRS_n (k := k) (by have := spl_n h; omega) ho
  unfold JOm jfM JO
  show (match PRS _ _ (recM σ) with | none => none | some L => _) = none
  rw [this]
theorem JOm_e (σ : qS) : JOm σ = (match PRSm σ with
  | none => none
  | some L => if 1000 < L.length then none else (match ocat ((List.range (σ 13 (jb σ)).toNat).map (PAR (prg σ (jb σ * 3 + 2)) (σ 13 (jb σ)) L)) with
    | none => none
    | some O => if 300 < O.length then none else some O)) := rfl
def TOT (σ : qS) : Prop := ∃ L, PRSm σ = some L ∧ L.length ≤ 1000
def Lp (σ : qS) (p : Int) (k : Nat) : List Pr := fpt σ p ((OUTm σ k).getD [])
def pre (σ : qS) (p : Int) (i : Nat) : List Pr := ((List.range i).map (Lp σ p)).flatten
theorem pre_s (σ : qS) (p : Int) (i : Nat) : pre σ p (i + 1) = pre σ p i ++ Lp σ p i := flat_s _ _
theorem pre_le (σ : qS) (p : Int) {i : Nat} : ∀ {j : Nat}, i ≤ j → (pre σ p i).length ≤ (pre σ p j).length := by
  intro j
  induction j with
  | zero => intro h; rw [show i = 0 by omega]; exact Nat.le_refl _
  | succ j ih =>
    intro h
    by_cases e : i = j + 1
    · rw [e]; exact Nat.le_refl _
    · have := ih (by omega)
      rw [pre_s, List.length_append]; omega
theorem pre_all {σ : qS} (h : jobok σ) {L : List Pr} (hL : PRSm σ = some L) (p : Int) : pre σ p (spl σ).toNat = fpt σ p L := by
  have := (PRS_s hL).2
  rw [this, spl_n h, Int.toNat_natCast]
  unfold pre Lp fpt
  exact flat_flt _ _ _
theorem pre_1000 {σ : qS} (h : jobok σ) (hT : TOT σ) (p : Int) {i : Nat} (hi : (i : Int) ≤ spl σ) : (pre σ p i).length ≤ 1000 := by
  obtain ⟨L, h1, h2⟩ := hT
  have := pre_le σ p (i := i) (j := (spl σ).toNat) (by omega)
  rw [pre_all h h1] at this
  have h3 : (fpt σ p L).length ≤ L.length := List.length_filter_le _ _
  omega
theorem OUT_srt {σ : qS} {k : Nat} {o : List Pr} (h : OUTm σ k = some o) : srtd o := splo_srt h
theorem Lp_srt {σ : qS} {k : Nat} {p : Int} {o : List Pr} (h : OUTm σ k = some o) : srtd (Lp σ p k) := by
  unfold Lp fpt
  rw [h]
  exact (OUT_srt h).sublist List.filter_sublist
theorem rdc_e {σ : qS} (L : List Pr) (p : Int) (hp : 0 ≤ p) : rdc σ (fpt σ p L) = PAR (prg σ (jb σ * 3 + 2)) (σ 13 (jb σ)) L p.toNat := by
  unfold rdc PAR fpt prt
  rw [show ((p.toNat : Nat) : Int) = p by omega, gmapf_flt _ _ (srt_SS L).1 (by rw [SS_len (srt_SS L)]; exact Nat.le_refl _), srt_flt (fun k => k % σ 13 (jb σ) == p)]
  have hl := SS_len (srt_SS (L.filter (fun x => x.1 % σ 13 (jb σ) == p)))
  exact gmap_fuel _ _ _ (by omega) (by rw [hl]; exact List.length_filter_le _ _)
theorem rec_take {σ : qS} (h : jobok σ) {t s : Nat} (hi : ((16 * t + s : Nat) : Int) < all_ σ) : ((recM σ).drop (16 * t)).take (s + 1) = ((recM σ).drop (16 * t)).take s ++ [(σ 0 (rat σ ((16 * t + s : Nat) : Int)), σ 1 (rat σ ((16 * t + s : Nat) : Int)))] := by
  rw [List.take_add_one, List.getElem?_drop, recM_at h _ hi]; rfl
def MPE (σ : qS) (t s : Nat) : Option (List Pr) := ocat ((((recM σ).drop (16 * t)).take s).map (fun r => lcall (prg σ (jb σ * 3)) 0 r.1 [r.2]))
theorem MPE_s {σ : qS} (h : jobok σ) {t s : Nat} (hi : ((16 * t + s : Nat) : Int) < all_ σ) {E : List Pr} (hE : MPE σ t s = some E) : MPE σ t (s + 1) = (mrec σ ((16 * t + s : Nat) : Int)).map (fun y => E ++ y) := by
  unfold MPE at *
  rw [rec_take h hi, List.map_append, ocat_app, hE]
  unfold mrec
  show (ocat [lcall (prg σ (jb σ * 3)) 0 (σ 0 (rat σ ((16 * t + s : Nat) : Int))) [σ 1 (rat σ ((16 * t + s : Nat) : Int))]]).map _ = _
  cases lcall (prg σ (jb σ * 3)) 0 (σ 0 (rat σ ((16 * t + s : Nat) : Int))) [σ 1 (rat σ ((16 * t + s : Nat) : Int))] with
  | none => rfl
  | some e => show Option.map _ (some (e ++ [])) = _; rw [List.append_nil]
theorem MPE_z (σ : qS) (t : Nat) : MPE σ t 0 = some [] := rfl
theorem MPE_e {σ : qS} (h : jobok σ) {t s : Nat} (hs : s ≤ 16) (hi : s = 16 ∨ all_ σ ≤ ((16 * t + s : Nat) : Int)) {E : List Pr} (hE : MPE σ t s = some E) : OUTm σ t = cmb σ E := by
  have e : ((recM σ).drop (16 * t)).take s = ((recM σ).drop (16 * t)).take 16 := by
    rcases hi with rfl | hi
    · rfl
    · have := recM_len h
      rw [List.take_of_length_le (by rw [List.length_drop]; omega), List.take_of_length_le (by rw [List.length_drop]; omega)]
  unfold MPE at hE
  unfold OUTm OUTk splo cmb
  rw [← e, hE]
  rfl
theorem MPE_n {σ : qS} (h : jobok σ) {t s : Nat} (hs : s < 16) (hi : ((16 * t + s : Nat) : Int) < all_ σ) {E : List Pr} (hE : MPE σ t s = some E) (hm : mrec σ ((16 * t + s : Nat) : Int) = none) : OUTm σ t = none := by
  have h1 := MPE_s h hi hE
  rw [hm] at h1
  unfold MPE at h1
  have e : ((recM σ).drop (16 * t)).take 16 = ((recM σ).drop (16 * t)).take (s + 1) ++ ((((recM σ).drop (16 * t)).drop (s + 1)).take (16 - (s + 1))) := by
    rw [← List.take_add, show s + 1 + (16 - (s + 1)) = 16 by omega]
  unfold OUTm OUTk splo
  rw [e, List.map_append, ocat_app, h1]
  rfl

