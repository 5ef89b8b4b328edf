-- ASKs that will be heard while a split is undone
def mAk (e : Int) (x : Ms) : Prop := x.1 = 6 ∧ xw x 1 = e ∧ xw x 0 = 1
def mDn (e : Int) (x : Ms) (j : Int) : Prop := x.1 = 6 ∧ xw x 1 = e ∧ xw x 0 = 3 ∧ xw x 3 = j
noncomputable def dz (e : Int) : (Int → Prop) → List Ms → Nat
  | _, [] => 0
  | S, x :: L => (@ite Nat (mAk e x ∧ ∃ k, S k) (Classical.propDecidable _) 1 0) + dz e (fun k => S k ∧ ¬ mDn e x k) L
theorem dz_m (e : Int) : ∀ (L : List Ms) (S S' : Int → Prop), (∀ k, S k → S' k) → dz e S L ≤ dz e S' L
  | [], _, _, _ => Nat.le_refl _
  | x :: L, S, S', hs => by
    have a := dz_m e L (fun k => S k ∧ ¬ mDn e x k) (fun k => S' k ∧ ¬ mDn e x k) (fun k q => ⟨hs k q.1, q.2⟩)
    simp only [dz]
    by_cases c : mAk e x ∧ ∃ k, S k
    · obtain ⟨c1, k, ck⟩ := c
      rw [if_pos ⟨c1, k, ck⟩, if_pos ⟨c1, k, hs k ck⟩]
      omega
    · rw [if_neg c]
      omega
theorem dz_0 (e : Int) : ∀ (L : List Ms) (S : Int → Prop), (∀ k, ¬ S k) → dz e S L = 0
  | [], _, _ => rfl
  | x :: L, S, hs => by
    simp only [dz]
    rw [if_neg (fun q => by obtain ⟨-, k, ck⟩ := q; exact hs k ck), dz_0 e L _ (fun k q => hs k q.1)]
theorem dz_a (e : Int) (z : Ms) : ∀ (L : List Ms) (S : Int → Prop), dz e S L ≤ dz e S (L ++ [z])
  | [], _ => Nat.zero_le _
  | x :: L, S => by
    have a := dz_a e z L (fun k => S k ∧ ¬ mDn e x k)
    simp only [dz, List.cons_append]
    omega
theorem dz_a1 (e : Int) (z : Ms) (hz : mAk e z) (k : Int) : ∀ (L : List Ms) (S : Int → Prop), S k → (∀ x ∈ L, ¬ mDn e x k) → dz e S L + 1 ≤ dz e S (L ++ [z])
  | [], S, hk, _ => by
    simp only [dz, List.nil_append]
    rw [if_pos ⟨hz, k, hk⟩]
    omega
  | x :: L, S, hk, hd => by
    have a := dz_a1 e z hz k L (fun k => S k ∧ ¬ mDn e x k) ⟨hk, hd x List.mem_cons_self⟩ (fun y hy => hd y (List.mem_cons_of_mem _ hy))
    simp only [dz, List.cons_append]
    omega
theorem dz_e (e : Int) : ∀ (L : List Ms) (S : Int → Prop) (i : Nat) (x : Ms), L[i]? = some x → dz e S L ≤ dz e S (L.eraseIdx i) + (@ite Nat (mAk e x) (Classical.propDecidable _) 1 0)
  | [], _, i, x, hx => by simp at hx
  | y :: L, S, 0, x, hx => by
    have e1 : y = x := by simpa using hx
    subst e1
    have a := dz_m e L (fun k => S k ∧ ¬ mDn e y k) S (fun k q => q.1)
    simp only [dz, List.eraseIdx_cons_zero]
    by_cases c : mAk e y
    · rw [if_pos c]
      split <;> omega
    · rw [if_neg c, if_neg (fun q => c q.1)]
      omega
  | y :: L, S, i + 1, x, hx => by
    have a := dz_e e L (fun k => S k ∧ ¬ mDn e y k) i x (by simpa using hx)
    simp only [dz, List.eraseIdx_cons_succ]
    omega
theorem dz_t (e : Int) (L : List Ms) (S : Int → Prop) : dz e S L + (tl95 L).countP t12 ≤ dz e S (tl95 L) + L.countP t12 := by
  unfold tl95
  by_cases c : 95 ≤ L.length
  · rw [if_pos c]
    cases L with
    | nil => simp at c
    | cons x L =>
      have a := dz_e e (x :: L) S 0 x rfl
      have p := cp_er t12 (x :: L) 0 x rfl
      by_cases d : mAk e x
      · rw [if_pos d] at a
        rw [if_pos (by unfold t12; rw [d.2.2]; rfl)] at p
        omega
      · rw [if_neg d] at a
        omega
  · rw [if_neg c]
    exact Nat.le_refl _
-- the first letter for the master is a DONE of split j
theorem dz_d (e j : Int) : ∀ (L : List Ms) (S : Int → Prop) (i : Nat) (x : Ms), L.findIdx? (fun m => m.1 == 6) = some i → L[i]? = some x → mDn e x j → dz e S L ≤ dz e (fun k => S k ∧ k ≠ j) (L.eraseIdx i)
  | [], _, i, x, hx, _, _ => by simp at hx
  | y :: L, S, i, x, hx, hg, hd => by
    rw [List.findIdx?_cons] at hx
    by_cases c : (y.1 == 6) = true
    · rw [if_pos c] at hx
      have ei := Option.some.inj hx
      subst ei
      have e1 : y = x := by simpa using hg
      subst e1
      simp only [dz, List.eraseIdx_cons_zero]
      rw [if_neg (fun q => by have := q.1.2.2; have := hd.2.2.1; omega)]
      have a := dz_m e L (fun k => S k ∧ ¬ mDn e y k) (fun k => S k ∧ k ≠ j) (fun k q => ⟨q.1, fun ek => q.2 (by rw [ek]; exact hd)⟩)
      omega
    · rw [if_neg c] at hx
      have n6 : y.1 ≠ 6 := fun q => c (by rw [q]; rfl)
      cases ei : L.findIdx? (fun m => m.1 == 6) with
      | none => rw [ei] at hx; simp at hx
      | some i' =>
        rw [ei] at hx
        have e2 : i = i' + 1 := by simpa using hx.symm
        subst e2
        have a := dz_d e j L (fun k => S k ∧ ¬ mDn e y k) i' x ei (by simpa using hg) hd
        simp only [dz, List.eraseIdx_cons_succ]
        rw [if_neg (fun q => n6 q.1.1), if_neg (fun q => n6 q.1.1)]
        have b := dz_m e (L.eraseIdx i') (fun k => (S k ∧ ¬ mDn e y k) ∧ k ≠ j) (fun k => (S k ∧ k ≠ j) ∧ ¬ mDn e y k) (fun k q => ⟨⟨q.1.1, q.2⟩, q.1.2⟩)
        omega
def uns (σ : qS) (k : Int) : Prop := (0 ≤ k ∧ k < spl σ) ∧ σ 33 k = -1
noncomputable def dm (σ : qS) : Nat := dz (σ 31 0) (uns σ) (ln σ)
theorem uns_m {σ : qS} (h : mapd σ) : dm σ = 0 := dz_0 _ _ _ (fun k q => h k q.1.1 q.1.2 q.2)
theorem dm_k {σ σ' : qS} (h1 : σ' 31 = σ 31) (h2 : σ' 33 = σ 33) (h3 : spl σ' = spl σ) (L : List Ms) : dz (σ' 31 0) (uns σ') L = dz (σ 31 0) (uns σ) L := by
  have : uns σ' = uns σ := by funext k; unfold uns; rw [h2, h3]
  rw [h1, this]

