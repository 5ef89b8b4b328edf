theorem RDn_ol {w e : Int} {t t0 : Nat} {A A' : List (Ms × Nat × Nat)} (h : RDn w e t A A') (hl : A.length ≤ 95) (v : Int) : oc t0 v A ≤ oc t0 v A' + 1 := by
  unfold oc
  rcases h with ⟨-, e⟩ | ⟨j, x, -, c2, c⟩
  · rw [e]; omega
  · have p := cpA_er (fun y => decide (y.2.1 ≤ t0 ∧ y.1.1 = v)) A j x c2
    have b1 : (if (decide (x.2.1 ≤ t0 ∧ x.1.1 = v)) = true then 1 else 0) ≤ 1 := by split <;> omega
    rcases c with ⟨-, e⟩ | ⟨-, -, z, -, -, -, -, -, -, e⟩
    · rw [e]; omega
    · have jl : j < A.length := by
        apply Classical.byContradiction
        intro n
        rw [List.getElem?_eq_none (by omega)] at c2
        cases c2
      have tl : tlA (A.eraseIdx j) = A.eraseIdx j := by
        unfold tlA
        refine if_neg ?_
        rw [List.length_eraseIdx, if_pos jl]
        omega
      rw [e, tl, List.countP_append]
      omega
-- a chosen tick: three letters for the worker that were there two rounds before
def T1t (A : Nat → List (Ms × Nat × Nat)) (t : Nat) : Prop := t % 7 < 6 ∧ 3 ≤ oc (t - 14) ((t % 7 : Nat) : Int) (A t)
theorem st_95 {L s0 : Nat} {τ : Nat → qS} (hR : RNN L τ) {A : Nat → List (Ms × Nat × Nat)} {ρ : Nat → qS × qS × qS} {B : Nat → List (Ms × Nat × Nat) × List (Ms × Nat × Nat) × List (Ms × Nat × Nat)} (h : ANC L s0 τ A ρ B) {t : Nat} (h0 : 224 ≤ t) (h1 : s0 ≤ t) (h2 : t < 7 * L) (h6 : t % 7 < 6) : ∀ i, i ≤ 2 → (stA A B t i).length ≤ 95 := fun i hi => by
  have inv : ∀ i, i ≤ 2 → ER (stQ τ ρ t i) ∧ (ln (stQ τ ρ t i)).length ≤ 95 := fun i => by
    induction i with
    | zero => intro _; exact ⟨run_ER hR h0 (by omega), run_95 hR (by omega) (by omega) (by omega)⟩
    | succ i ih =>
      intro q
      obtain ⟨a1, a2⟩ := ih (by omega)
      obtain ⟨b1, b2, -⟩ := RD_rf (st_r h h1 h2 rfl h6 (by omega : i < 3)).1 a1 a2
      exact ⟨b1, b2⟩
  have p := (st_r h h1 h2 rfl h6 (by omega : i < 3)).2
  rw [← pr_len, p]
  exact (inv i hi).2
theorem T1o {L s0 : Nat} {τ : Nat → qS} (hR : RNN L τ) {A : Nat → List (Ms × Nat × Nat)} {ρ : Nat → qS × qS × qS} {B : Nat → List (Ms × Nat × Nat) × List (Ms × Nat × Nat) × List (Ms × Nat × Nat)} (h : ANC L s0 τ A ρ B) {t : Nat} (h0 : 224 ≤ t) (h1 : s0 ≤ t) (h2 : t < 7 * L) (ht : T1t A t) : ∀ i, i ≤ 2 → 3 ≤ oc (t - 14) ((t % 7 : Nat) : Int) (stA A B t i) + i
  | 0, _ => ht.2
  | i + 1, hi => by
    have ih := T1o hR h h0 h1 h2 ht i (by omega)
    have a := RDn_ol (t0 := t - 14) (st_rd h h1 h2 ht.1 (i := i) (by omega)) (st_95 hR h h0 h1 h2 ht.1 i (by omega)) ((t % 7 : Nat) : Int)
    omega
theorem T1r {L s0 : Nat} {τ : Nat → qS} (hR : RNN L τ) {A : Nat → List (Ms × Nat × Nat)} {ρ : Nat → qS × qS × qS} {B : Nat → List (Ms × Nat × Nat) × List (Ms × Nat × Nat) × List (Ms × Nat × Nat)} (h : ANC L s0 τ A ρ B) {t : Nat} (h0 : 224 ≤ t) (h1 : s0 ≤ t) (h2 : t < 7 * L) (ht : T1t A t) {i : Nat} (hi : i < 3) {y : Ms × Nat × Nat} (hy : hdA ((t % 7 : Nat) : Int) (stA A B t i) y) : y.2.1 ≤ t - 14 := by
  have o := T1o hR h h0 h1 h2 ht i (by omega)
  have lb := hd_lb (st_srt h h1 h2 ht.1 i (by omega)) hy
  unfold oc at o
  obtain ⟨x, hx, px⟩ := List.countP_pos_iff.mp (by omega : 0 < (stA A B t i).countP (fun y => decide (y.2.1 ≤ t - 14 ∧ y.1.1 = ((t % 7 : Nat) : Int))))
  have p := of_decide_eq_true px
  have := lb x hx p.2
  omega
theorem T1f {L s0 : Nat} {τ : Nat → qS} {A : Nat → List (Ms × Nat × Nat)} (h : ANR L s0 τ A) {t : Nat} (h1 : s0 ≤ t) (h2 : t ≤ 7 * L) (ht : T1t A t) : 3 ≤ cn ((t % 7 : Nat) : Int) (ln (τ t)) := by
  have a := oc_le (t - 14) ((t % 7 : Nat) : Int) (A t)
  rw [h.2.1 t h1 h2] at a
  have := ht.2
  omega
-- a FETCH that is read in such a tick was born two rounds before
theorem T1b {L s0 : Nat} {τ : Nat → qS} (hR : RNN L τ) {A : Nat → List (Ms × Nat × Nat)} {ρ : Nat → qS × qS × qS} {B : Nat → List (Ms × Nat × Nat) × List (Ms × Nat × Nat) × List (Ms × Nat × Nat)} (h : ANC L s0 τ A ρ B) {t : Nat} (h0 : 224 ≤ t) (h1 : s0 ≤ t) (h2 : t < 7 * L) (ht : T1t A t) {i b : Nat} (hi : i < 3) (hr : rdk τ A ρ B 5 t i b) : b + 14 ≤ t := by
  obtain ⟨h6, x, xb, xh, -, x5⟩ := hr
  have a := T1r hR h h0 h1 h2 ht hi xh
  have xA := st_f5 h h1 h2 h6 i (by omega) x (hd_mem xh).1 x5
  have fs := ANR_fs h.1 (t - s0) (by omega)
  rw [show s0 + (t - s0) = t by omega] at fs
  have e := fs x xA x5
  omega
-- a worker's tick without FETCH that stays a reduce lets the age grow by one
theorem sil_a {w : Int} {σ σ' : qS} (h : WTK w σ σ') (h1 : 38 ≤ σ 62 w) (h2 : 38 ≤ σ' 62 w) (hf : fe σ' w = 0) : σ' 65 w = σ 65 w + 1 := by
  obtain ⟨σ1, σ2, σ3, r1, r2, r3, a, ⟨-, -, j3, -⟩, -⟩ := h
  have e := RD_ag2 (RD_ag2 (RD_ag r1) r2) r3
  have t1 := RD_tk r1 (by omega)
  have t2 := RD_tk r2 (by omega)
  have t3 := RD_tk r3 (by omega)
  have sp := (spl_b j3.1).2
  obtain ⟨-, -, -, c⟩ := a
  rcases c with ⟨c0, -⟩ | ⟨c0, -⟩ | ⟨-, c⟩
  · omega
  · omega
  · rcases c with ⟨-, -, f, -⟩ | ⟨-, -, -, -, f, -⟩ | ⟨-, -, -, c0, -, -, -, -, -, -, c⟩ | ⟨-, -, -, -, -, c1, -, -, c, -⟩ | ⟨-, -, f, -⟩
    · have := f.1; omega
    · have := f.1; omega
    · rcases e with e | e
      · rw [c, e.2.2.1]
      · omega
    · exfalso
      unfold fe at hf
      rw [if_pos ⟨h2, c⟩] at hf
      omega
    · have := f.1; omega

