theorem to_w {L : Nat} {τ : Nat → qS} (h : RNN L τ) {t : Nat} (h1 : 224 ≤ t) (h2 : t ≤ 7 * L) {x : Ms} (hx : x ∈ ln (τ t)) (h5 : xw x 0 = 5 ∨ xw x 0 = 6 ∨ xw x 0 = 2) : 0 ≤ x.1 ∧ x.1 < 6 := by
  have l := ((h.1 t h2).1.2.2.2.2.2.2.2.1 x hx).2 (run_ER h h1 h2 x hx)
  rcases l with ⟨-, l⟩ | ⟨l, -⟩
  · rcases l with ⟨l, -⟩ | ⟨l, -⟩ | ⟨l, -⟩ | ⟨l, -⟩ <;> omega
  · exact l
def NPb (b g : Nat) (A : List (Ms × Nat × Nat)) : Prop := fbc b A = 0 ∧ ∀ y ∈ A, tokb y = true → y.2.2 = b → y.2.1 ≤ g
theorem fbc_0 {b : Nat} {A : List (Ms × Nat × Nat)} (h : fbc b A = 0) {y : Ms × Nat × Nat} (hy : y ∈ A) (h5 : xw y.1 0 = 5) : y.2.2 ≠ b := fun e => by
  unfold fbc at h
  rw [List.countP_eq_zero] at h
  exact h y hy (by rw [decide_eq_true h5, decide_eq_true e]; rfl)
theorem NPb_sub {b g : Nat} {A B : List (Ms × Nat × Nat)} (h : NPb b g A) (hs : B.Sublist A) : NPb b g B := ⟨by
  have := fbc_sub b hs
  have := h.1
  omega, fun y hy => h.2 y (hs.subset hy)⟩
theorem NPb_ap {b g : Nat} {A : List (Ms × Nat × Nat)} (h : NPb b g A) {z : Ms} {a c : Nat} (hc : c ≠ b) : NPb b g (A ++ [(z, a, c)]) := ⟨by rw [fbc_ap b A z a c hc]; exact h.1, fun y hy k e => by
  rw [List.mem_append, List.mem_singleton] at hy
  rcases hy with hy | hy
  · exact h.2 y hy k e
  · rw [hy] at e
    exact absurd e hc⟩
theorem NPb_no {b g : Nat} {A : List (Ms × Nat × Nat)} (h : NPb b g A) {z : Ms} {a c : Nat} (hz : xw z 0 ≠ 5 ∧ xw z 0 ≠ 6) : NPb b g (A ++ [(z, a, c)]) := ⟨by rw [fbc_no b A hz.1]; exact h.1, fun y hy k e => by
  rw [List.mem_append, List.mem_singleton] at hy
  rcases hy with hy | hy
  · exact h.2 y hy k e
  · exfalso
    rw [hy] at k
    rcases (tokb_i _).mp k with q | q
    · exact hz.1 q
    · exact hz.2 q⟩
theorem RDn_np {t b g : Nat} {w e : Int} {A A' : List (Ms × Nat × Nat)} (h : RDn w e t A A') (hk : NPb b g A) : NPb b g A' := by
  rcases h with ⟨-, rfl⟩ | ⟨i, y, -, c2, c⟩
  · exact hk
  · have e1 := NPb_sub hk (List.eraseIdx_sublist A i)
    rcases c with ⟨-, rfl⟩ | ⟨-, d5, z, -, -, -, -, -, -, rfl⟩
    · exact e1
    · exact NPb_ap (NPb_sub e1 (tlA_sub _)) (fbc_0 hk.1 (List.mem_of_getElem? c2) d5)
theorem HRn_np {t b g : Nat} {A A' : List (Ms × Nat × Nat)} (h : HRn t A A') (hk : NPb b g A) : NPb b g A' := by
  rcases h with ⟨-, rfl⟩ | ⟨i, y, -, -, c⟩
  · exact hk
  · have e1 := NPb_sub hk (List.eraseIdx_sublist A i)
    rcases c with rfl | ⟨z, z0, rfl⟩
    · exact e1
    · exact NPb_no (NPb_sub e1 (tlA_sub _)) ⟨by omega, by omega⟩
theorem ACn_np {t b g : Nat} (hb : b ≤ t) {A A' : List (Ms × Nat × Nat)} {s : List Ms} (h : ACn t A A' s) (hk : NPb b g A) : NPb b g A' := by
  rcases h with ⟨rfl, -⟩ | ⟨z, rfl, -⟩ | ⟨z, z', rfl, -⟩
  · exact hk
  · exact NPb_ap (NPb_sub hk (tlA_sub _)) (by omega)
  · exact NPb_ap (NPb_sub (NPb_ap (NPb_sub hk (tlA_sub _)) (by omega)) (tlA_sub _)) (by omega)
theorem ANR_np {L s0 : Nat} {τ : Nat → qS} {A : Nat → List (Ms × Nat × Nat)} (h : ANR L s0 τ A) {b g : Nat} (hb : b ≤ g) (hg : s0 ≤ g) (hk : fbc b (A g) = 0) : ∀ k, g + k ≤ 7 * L → NPb b g (A (g + k))
  | 0, hl => by
    refine ⟨hk, fun y hy _ _ => ?_⟩
    have sr := ANR_srt h (g - s0) (by omega)
    rw [show s0 + (g - s0) = g by omega] at sr
    exact sr.2 y hy
  | k + 1, hl => by
    have ih := ANR_np h hb hg hk k (by omega)
    rw [show g + (k + 1) = g + k + 1 by omega]
    rcases h.2.2 (g + k) (by omega) (by omega) with ⟨h6, σ1, σ2, σ3, A1, A2, A3, -, -, r1, r2, r3, l, a, o⟩ | ⟨-, σ1, σ2, A1, A2, -, -, -, -, r1, r2, r3⟩
    · exact ACn_np (by omega) a (RDn_np r3 (RDn_np r2 (RDn_np r1 ih)))
    · exact HRn_np r3 (HRn_np r2 (HRn_np r1 ih))
theorem st_np {L s0 : Nat} {τ : Nat → qS} {A : Nat → List (Ms × Nat × Nat)} {ρ : Nat → qS × qS × qS} {B : Nat → List (Ms × Nat × Nat) × List (Ms × Nat × Nat) × List (Ms × Nat × Nat)} (h : ANC L s0 τ A ρ B) {t : Nat} (h1 : s0 ≤ t) (h2 : t < 7 * L) (h6 : t % 7 < 6) {b g : Nat} : ∀ i, i ≤ 3 → NPb b g (A t) → NPb b g (stA A B t i)
  | 0, _, hk => hk
  | i + 1, hi, hk => RDn_np (st_rd h h1 h2 h6 (i := i) (by omega)) (st_np h h1 h2 h6 i (by omega) hk)
theorem BORN {L s0 : Nat} {τ : Nat → qS} {A : Nat → List (Ms × Nat × Nat)} {ρ : Nat → qS × qS × qS} {B : Nat → List (Ms × Nat × Nat) × List (Ms × Nat × Nat) × List (Ms × Nat × Nat)} (h : ANC L s0 τ A ρ B) {g t i : Nat} (hg : s0 ≤ g) (gt : g ≤ t) (h2 : t < 7 * L) (h6 : t % 7 < 6) (hi : i ≤ 3) {y : Ms × Nat × Nat} (hy : y ∈ stA A B t i) (hk : tokb y = true) (hb : y.2.2 ≤ g) (hs : g < y.2.1) : 1 ≤ fbc y.2.2 (A g) := by
  apply Classical.byContradiction
  intro n
  have z : fbc y.2.2 (A g) = 0 := by omega
  have a := ANR_np h.1 hb hg z (t - g) (by omega)
  rw [show g + (t - g) = t by omega] at a
  have c := (st_np h (by omega : s0 ≤ t) h2 h6 i hi a).2 y hy hk rfl
  omega
theorem BORN2 {L s0 : Nat} {τ : Nat → qS} (hR : RNN L τ) {A : Nat → List (Ms × Nat × Nat)} {ρ : Nat → qS × qS × qS} {B : Nat → List (Ms × Nat × Nat) × List (Ms × Nat × Nat) × List (Ms × Nat × Nat)} (h : ANC L s0 τ A ρ B) (h7 : 224 ≤ s0) {g t i : Nat} (hg : s0 + 224 ≤ g) (gt : g ≤ t) (h2 : t < 7 * L) (h6 : t % 7 < 6) (hi : i ≤ 3) {y : Ms × Nat × Nat} (hy : y ∈ stA A B t i) (hk : tokb y = true) (hb : y.2.2 ≤ g) (hs : g < y.2.1) : g - 224 < y.2.2 := by
  have f := BORN h (by omega) gt h2 h6 hi hy hk hb hs
  unfold fbc at f
  obtain ⟨x, hx, px⟩ := List.countP_pos_iff.mp (by omega : 0 < (A g).countP (fun x => decide (xw x.1 0 = 5) && decide (x.2.2 = y.2.2)))
  rw [Bool.and_eq_true] at px
  have x5 := of_decide_eq_true px.1
  have xb := of_decide_eq_true px.2
  have fs := ANR_fs h.1 (g - s0) (by omega)
  rw [show s0 + (g - s0) = g by omega] at fs
  have e := fs x hx x5
  have mx : x.1 ∈ ln (τ g) := by
    rw [← h.1.2.1 g (by omega) (by omega)]
    exact List.mem_map_of_mem hx
  obtain ⟨w1, w2⟩ := to_w hR (by omega : 224 ≤ g) (by omega) mx (Or.inl x5)
  have l := run_95 hR (by omega) (by omega : 7 ≤ g - 224) (by omega)
  have cl : cn ((x.1.1.toNat : Nat) : Int) (ln (τ (g - 224))) ≤ 3 * 32 := by
    have : cn ((x.1.1.toNat : Nat) : Int) (ln (τ (g - 224))) ≤ (ln (τ (g - 224))).length := List.countP_le_length
    omega
  have ag := AGE hR h.1 (t0 := g - 224) (by omega) (by omega) (v := x.1.1.toNat) (by omega) (r := 32) cl (by omega)
  rw [show g - 224 + 7 * 32 = g by omega] at ag
  have := ag x hx (by omega)
  omega

