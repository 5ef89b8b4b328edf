def PFS (τ : Nat → qS) (a b : Nat) : Prop := ∀ t, 7 * a ≤ t → t < 7 * b → t % 7 < 6 → PT ((t % 7 : Nat) : Int) (τ t) (τ (t + 1)) ∧ ¬ ((∃ k, 0 ≤ k ∧ k < spl (τ (t + 1)) ∧ τ (t + 1) 33 k = -1) ∧ ∃ x ∈ ln (τ t), xw x 0 = 2 ∧ 38 ≤ xw x 2)
theorem PF_t {τ : Nat → qS} {a b : Nat} (hp : PFS τ a b) {r v : Nat} (hv : v < 6) (h1 : a ≤ r) (h2 : r < b) : PT (v : Int) (τ (7 * r + v)) (τ (7 * r + v + 1)) ∧ ¬ ((∃ k, 0 ≤ k ∧ k < spl (τ (7 * r + v + 1)) ∧ τ (7 * r + v + 1) 33 k = -1) ∧ ∃ x ∈ ln (τ (7 * r + v)), xw x 0 = 2 ∧ 38 ≤ xw x 2) := by
  have := hp (7 * r + v) (by omega) (by omega) (by omega)
  rw [show (7 * r + v) % 7 = v by omega] at this
  exact this
theorem idl_01 {w : Int} {σ σ' : qS} (h : PT w σ σ') : idl σ' w 0 ∨ idl σ' w 1 := by
  rcases h with ⟨-, h, -⟩ | ⟨-, h, -⟩
  · exact Or.inr h
  · exact Or.inl h
theorem stp_wtk {L : Nat} {τ : Nat → qS} (h : RNN L τ) {r v : Nat} (hv : v < 6) (hl : r < L) : WTK (v : Int) (τ (7 * r + v)) (τ (7 * r + v + 1)) := by
  have hs := h.2 (7 * r + v) (by omega)
  rw [show (7 * r + v) % 7 = v by omega] at hs
  rcases hs with ⟨-, hs⟩ | ⟨e, -⟩
  · exact hs
  · omega
theorem stp_mtk {L : Nat} {τ : Nat → qS} (h : RNN L τ) {r : Nat} (hl : r < L) : MTK (τ (7 * r + 6)) (τ (7 * r + 7)) := by
  have hs := h.2 (7 * r + 6) (by omega)
  rcases hs with ⟨e, -⟩ | ⟨-, hs⟩
  · omega
  · exact hs
theorem st_at {L : Nat} {τ : Nat → qS} (h : RNN L τ) {a b : Nat} (hp : PFS τ a b) (hb : b ≤ L) {r v : Nat} (hv : v < 6) (h1 : a ≤ r) (h2 : r < b) : idl (τ (7 * (r + 1))) v 0 ∨ idl (τ (7 * (r + 1))) v 1 := by
  have k := keep_a h (r := r) hv (j := 7) (by omega) (by omega) (by omega)
  rw [show 7 * r + 7 = 7 * (r + 1) by omega] at k
  rcases idl_01 (PF_t hp hv h1 h2).1 with e | e
  · exact Or.inl (idl_k (k _ (by decide)) (k _ (by decide)) e)
  · exact Or.inr (idl_k (k _ (by decide)) (k _ (by decide)) e)
theorem st_tk {L : Nat} {τ : Nat → qS} (h : RNN L τ) {r v : Nat} (hv : v < 6) (hl : r < L) {c : Int} (hi : idl (τ (7 * r)) v c) : idl (τ (7 * r + v)) v c := by
  have k := keep_w (r := r) h hv v (by omega) (by omega)
  exact idl_k (k _ (by decide)) (k _ (by decide)) hi
theorem st_nx {L : Nat} {τ : Nat → qS} (h : RNN L τ) {r v : Nat} (hv : v < 6) (hl : r < L) {c : Int} (hi : idl (τ (7 * r + v + 1)) v c) : idl (τ (7 * (r + 1))) v c := by
  have k := keep_a h (r := r) hv (j := 7) (by omega) (by omega) (by omega)
  rw [show 7 * r + 7 = 7 * (r + 1) by omega] at k
  exact idl_k (k _ (by decide)) (k _ (by decide)) hi
theorem st_A {L : Nat} {τ : Nat → qS} (h : RNN L τ) {a b : Nat} (hp : PFS τ a b) (hb : b ≤ L) {r v : Nat} (hv : v < 6) (h1 : a ≤ r) (h2 : r < b) (hi : idl (τ (7 * r)) v 0) : idl (τ (7 * r + v + 1)) v 1 ∧ ∃ (x : Ms) (d : Nat), x.1 = 6 ∧ isK x = true ∧ d ≤ 1 ∧ mq (ln (τ (7 * r + v + 1))) = (mq (ln (τ (7 * r + v)))).drop d ++ [x] := by
  have ht := st_tk h hv (by omega) hi
  rcases (PF_t hp hv h1 h2).1 with ⟨-, e1, e2⟩ | ⟨e1, -⟩
  · exact ⟨e1, e2⟩
  · exact absurd ht e1
theorem st_E {L : Nat} {τ : Nat → qS} (h : RNN L τ) {a b : Nat} (hp : PFS τ a b) (hb : b ≤ L) {r v : Nat} (hv : v < 6) (h1 : a ≤ r) (h2 : r < b) (hi : idl (τ (7 * r)) v 1) : idl (τ (7 * r + v + 1)) v 0 ∧ ∃ x : Ms, x.1 = 6 ∧ isK x = false ∧ mq (ln (τ (7 * r + v + 1))) = mq (ln (τ (7 * r + v))) ++ [x] := by
  have ht := st_tk h hv (by omega) hi
  obtain ⟨hP, hF⟩ := PF_t hp hv h1 h2
  rcases hP with ⟨e, -⟩ | ⟨-, e1, e2⟩
  · have := e.2; have := ht.2; omega
  · refine ⟨e1, ?_⟩
    rcases e2 with ⟨-, e⟩ | e | e | e
    · have := ht.2; omega
    · exact absurd e hF
    · have := ht.1; omega
    · exact e
theorem NT_p {L : Nat} {τ : Nat → qS} (h : RNN L τ) {a b : Nat} (hp : PFS τ a b) (hb : b ≤ L) {t : Nat} (h1 : 7 * a + 448 ≤ t) (h2 : t ≤ 7 * b) : ∀ x ∈ ln (τ t), xw x 0 ≠ 5 ∧ xw x 0 ≠ 6 := by
  refine NT_run h (a := 7 * a) (b := 7 * b) (by omega) (fun t h1 h2 h3 => ?_) h1 h2
  rcases idl_01 (hp t h1 h2 h3).1 with e | e <;> · have := e.1; omega
theorem chain_v {L : Nat} {τ : Nat → qS} (h : RNN L τ) {a b : Nat} (hp : PFS τ a b) (hb : b ≤ L) {r : Nat} (h1 : a + 64 ≤ r) (h2 : r < b) {v : Nat} (hv : v < 6) (i : Nat) : ∀ j, i + j ≤ 6 → cn v (ln (τ (7 * r + i + j))) ≤ cn v (ln (τ (7 * r + i)))
  | 0, _ => Nat.le_refl _
  | j + 1, hj => by
    have ih := chain_v h hp hb h1 h2 hv i j (by omega)
    have hw := stp_wtk h (r := r) (v := i + j) (by omega) (by omega)
    have hP := (PF_t hp (r := r) (v := i + j) (by omega) (by omega) h2).1
    have hf : F5 (ln (τ (7 * r + (i + j)))) := fun x hx => (NT_p h hp hb (t := 7 * r + (i + j)) (by omega) (by omega) x hx).1
    have hi : τ (7 * r + (i + j) + 1) 62 ((i + j : Nat) : Int) < 38 := by
      rcases idl_01 hP with e | e <;> · have := e.1; omega
    have := WTK_v hw hf hi (v := (v : Int)) (by omega)
    rw [show 7 * r + i + (j + 1) = 7 * r + (i + j) + 1 by omega]
    rw [show 7 * r + i + j = 7 * r + (i + j) by omega] at ih
    omega
theorem fr_s {L : Nat} {τ : Nat → qS} (h : RNN L τ) {a b : Nat} (hp : PFS τ a b) (hb : b ≤ L) {r : Nat} (h1 : a + 64 ≤ r) (h2 : r + 1 < b) {v : Nat} (hv : v < 6) {s : List Ms} (hs : ∀ p : Ms → Bool, (ln (τ (7 * r + 7))).countP p ≤ (ln (τ (7 * r + 6))).countP p + s.countP p) : fr (τ (7 * r)) v ≤ cn v s := by
  by_cases c : idl (τ (7 * r)) v 0
  · rw [fr_i c]
    have hA := (st_A h hp hb hv (by omega) (by omega) c).1
    have ht := st_tk h hv (by omega) c
    have gs := h.1 (7 * r + v) (by omega)
    have z1 : cn v (ln (τ (7 * r + v))) = 0 := by
      refine WTK_g gs.1 (by omega) (run_95 h (by omega) (by omega) (by omega)) (stp_wtk h hv (by omega)) (run_ER h (by omega) (by omega)) (fun x hx e => ?_) ht.1 hA
      obtain ⟨n5, n6⟩ := NT_p h hp hb (t := 7 * r + v) (by omega) (by omega) x hx
      have hL := (gs.1.2.2.2.2.2.2.2.1 x hx).2 (run_ER h (t := 7 * r + v) (by omega) (by omega) x hx)
      rcases hL with ⟨e6, -⟩ | ⟨-, g⟩
      · omega
      · rcases g with ⟨g, -⟩ | ⟨g, -⟩ | ⟨g, -⟩
        · exact g
        · exact absurd g n5
        · exact absurd g n6
    have z2 := chain_v h hp hb (r := r) (by omega) (by omega) hv v (6 - v) (by omega)
    rw [show 7 * r + v + (6 - v) = 7 * r + 6 by omega] at z2
    have hi1 := st_nx h hv (by omega) hA
    have hE := (st_E h hp hb hv (r := r + 1) (by omega) (by omega) hi1).1
    have z3 : cn v (ln (τ (7 * (r + 1) + v))) ≠ 0 := fun e => WTK_n (stp_wtk h hv (by omega)) e (st_tk h hv (by omega) hi1) hE
    have z4 := chain_v h hp hb (r := r + 1) (by omega) (by omega) hv 0 v (by omega)
    rw [show 7 * (r + 1) + 0 + v = 7 * (r + 1) + v by omega, show 7 * (r + 1) + 0 = 7 * r + 7 by omega] at z4
    have z5 := hs (toW v)
    unfold cn at *
    omega
  · rw [fr_z c]; exact Nat.zero_le _
theorem frs3 {L : Nat} {τ : Nat → qS} (h : RNN L τ) {a b : Nat} (hp : PFS τ a b) (hb : b ≤ L) {r : Nat} (h1 : a + 64 ≤ r) (h2 : r + 1 < b) : frs (τ (7 * r)) ≤ 3 := by
  obtain ⟨s, s1, s2⟩ := MT_v (stp_mtk h (r := r) (by omega))
  have e0 := fr_s h hp hb h1 h2 (v := 0) (by omega) s2
  have e1 := fr_s h hp hb h1 h2 (v := 1) (by omega) s2
  have e2 := fr_s h hp hb h1 h2 (v := 2) (by omega) s2
  have e3 := fr_s h hp hb h1 h2 (v := 3) (by omega) s2
  have e4 := fr_s h hp hb h1 h2 (v := 4) (by omega) s2
  have e5 := fr_s h hp hb h1 h2 (v := 5) (by omega) s2
  have e6 := cn_sum s
  unfold frs
  simp only [Int.cast_ofNat_Int, Int.natCast_zero] at *
  omega

