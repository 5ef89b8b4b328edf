def adb (L s0 : Nat) (A : Nat → List (Ms × Nat × Nat)) (b : Nat) (c : Int) : Prop := ∀ t, s0 ≤ t → t ≤ 7 * L → ∀ y ∈ A t, xw y.1 0 = 5 → y.2.2 = b → y.1.1 = c
theorem RDn_f5 {w e : Int} {t : Nat} {A A' : List (Ms × Nat × Nat)} (h : RDn w e t A A') {y : Ms × Nat × Nat} (hy : y ∈ A') (h5 : xw y.1 0 = 5) : y ∈ A := by
  rcases h with ⟨-, rfl⟩ | ⟨i, x, -, -, c⟩
  · exact hy
  · rcases c with ⟨-, rfl⟩ | ⟨-, -, z, -, z0, -, -, -, -, rfl⟩
    · exact (List.eraseIdx_sublist A i).subset hy
    · rw [List.mem_append, List.mem_singleton] at hy
      rcases hy with hy | hy
      · exact (List.eraseIdx_sublist A i).subset ((tlA_sub _).subset hy)
      · rw [hy] at h5
        have h5' : xw z 0 = 5 := h5
        omega
theorem HRn_f5 {t : Nat} {A A' : List (Ms × Nat × Nat)} (h : HRn t A A') {y : Ms × Nat × Nat} (hy : y ∈ A') (h5 : xw y.1 0 = 5) : y ∈ A := by
  rcases h with ⟨-, rfl⟩ | ⟨i, x, -, -, c⟩
  · exact hy
  · rcases c with rfl | ⟨z, z0, rfl⟩
    · exact (List.eraseIdx_sublist A i).subset hy
    · rw [List.mem_append, List.mem_singleton] at hy
      rcases hy with hy | hy
      · exact (List.eraseIdx_sublist A i).subset ((tlA_sub _).subset hy)
      · rw [hy] at h5
        have h5' : xw z 0 = 5 := h5
        omega
theorem ACn_f5 {t : Nat} {A A' : List (Ms × Nat × Nat)} {s : List Ms} (h : ACn t A A' s) {y : Ms × Nat × Nat} (hy : y ∈ A') (hb : y.2.2 ≤ t) : y ∈ A := by
  rcases h with ⟨rfl, -⟩ | ⟨z, rfl, -⟩ | ⟨z, z', rfl, -⟩
  · exact hy
  · rw [List.mem_append, List.mem_singleton] at hy
    rcases hy with hy | hy
    · exact (tlA_sub _).subset hy
    · rw [hy] at hb; simp only at hb; omega
  · rw [List.mem_append, List.mem_singleton] at hy
    rcases hy with hy | hy
    · have hy' := (tlA_sub _).subset hy
      rw [List.mem_append, List.mem_singleton] at hy'
      rcases hy' with hy' | hy'
      · exact (tlA_sub _).subset hy'
      · rw [hy'] at hb; simp only at hb; omega
    · rw [hy] at hb; simp only at hb; omega
theorem ANR_f5 {L s0 : Nat} {τ : Nat → qS} {A : Nat → List (Ms × Nat × Nat)} (h : ANR L s0 τ A) {t : Nat} (ht : s0 ≤ t) : ∀ k, t + k ≤ 7 * L → ∀ y ∈ A (t + k), xw y.1 0 = 5 → y.2.2 ≤ t → y ∈ A t
  | 0, _, _, hy, _, _ => hy
  | k + 1, hl, y, hy, h5, hb => by
    rw [show t + (k + 1) = t + k + 1 by omega] at hy
    refine ANR_f5 h ht k (by omega) y ?_ h5 hb
    rcases h.2.2 (t + k) (by omega) (by omega) with ⟨-, σ1, σ2, σ3, A1, A2, A3, -, -, r1, r2, r3, s, a, o⟩ | ⟨-, σ1, σ2, A1, A2, -, -, -, -, r1, r2, r3⟩
    · exact RDn_f5 r1 (RDn_f5 r2 (RDn_f5 r3 (ACn_f5 a hy (by omega)) h5) h5) h5
    · exact HRn_f5 r1 (HRn_f5 r2 (HRn_f5 r3 hy h5) h5) h5
theorem cp_one {α : Type} {p : α → Bool} : ∀ {l : List α} {x y : α}, l.countP p ≤ 1 → x ∈ l → y ∈ l → p x = true → p y = true → x = y
  | [], x, _, _, hx, _, _, _ => absurd hx (by simp)
  | a :: l, x, y, h, hx, hy, px, py => by
    rw [List.countP_cons] at h
    rcases List.mem_cons.mp hx with ex | hx'
    · rcases List.mem_cons.mp hy with ey | hy'
      · rw [ex, ey]
      · have c : 0 < l.countP p := List.countP_pos_iff.mpr ⟨y, hy', py⟩
        rw [← ex, if_pos px] at h
        omega
    · have c : 0 < l.countP p := List.countP_pos_iff.mpr ⟨x, hx', px⟩
      rcases List.mem_cons.mp hy with ey | hy'
      · rw [← ey, if_pos py] at h
        omega
      · exact cp_one (by omega) hx' hy' px py
theorem adb_ex {L s0 : Nat} {τ : Nat → qS} {A : Nat → List (Ms × Nat × Nat)} (h : ANR L s0 τ A) {b : Nat} (hb : s0 < b) (hl : b ≤ 7 * L) : ∃ c, adb L s0 A b c := by
  have bk : ∀ t, s0 ≤ t → t ≤ 7 * L → ∀ y ∈ A t, xw y.1 0 = 5 → y.2.2 = b → y ∈ A b := fun t h1 h2 y hy h5 e => by
    have tk := ANR_tk h (t - s0) (by omega)
    rw [show s0 + (t - s0) = t by omega] at tk
    have q := (tk y hy ((tokb_i y).mpr (Or.inl h5)) (by omega)).1
    have r := ANR_f5 h (t := b) (by omega) (t - b) (by omega) y (by rw [show b + (t - b) = t by omega]; exact hy) h5 (by omega)
    exact r
  have tb := ANR_tb h hb (b - s0) (by omega)
  rw [show s0 + (b - s0) = b by omega, if_pos (Nat.le_refl _)] at tb
  by_cases c : ∃ y ∈ A b, xw y.1 0 = 5 ∧ y.2.2 = b
  · obtain ⟨y, y1, y2, y3⟩ := c
    refine ⟨y.1.1, fun t h1 h2 x hx x5 xb => ?_⟩
    have x1 := bk t h1 h2 x hx x5 xb
    unfold tbc at tb
    have e := cp_one tb x1 y1 (by rw [(tokb_i x).mpr (Or.inl x5), decide_eq_true xb]; rfl) (by rw [(tokb_i y).mpr (Or.inl y2), decide_eq_true y3]; rfl)
    rw [e]
  · exact ⟨0, fun t h1 h2 x hx x5 xb => absurd ⟨x, bk t h1 h2 x hx x5 xb, x5, xb⟩ c⟩
theorem st_f5 {L s0 : Nat} {τ : Nat → qS} {A : Nat → List (Ms × Nat × Nat)} {ρ : Nat → qS × qS × qS} {B : Nat → List (Ms × Nat × Nat) × List (Ms × Nat × Nat) × List (Ms × Nat × Nat)} (h : ANC L s0 τ A ρ B) {t : Nat} (h1 : s0 ≤ t) (h2 : t < 7 * L) (h6 : t % 7 < 6) : ∀ i, i ≤ 3 → ∀ y ∈ stA A B t i, xw y.1 0 = 5 → y ∈ A t
  | 0, _, _, hy, _ => hy
  | i + 1, hi, y, hy, h5 => st_f5 h h1 h2 h6 i (by omega) y (RDn_f5 (st_rd h h1 h2 h6 (i := i) (by omega)) hy h5) h5
theorem ORD1 {L s0 : Nat} {τ : Nat → qS} {A : Nat → List (Ms × Nat × Nat)} {ρ : Nat → qS × qS × qS} {B : Nat → List (Ms × Nat × Nat) × List (Ms × Nat × Nat) × List (Ms × Nat × Nat)} (h : ANC L s0 τ A ρ B) {S j : Nat} (h1 : s0 ≤ S) (h2 : S < 7 * L) (h6 : S % 7 < 6) (hj : j < 3) {y : Ms × Nat × Nat} (hy : hdA ((S % 7 : Nat) : Int) (stA A B S j) y) {b : Nat} (hb : b < y.2.1) (ad : adb L s0 A b ((S % 7 : Nat) : Int)) : fbc b (A (S + 1)) = 0 := by
  have sr := st_srt h h1 h2 h6 j (by omega)
  have lb := hd_lb sr hy
  have yS : y.2.1 ≤ S + 1 := sr.2 y (hd_mem hy).1
  have z : fbc b (stA A B S j) = 0 := by
    unfold fbc
    rw [List.countP_eq_zero]
    intro x hx px
    rw [Bool.and_eq_true] at px
    have x5 := of_decide_eq_true px.1
    have xb := of_decide_eq_true px.2
    have xA := st_f5 h h1 h2 h6 j (by omega) x hx x5
    have xc := ad S h1 (by omega) x xA x5 xb
    have fs := ANR_fs h.1 (S - s0) (by omega)
    rw [show s0 + (S - s0) = S by omega] at fs
    have e := fs x xA x5
    have := lb x hx xc
    omega
  have m := (st_mo h h1 h2 h6 (b := b) (by omega) (3 - j) j (by omega)).1
  rw [show j + (3 - j) = 3 by omega] at m
  have n := (st_end h h1 h2 h6 (b := b) (by omega)).1
  omega
theorem ORD {L s0 : Nat} {τ : Nat → qS} {A : Nat → List (Ms × Nat × Nat)} {ρ : Nat → qS × qS × qS} {B : Nat → List (Ms × Nat × Nat) × List (Ms × Nat × Nat) × List (Ms × Nat × Nat)} (h : ANC L s0 τ A ρ B) {S j : Nat} (h1 : s0 ≤ S) (h2 : S < 7 * L) (h6 : S % 7 < 6) (hj : j < 3) {y : Ms × Nat × Nat} (hy : hdA ((S % 7 : Nat) : Int) (stA A B S j) y) {b : Nat} (hb : b < y.2.1) (ad : adb L s0 A b ((S % 7 : Nat) : Int)) {v : Nat} (hv : v < 6) {t t' i i' : Nat} (ht0 : s0 ≤ t) (htl : t' < 7 * L) (ht : t % 7 = v) (ht' : t' % 7 = v) (hi : i < 3) (hi' : i' < 3) (hlt : t < t' ∨ (t = t' ∧ i ≤ i')) {z z' : Ms × Nat × Nat} (hz : hdA v (stA A B t i) z) (zs : z.2.1 = S + 1) (hz' : hdA v (stA A B t' i') z') (zk : tokb z' = true) (zb : z'.2.2 = b) : z'.2.1 = S + 1 := by
  have f := FIFO h hv ht0 htl ht ht' hi hi' hlt hz hz'
  have t6' : t' % 7 < 6 := by omega
  have s' := (st_srt h (by omega : s0 ≤ t') htl t6' i' (by omega)).2 z' (hd_mem hz').1
  by_cases c : t' ≤ S
  · omega
  · have yS : y.2.1 ≤ S + 1 := (st_srt h h1 h2 h6 j (by omega)).2 y (hd_mem hy).1
    have np := ANR_np h.1 (b := b) (g := S + 1) (by omega) (by omega) (ORD1 h h1 h2 h6 hj hy hb ad) (t' - (S + 1)) (by omega)
    rw [show S + 1 + (t' - (S + 1)) = t' by omega] at np
    have q := (st_np h (by omega : s0 ≤ t') htl t6' i' (by omega) np).2 z' (hd_mem hz').1 zk zb
    omega

