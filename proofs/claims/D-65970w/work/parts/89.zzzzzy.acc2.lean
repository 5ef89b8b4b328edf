-- an acceptance moves its worker on: two tokens of one place are not accepted in one incarnation
theorem acy_s {w : Int} {σ σ' : qS} (h : RD w σ σ') {C : List (Ms × Nat × Nat)} (hC : prA C = ln σ) {y : Ms × Nat × Nat} (ha : acy w σ C y) : ¬ same w σ σ' := by
  intro sm
  obtain ⟨⟨i, a1, a2⟩, a3, a4, a5⟩ := ha
  obtain ⟨-, -, -, c⟩ := h
  have g : (ln σ)[i]? = some y.1 := by
    rw [← hC]
    unfold prA
    rw [List.getElem?_map, a2]
    rfl
  rw [hC] at a1
  rcases c with ⟨c, -, -⟩ | ⟨j, x, c1, c2, c⟩
  · rw [a1] at c; cases c
  · rw [a1] at c1
    have ei := Option.some.inj c1
    subst ei
    rw [g] at c2
    have ex := Option.some.inj c2
    subst ex
    rcases c with ⟨d, -⟩ | ⟨-, d, -⟩ | ⟨-, d, -⟩ | ⟨-, -, -, c⟩
    · exact d a3
    · omega
    · omega
    · rcases c with ⟨d, -⟩ | ⟨-, -, -, -, c⟩
      · exact d a5
      · rcases c with ⟨-, c⟩ | ⟨c, -⟩
        · have := sm.2.2.2.2; omega
        · have := sm.2.1; omega
theorem st_j {L s0 : Nat} {τ : Nat → qS} (hR : RNN L τ) {A : Nat → List (Ms × Nat × Nat)} {ρ : Nat → qS × qS × qS} {B : Nat → List (Ms × Nat × Nat) × List (Ms × Nat × Nat) × List (Ms × Nat × Nat)} (h : ANC L s0 τ A ρ B) {t v : Nat} (h1 : s0 ≤ t) (h2 : t < 7 * L) (hv : v < 6) (ht : t % 7 = v) : ∀ i, i ≤ 3 → JI False (-1) (stQ τ ρ t i) ∧ AW (stQ τ ρ t i) (v : Int) := by
  obtain ⟨wd, -⟩ := h.2 t h1 h2 (by omega)
  rw [ht] at wd
  obtain ⟨-, -, -, -, ⟨j1, j2, j3, -⟩, a1, a2, a3, -⟩ := wd
  have gs := hR.1 t (by omega)
  intro i hi
  rcases (by omega : i = 0 ∨ i = 1 ∨ i = 2 ∨ i = 3) with e | e | e | e <;> subst e
  · exact ⟨gs.1, gs.2.2.1 v (by omega) (by omega)⟩
  · exact ⟨j1, a1⟩
  · exact ⟨j2, a2⟩
  · exact ⟨j3, a3⟩
theorem ACC_i {τ : Nat → qS} {A : Nat → List (Ms × Nat × Nat)} {ρ : Nat → qS × qS × qS} {B : Nat → List (Ms × Nat × Nat) × List (Ms × Nat × Nat) × List (Ms × Nat × Nat)} {t b : Nat} (ha : ACC τ A ρ B t b) : ∃ i, i < 3 ∧ ∃ y, y.2.2 = b ∧ acy ((t % 7 : Nat) : Int) (stQ τ ρ t i) (stA A B t i) y := by
  obtain ⟨-, y, yb, c⟩ := ha
  rcases c with c | c | c
  · exact ⟨0, by omega, y, yb, c⟩
  · exact ⟨1, by omega, y, yb, c⟩
  · exact ⟨2, by omega, y, yb, c⟩
theorem st_up {L s0 : Nat} {τ : Nat → qS} (hR : RNN L τ) {A : Nat → List (Ms × Nat × Nat)} {ρ : Nat → qS × qS × qS} {B : Nat → List (Ms × Nat × Nat) × List (Ms × Nat × Nat) × List (Ms × Nat × Nat)} (h : ANC L s0 τ A ρ B) {t v : Nat} (h1 : s0 ≤ t) (h2 : t < 7 * L) (hv : v < 6) (ht : t % 7 = v) {i : Nat} : ∀ d, i + d ≤ 3 → 38 ≤ stQ τ ρ t i 62 (v : Int) → 38 ≤ stQ τ ρ t (i + d) 62 (v : Int) ∧ cd (stQ τ ρ t i) (v : Int) ≤ cd (stQ τ ρ t (i + d)) (v : Int)
  | 0, _, h0 => ⟨h0, Int.le_refl _⟩
  | d + 1, hd, h0 => by
    obtain ⟨a, b⟩ := st_up hR h h1 h2 hv ht d (by omega) h0
    have j := st_j hR h h1 h2 hv ht (i + d) (by omega)
    have r := (st_r h h1 h2 ht hv (i' := i + d) (by omega)).1
    obtain ⟨p, q⟩ := RD_cd j.1 (by omega) j.2 r a
    rw [show i + (d + 1) = i + d + 1 by omega]
    exact ⟨by omega, Int.le_trans b q⟩
-- what an acceptance at a place does
theorem ACC_pl {L s0 : Nat} {τ : Nat → qS} (hR : RNN L τ) {A : Nat → List (Ms × Nat × Nat)} {ρ : Nat → qS × qS × qS} {B : Nat → List (Ms × Nat × Nat) × List (Ms × Nat × Nat) × List (Ms × Nat × Nat)} (h : ANC L s0 τ A ρ B) {t b : Nat} (hb : s0 < b) (h1 : s0 ≤ t) (h2 : t < 7 * L) (ha : ACC τ A ρ B t b) : ∃ i, i < 3 ∧ 38 ≤ stQ τ ρ t i 62 ((t % 7 : Nat) : Int) ∧ plc (stQ τ ρ t i) ((t % 7 : Nat) : Int) = plc (τ b) ((t % 7 : Nat) : Int) ∧ cd (stQ τ ρ t i) ((t % 7 : Nat) : Int) < cd (stQ τ ρ t (i + 1)) ((t % 7 : Nat) : Int) ∧ ∃ y, y.2.2 = b ∧ acy ((t % 7 : Nat) : Int) (stQ τ ρ t i) (stA A B t i) y := by
  have h6 := ha.1
  obtain ⟨i, hi, y, yb, ac⟩ := ACC_i ha
  have s := st_r h h1 h2 rfl h6 (i' := i) hi
  have j := st_j hR h h1 h2 h6 rfl i (by omega)
  have f38 : 38 ≤ stQ τ ρ t i 62 ((t % 7 : Nat) : Int) := ac.2.2.2.1
  refine ⟨i, hi, f38, ?_, ?_, y, yb, ac⟩
  · have k0 := ANR_tk h.1 (t - s0) (by omega)
    rw [show s0 + (t - s0) = t by omega] at k0
    have tk : ∀ i, i ≤ 3 → TKa s0 τ t (stA A B t i) := fun i => by
      induction i with
      | zero => intro _; exact k0
      | succ i ih => intro q; exact RDn_tk (st_rd h h1 h2 h6 (i := i) (by omega)) (ih (by omega))
    have ap := acy_pl ac
    obtain ⟨-, -, -, v, v1, v2, v3, v4, v5⟩ := tk i (by omega) y ap.2.2.1 ap.2.1 (by omega)
    have tv : ((t % 7 : Nat) : Int) = (v : Int) := by rw [← ap.2.2.2]; exact v3
    rw [← ap.1, v4, yb, tv]
  · rcases RD_cs j.1 (by omega) j.2 s.1 f38 with q | q
    · exact absurd q (acy_s s.1 s.2 ac)
    · exact q
theorem plc_ce {σ σ' : qS} {v : Int} (h : plc σ v = plc σ' v) : cd σ v = cd σ' v := by
  have h2 : (plc σ v).2.1 = (plc σ' v).2.1 := by rw [h]
  have h3 : (plc σ v).2.2 = (plc σ' v).2.2 := by rw [h]
  unfold plc at h2 h3
  unfold cd
  simp only at h2 h3
  rw [h2, h3]
theorem ACC_up {L s0 : Nat} {τ : Nat → qS} (hR : RNN L τ) {A : Nat → List (Ms × Nat × Nat)} {ρ : Nat → qS × qS × qS} {B : Nat → List (Ms × Nat × Nat) × List (Ms × Nat × Nat) × List (Ms × Nat × Nat)} (h : ANC L s0 τ A ρ B) {t b : Nat} (hb : s0 < b) (h1 : s0 ≤ t) (h2 : t < 7 * L) (ha : ACC τ A ρ B t b) (hr : 38 ≤ τ (t + 1) 62 ((t % 7 : Nat) : Int)) : cd (τ b) ((t % 7 : Nat) : Int) < cd (τ (t + 1)) ((t % 7 : Nat) : Int) := by
  have h6 := ha.1
  obtain ⟨i, hi, a1, a2, a3, -⟩ := ACC_pl hR h hb h1 h2 ha
  have j := st_j hR h h1 h2 h6 rfl i (by omega)
  obtain ⟨u1, -⟩ := st_up hR h h1 h2 h6 rfl (i := i) 1 (by omega) a1
  obtain ⟨-, u2⟩ := st_up hR h h1 h2 h6 rfl (i := i + 1) (2 - i) (by omega) u1
  rw [show i + 1 + (2 - i) = 3 by omega] at u2
  have e3 : cd (τ (t + 1)) ((t % 7 : Nat) : Int) = cd (stQ τ ρ t 3) ((t % 7 : Nat) : Int) := by
    obtain ⟨⟨-, -, -, a, ⟨-, -, j3, -⟩, -⟩, -⟩ := h.2 t h1 h2 h6
    show cd (τ (t + 1)) ((t % 7 : Nat) : Int) = cd (ρ t).2.2 ((t % 7 : Nat) : Int)
    have nf : fgo ((t % 7 : Nat) : Int) (τ (t + 1)) → False := fun f => by have := f.1; omega
    obtain ⟨-, -, -, c⟩ := a
    have hsp := spl_b j3.1
    rcases c with ⟨-, -, c, -⟩ | ⟨c0, c⟩ | ⟨c0, c⟩
    · omega
    · rcases c with ⟨-, -, f, -⟩ | ⟨-, f, -⟩ | ⟨-, -, f, -⟩ | ⟨-, -, f, -⟩
      · exact (nf f).elim
      · exact (nf f).elim
      · exact (nf f).elim
      · omega
    · rcases c with ⟨-, -, f, -⟩ | ⟨-, -, -, -, f, -⟩ | ⟨-, -, -, -, -, -, e1, e2, -, e3, -⟩ | ⟨-, -, -, -, -, e1, e2, e3, -⟩ | ⟨-, -, f, -⟩
      · exact (nf f).elim
      · exact (nf f).elim
      · unfold cd; rw [e2, e3]
      · unfold cd; rw [e2, e3]
      · exact (nf f).elim
  have e := plc_ce a2
  omega
-- two tokens of one place are accepted in different incarnations
theorem ACC_2 {L s0 : Nat} {τ : Nat → qS} (hR : RNN L τ) {A : Nat → List (Ms × Nat × Nat)} {ρ : Nat → qS × qS × qS} {B : Nat → List (Ms × Nat × Nat) × List (Ms × Nat × Nat) × List (Ms × Nat × Nat)} (h : ANC L s0 τ A ρ B) {t1 t2 b1 b2 : Nat} (hb1 : s0 < b1) (hb2 : s0 < b2) (h1 : s0 ≤ t1) (h2 : t2 < 7 * L) (hv : t1 % 7 = t2 % 7) (hp : plc (τ b1) ((t2 % 7 : Nat) : Int) = plc (τ b2) ((t2 % 7 : Nat) : Int)) (ha1 : ACC τ A ρ B t1 b1) (ha2 : ACC τ A ρ B t2 b2) (hlt : t1 < t2) : ¬ SEG τ (t2 % 7) (t1 + 1) (t2 - t1 - 1) := by
  intro sg
  have r1 : 38 ≤ τ (t1 + 1) 62 ((t2 % 7 : Nat) : Int) := sg (t1 + 1) (by omega) (by omega)
  have u := ACC_up hR h hb1 h1 (by omega) ha1 (by rw [hv]; exact r1)
  rw [hv] at u
  have c := cd_run hR (v := t2 % 7) ha2.1 (t0 := t1 + 1) (n := t2 - t1 - 1) (by omega) sg (a := t1 + 1) (by omega) (t2 - t1 - 1) (by omega)
  rw [show t1 + 1 + (t2 - t1 - 1) = t2 by omega] at c
  obtain ⟨i, hi, a1, a2, -⟩ := ACC_pl hR h hb2 (by omega) h2 ha2
  have r2 : 38 ≤ stQ τ ρ t2 0 62 ((t2 % 7 : Nat) : Int) := sg t2 (by omega) (by omega)
  obtain ⟨-, s⟩ := st_up hR h (by omega : s0 ≤ t2) h2 ha2.1 rfl (i := 0) i (by omega) r2
  rw [show 0 + i = i by omega] at s
  have s' : cd (τ t2) ((t2 % 7 : Nat) : Int) ≤ cd (stQ τ ρ t2 i) ((t2 % 7 : Nat) : Int) := s
  have e1 := plc_ce a2
  have e2 := plc_ce hp
  omega
theorem ACC_1 {L s0 : Nat} {τ : Nat → qS} (hR : RNN L τ) {A : Nat → List (Ms × Nat × Nat)} {ρ : Nat → qS × qS × qS} {B : Nat → List (Ms × Nat × Nat) × List (Ms × Nat × Nat) × List (Ms × Nat × Nat)} (h : ANC L s0 τ A ρ B) {t b1 b2 : Nat} (hb1 : s0 < b1) (hb2 : s0 < b2) (h1 : s0 ≤ t) (h2 : t < 7 * L) (hp : plc (τ b1) ((t % 7 : Nat) : Int) = plc (τ b2) ((t % 7 : Nat) : Int)) (ha1 : ACC τ A ρ B t b1) (ha2 : ACC τ A ρ B t b2) : b1 = b2 := by
  have h6 := ha1.1
  obtain ⟨i, hi, a1, a2, a3, y, yb, ay⟩ := ACC_pl hR h hb1 h1 h2 ha1
  obtain ⟨j, hj, c1, c2, c3, z, zb, az⟩ := ACC_pl hR h hb2 h1 h2 ha2
  have e : cd (stQ τ ρ t i) ((t % 7 : Nat) : Int) = cd (stQ τ ρ t j) ((t % 7 : Nat) : Int) := by
    rw [plc_ce a2, plc_ce c2, plc_ce hp]
  rcases Nat.lt_trichotomy i j with q | q | q
  · obtain ⟨u1, -⟩ := st_up hR h h1 h2 h6 rfl (i := i) 1 (by omega) a1
    obtain ⟨-, u2⟩ := st_up hR h h1 h2 h6 rfl (i := i + 1) (j - i - 1) (by omega) u1
    rw [show i + 1 + (j - i - 1) = j by omega] at u2
    omega
  · subst q
    have := hdA_u ay.1 az.1
    rw [← yb, ← zb, this]
  · obtain ⟨u1, -⟩ := st_up hR h h1 h2 h6 rfl (i := j) 1 (by omega) c1
    obtain ⟨-, u2⟩ := st_up hR h h1 h2 h6 rfl (i := j + 1) (i - j - 1) (by omega) u1
    rw [show j + 1 + (i - j - 1) = i by omega] at u2
    omega

