-- ticks at which the token born at s lies unread in its worker's inbox
def XK (A : Nat → List (Ms × Nat × Nat)) (B : Nat → List (Ms × Nat × Nat) × List (Ms × Nat × Nat) × List (Ms × Nat × Nat)) (s g t : Nat) : Prop := t % 7 < 6 ∧ ∃ y : Ms × Nat × Nat, y ∈ A t ∧ y.1.1 = ((t % 7 : Nat) : Int) ∧ (∀ i, i < 3 → ¬ hdA ((t % 7 : Nat) : Int) (stA A B t i) y) ∧ y.2.1 = g ∧ y.2.2 = s
def CXr (A : Nat → List (Ms × Nat × Nat)) (B : Nat → List (Ms × Nat × Nat) × List (Ms × Nat × Nat) × List (Ms × Nat × Nat)) (s T r : Nat) : Prop := ∃ v, v < 6 ∧ (XK A B s s (7 * r + v) ∨ XK A B s T (7 * r + v))
theorem COVx {L s0 : Nat} {τ : Nat → qS} (hR : RNN L τ) {A : Nat → List (Ms × Nat × Nat)} {ρ : Nat → qS × qS × qS} {B : Nat → List (Ms × Nat × Nat) × List (Ms × Nat × Nat) × List (Ms × Nat × Nat)} (h : ANC L s0 τ A ρ B) {u : Nat} (_ : 224 ≤ u) (_ : s0 ≤ u) (_ : u < 7 * L) (h6 : u % 7 < 6) {y : Ms × Nat × Nat} (hy : y ∈ A u) (yw : y.1.1 = ((u % 7 : Nat) : Int)) (_ : y.2.1 ≤ u) (hn : ∀ i, i < 3 → ¬ hdA ((u % 7 : Nat) : Int) (stA A B u i) y) {s g : Nat} (yg : y.2.1 = g) (yb : y.2.2 = s) : XK A B s g u := ⟨h6, y, hy, yw, hn, yg, yb⟩
-- such a tick is full: three letters that are not younger than the token are read in it
theorem XK_4 {L s0 : Nat} {τ : Nat → qS} (hR : RNN L τ) {A : Nat → List (Ms × Nat × Nat)} {ρ : Nat → qS × qS × qS} {B : Nat → List (Ms × Nat × Nat) × List (Ms × Nat × Nat) × List (Ms × Nat × Nat)} (h : ANC L s0 τ A ρ B) {s g u : Nat} (h0 : 224 ≤ u) (h1 : s0 ≤ u) (h2 : u < 7 * L) (hx : XK A B s g u) : ∃ y : Ms × Nat × Nat, y ∈ A u ∧ y.2.1 = g ∧ 4 ≤ oc y.2.1 ((u % 7 : Nat) : Int) (A u) := by
  obtain ⟨h6, y, hy, yw, hn, yg, yb⟩ := hx
  rcases rd_oq hR h h0 h1 h2 h6 hy yw with ⟨i, hi, q⟩ | q
  · exact absurd q (hn i hi)
  · exact ⟨y, hy, yg, q⟩
theorem XK_0 {L s0 : Nat} {τ : Nat → qS} (hR : RNN L τ) {A : Nat → List (Ms × Nat × Nat)} {ρ : Nat → qS × qS × qS} {B : Nat → List (Ms × Nat × Nat) × List (Ms × Nat × Nat) × List (Ms × Nat × Nat)} (h : ANC L s0 τ A ρ B) {s g u : Nat} (h0 : 224 ≤ u) (h1 : s0 ≤ u) (h2 : u < 7 * L) (hx : XK A B s g u) : T0t A u := by
  have h6 := hx.1
  obtain ⟨y, hy, -, q⟩ := XK_4 hR h h0 h1 h2 hx
  have k := ANR_srt h.1 (u - s0) (by omega)
  rw [show s0 + (u - s0) = u by omega] at k
  have := oc_mo (k.2 y hy) ((u % 7 : Nat) : Int) (A u)
  exact ⟨h6, by omega⟩
theorem T0_cn {L s0 : Nat} {τ : Nat → qS} {A : Nat → List (Ms × Nat × Nat)} {ρ : Nat → qS × qS × qS} {B : Nat → List (Ms × Nat × Nat) × List (Ms × Nat × Nat) × List (Ms × Nat × Nat)} (h : ANC L s0 τ A ρ B) {t : Nat} (h1 : s0 ≤ t) (h2 : t ≤ 7 * L) (hx : T0t A t) : t % 7 < 6 ∧ 3 ≤ cn ((t % 7 : Nat) : Int) (ln (τ t)) := by
  refine ⟨hx.1, ?_⟩
  have a := hx.2
  have e : oc t ((t % 7 : Nat) : Int) (A t) ≤ cn ((t % 7 : Nat) : Int) (ln (τ t)) := by
    rw [← h.1.2.1 t h1 h2]
    unfold oc cn prA
    rw [List.countP_map]
    refine List.countP_mono_left (fun y _ q => ?_)
    have q' := of_decide_eq_true q
    show toW ((t % 7 : Nat) : Int) y.1 = true
    unfold toW
    rw [q'.2]
    simp
  omega
theorem SMPx {L s0 : Nat} {τ : Nat → qS} (hR : RNN L τ) {A : Nat → List (Ms × Nat × Nat)} {ρ : Nat → qS × qS × qS} {B : Nat → List (Ms × Nat × Nat) × List (Ms × Nat × Nat) × List (Ms × Nat × Nat)} (h : ANC2 L s0 τ A ρ B) (h7 : 224 ≤ s0) {w : Nat} (hw : w < 6) {t : Nat} (ht : t % 7 = w) (h1 : 7 * 145 ≤ t) (h2 : t + 1 ≤ 7 * L) (hl : LKs (τ (t + 1)) w) {j : Nat} (j1 : 1 ≤ j) (j2 : j ≤ 143) {s : Nat} (es : s = t + 1 - 7 * j) (js : s0 < s) (ha : τ s 65 (w : Int) = 1) {K : Nat} (hK : s + K ≤ t + 1) (hF : zF (τ s) + osm false τ s K ≤ 93) : ∃ b k0 : Nat, b < 6 ∧ τ s 33 (τ s 64 (w : Int)) = (b : Int) ∧ (∀ k, k < K → k < k0 → (s + k) % 7 = b → XK A B s s (s + k)) ∧ ∀ k, k0 + 1 ≤ k → k < K → (s + k) % 7 = w → XK A B s (s + k0 + 1) (s + k) := by
  obtain ⟨-, v1, -⟩ := lk_wait hR hw ht h1 h2 hl (j - 1) (by omega)
  rw [show j - 1 + 1 = j by omega, ← es] at v1
  obtain ⟨u, eu⟩ : ∃ u, s = u + 1 := ⟨s - 1, by omega⟩
  have u7 : u % 7 = w := by omega
  have fe1 : fe (τ s) (w : Int) = 1 := by unfold fe; exact if_pos ⟨v1, ha⟩
  obtain ⟨y, y1, y5, yw, ya, ys, yb⟩ := BIRTH2 h (u := u) (by omega) (by omega) (by omega) (by rw [u7, ← eu]; exact fe1)
  rw [u7] at yw ya
  rw [← eu] at y1 ya ys yb
  have e0 := h.1.1.2.1 s (by omega) (by omega)
  have ym : y.1 ∈ ln (τ s) := by rw [← e0]; exact List.mem_map_of_mem (KA_mem y1)
  obtain ⟨b1, b2⟩ := lt5_b hR (by omega) (by omega) ym y5
  have hbn : ((y.1.1).toNat : Int) = y.1.1 := Int.toNat_of_nonneg b1
  have y6 : y.1.1 ≠ 6 := by omega
  have sm := fun k a b => SMPs hR h h7 hw ht h1 h2 hl j1 j2 es js y5 yw yb y6 y1 k a b
  have mo : ∀ k, k ≤ K → zF (τ s) + osm false τ s k ≤ 93 := fun k hk => by
    have := osm_m false τ s k (K - k)
    rw [show k + (K - k) = K by omega] at this
    omega
  have cv : ∀ k, k < K → (∀ i, i ≤ k → ¬ rdY A B (s + i) y) → (s + k) % 7 = (y.1.1).toNat → XK A B s s (s + k) := fun k kK nr kb => by
    rcases sm k (by omega) (mo k (by omega)) with ⟨-, g⟩ | ⟨k0, g1, -, g3, -⟩
    · refine COVx hR h.1 (by omega) (by omega) (by omega) (by omega) (KA_mem g) (by rw [kb, hbn]) (by omega) (fun i hi c => nr k (Nat.le_refl _) ⟨by omega, i, hi, c⟩) ys yb
    · exact absurd g3 (nr k0 (by omega))
  by_cases c : ∃ k, k < K ∧ rdY A B (s + k) y
  · obtain ⟨k0, c3⟩ : ∃ k0, (k0 < K ∧ rdY A B (s + k0) y) ∧ ∀ i, i < k0 → ¬ (i < K ∧ rdY A B (s + i) y) := by
      obtain ⟨k, c1, c2⟩ := c
      obtain ⟨q, -, q2, q3, q4⟩ := fst_P (P := fun k => rdY A B (s + k) y) (a := 0) K ⟨k, by omega, by omega, c2⟩
      exact ⟨q, ⟨by omega, q3⟩, fun i hi p => q4 i (by omega) hi p.2⟩
    obtain ⟨⟨c1, c2⟩, c3⟩ := c3
    refine ⟨(y.1.1).toNat, k0, by omega, by rw [hbn, ya], fun k kK kk kb => cv k kK (fun i hi q => ?_) kb, fun k kk kK kw => ?_⟩
    · exact c3 i (by omega) ⟨by omega, q⟩
    · rcases sm k (by omega) (mo k (by omega)) with ⟨g, -⟩ | ⟨k1, g1, g2, g3, z, z1, z2, z3, z4, z5⟩
      · exact absurd c2 (g k0 (by omega))
      · have e : k1 = k0 := by
          rcases (by omega : k1 < k0 ∨ k1 = k0 ∨ k0 < k1) with q | q | q
          · exact absurd ⟨by omega, g3⟩ (c3 k1 q)
          · exact q
          · exact absurd c2 (g2 k0 q)
        subst e
        exact COVx hR h.1 (by omega) (by omega) (by omega) (by omega) (KA_mem z1) (by rw [kw, z5]) (by omega) (fun i hi q => NRD hR h.1 h7 hw ht h1 h2 hl j1 j2 (by omega) (T := s + k) (by omega) (by omega) (by omega) hi q z4 (by rw [z2, es])) z3 z2
  · refine ⟨(y.1.1).toNat, K, by omega, by rw [hbn, ya], fun k kK _ kb => cv k kK (fun i hi q => c ⟨i, by omega, q⟩) kb, fun k kk kK _ => by omega⟩
theorem SMPrx {L s0 : Nat} {τ : Nat → qS} (hR : RNN L τ) {A : Nat → List (Ms × Nat × Nat)} {ρ : Nat → qS × qS × qS} {B : Nat → List (Ms × Nat × Nat) × List (Ms × Nat × Nat) × List (Ms × Nat × Nat)} (h : ANC2 L s0 τ A ρ B) (h7 : 224 ≤ s0) {w : Nat} (hw : w < 6) {t : Nat} (ht : t % 7 = w) (h1 : 7 * 145 ≤ t) (h2 : t + 1 ≤ 7 * L) (hl : LKs (τ (t + 1)) w) {j : Nat} (j1 : 1 ≤ j) (j2 : j ≤ 143) {s : Nat} (es : s = t + 1 - 7 * j) (js : s0 < s) (ha : τ s 65 (w : Int) = 1) {n K : Nat} (eK : K = 7 * n + 6) (hK : s + K ≤ t + 1) (hF : zF (τ s) + osm false τ s K ≤ 93) {q : Nat} (eq : q = s / 7) : ∃ T r1, ∀ r, q + 1 ≤ r → r ≤ q + n → (r < r1 ∨ r1 + 1 ≤ r) → CXr A B s T r := by
  obtain ⟨b, k0, b6, -, c1, c2⟩ := SMPx hR h h7 hw ht h1 h2 hl j1 j2 es js ha hK hF
  have e7 : s % 7 = w + 1 := by omega
  refine ⟨s + k0 + 1, (s + k0) / 7, fun r r1 r2 r3 => ?_⟩
  rcases r3 with r3 | r3
  · obtain ⟨k, ek⟩ : ∃ k, s + k = 7 * r + b := ⟨7 * r + b - s, by omega⟩
    exact ⟨b, b6, Or.inl (by rw [← ek]; exact c1 k (by omega) (by omega) (by omega))⟩
  · obtain ⟨k, ek⟩ : ∃ k, s + k = 7 * r + w := ⟨7 * r + w - s, by omega⟩
    exact ⟨w, hw, Or.inr (by rw [← ek]; exact c2 k (by omega) (by omega) (by omega))⟩
theorem SMPcx {L s0 : Nat} {τ : Nat → qS} (hR : RNN L τ) {A : Nat → List (Ms × Nat × Nat)} {ρ : Nat → qS × qS × qS} {B : Nat → List (Ms × Nat × Nat) × List (Ms × Nat × Nat) × List (Ms × Nat × Nat)} (h : ANC2 L s0 τ A ρ B) (h7 : 224 ≤ s0) {w : Nat} (hw : w < 6) {t : Nat} (ht : t % 7 = w) (h1 : 7 * 145 ≤ t) (h2 : t + 1 ≤ 7 * L) (hl : LKs (τ (t + 1)) w) {j : Nat} (j1 : 1 ≤ j) (j2 : j ≤ 143) {s : Nat} (es : s = t + 1 - 7 * j) (js : s0 < s) (ha : τ s 65 (w : Int) = 1) {n K : Nat} (eK : K = 7 * n + 6) (hK : s + K ≤ t + 1) (hF : zF (τ s) + osm false τ s K ≤ 93) : ∃ T, n ≤ ctq (CXr A B s T) (s / 7 + 1) n + 1 := by
  obtain ⟨T, r1, c⟩ := SMPrx hR h h7 hw ht h1 h2 hl j1 j2 es js ha eK hK hF rfl
  exact ⟨T, ctq_gap0 c⟩
theorem SMPdx {L s0 : Nat} {τ : Nat → qS} (hR : RNN L τ) {A : Nat → List (Ms × Nat × Nat)} {ρ : Nat → qS × qS × qS} {B : Nat → List (Ms × Nat × Nat) × List (Ms × Nat × Nat) × List (Ms × Nat × Nat)} (h : ANC2 L s0 τ A ρ B) (h7 : 224 ≤ s0) {w : Nat} (hw : w < 6) {t : Nat} (ht : t % 7 = w) (h1 : 7 * 145 ≤ t) (h2 : t + 1 ≤ 7 * L) (hl : LKs (τ (t + 1)) w) {i s : Nat} (i1 : 1 ≤ i) (i2 : i ≤ 11) (es : s = t + 1 - 91 * i) (js : s0 < s) {n m : Nat} (em : m = n + 1) (hn : n ≤ 12) : (∃ T, n ≤ ctq (CXr A B s T) (s / 7 + 1) n + 1) ∨ 94 ≤ zF (τ s) + 3 * m + (ctq (OWv τ 0) s (7 * m) + ctq (OWv τ 1) s (7 * m) + ctq (OWv τ 2) s (7 * m) + ctq (OWv τ 3) s (7 * m) + ctq (OWv τ 4) s (7 * m) + ctq (OWv τ 5) s (7 * m)) + ctq (LKt τ) s (7 * m) := by
  by_cases c : zF (τ s) + osm false τ s (7 * n + 6) ≤ 93
  · left
    exact SMPcx hR h h7 hw ht h1 h2 hl (j := 13 * i) (by omega) (by omega) (by omega) js (by rw [es]; exact lk_age hR hw ht h1 h2 hl i1 i2) rfl (by omega) c
  · right
    have a := osm_6 τ s m
    have b := osm_m false τ s (7 * n + 6) 1
    rw [show 7 * n + 6 + 1 = 7 * m by omega] at b
    omega
theorem SMPqx {L s0 : Nat} {τ : Nat → qS} (hR : RNN L τ) {A : Nat → List (Ms × Nat × Nat)} {ρ : Nat → qS × qS × qS} {B : Nat → List (Ms × Nat × Nat) × List (Ms × Nat × Nat) × List (Ms × Nat × Nat)} (h : ANC2 L s0 τ A ρ B) (h7 : 224 ≤ s0) {w : Nat} (hw : w < 6) {t : Nat} (ht : t % 7 = w) (h1 : 7 * 145 ≤ t) (h2 : t + 1 ≤ 7 * L) (hl : LKs (τ (t + 1)) w) {j : Nat} (j1 : 1 ≤ j) (j2 : j ≤ 143) {s : Nat} (es : s = t + 1 - 7 * j) (js : s0 < s) (ha : τ s 65 (w : Int) = 1) {K : Nat} (hK : s + K ≤ t + 1) (hF : zQ (τ s) + osm true τ s K ≤ 93) : ∃ b k0 : Nat, b < 6 ∧ τ s 33 (τ s 64 (w : Int)) = (b : Int) ∧ (∀ k, k < K → k < k0 → (s + k) % 7 = b → XK A B s s (s + k)) ∧ ∀ k, k0 + 1 ≤ k → k < K → (s + k) % 7 = w → XK A B s (s + k0 + 1) (s + k) := by
  obtain ⟨-, v1, -⟩ := lk_wait hR hw ht h1 h2 hl (j - 1) (by omega)
  rw [show j - 1 + 1 = j by omega, ← es] at v1
  obtain ⟨u, eu⟩ : ∃ u, s = u + 1 := ⟨s - 1, by omega⟩
  have u7 : u % 7 = w := by omega
  have fe1 : fe (τ s) (w : Int) = 1 := by unfold fe; exact if_pos ⟨v1, ha⟩
  obtain ⟨y, y1, y5, yw, ya, ys, yb⟩ := BIRTH3 h (u := u) (by omega) (by omega) (by omega) (by rw [u7, ← eu]; exact fe1)
  rw [u7] at yw ya
  rw [← eu] at y1 ya ys yb
  have e0 := h.1.1.2.1 s (by omega) (by omega)
  have ym : y.1 ∈ ln (τ s) := by rw [← e0]; exact List.mem_map_of_mem (KQ_mem y1)
  obtain ⟨b1, b2⟩ := lt5_b hR (by omega) (by omega) ym y5
  have hbn : ((y.1.1).toNat : Int) = y.1.1 := Int.toNat_of_nonneg b1
  have y6 : y.1.1 ≠ 6 := by omega
  have sm := fun k a b => SMPsq hR h h7 hw ht h1 h2 hl j1 j2 es js y5 yw yb y6 y1 k a b
  have mo : ∀ k, k ≤ K → zQ (τ s) + osm true τ s k ≤ 93 := fun k hk => by
    have := osm_m true τ s k (K - k)
    rw [show k + (K - k) = K by omega] at this
    omega
  have cv : ∀ k, k < K → (∀ i, i ≤ k → ¬ rdY A B (s + i) y) → (s + k) % 7 = (y.1.1).toNat → XK A B s s (s + k) := fun k kK nr kb => by
    rcases sm k (by omega) (mo k (by omega)) with ⟨-, g⟩ | ⟨k0, g1, -, g3, -⟩
    · refine COVx hR h.1 (by omega) (by omega) (by omega) (by omega) (KQ_mem g) (by rw [kb, hbn]) (by omega) (fun i hi c => nr k (Nat.le_refl _) ⟨by omega, i, hi, c⟩) ys yb
    · exact absurd g3 (nr k0 (by omega))
  by_cases c : ∃ k, k < K ∧ rdY A B (s + k) y
  · obtain ⟨k0, c3⟩ : ∃ k0, (k0 < K ∧ rdY A B (s + k0) y) ∧ ∀ i, i < k0 → ¬ (i < K ∧ rdY A B (s + i) y) := by
      obtain ⟨k, c1, c2⟩ := c
      obtain ⟨q, -, q2, q3, q4⟩ := fst_P (P := fun k => rdY A B (s + k) y) (a := 0) K ⟨k, by omega, by omega, c2⟩
      exact ⟨q, ⟨by omega, q3⟩, fun i hi p => q4 i (by omega) hi p.2⟩
    obtain ⟨⟨c1, c2⟩, c3⟩ := c3
    refine ⟨(y.1.1).toNat, k0, by omega, by rw [hbn, ya], fun k kK kk kb => cv k kK (fun i hi q => ?_) kb, fun k kk kK kw => ?_⟩
    · exact c3 i (by omega) ⟨by omega, q⟩
    · rcases sm k (by omega) (mo k (by omega)) with ⟨g, -⟩ | ⟨k1, g1, g2, g3, z, z1, z2, z3, z4, z5⟩
      · exact absurd c2 (g k0 (by omega))
      · have e : k1 = k0 := by
          rcases (by omega : k1 < k0 ∨ k1 = k0 ∨ k0 < k1) with q | q | q
          · exact absurd ⟨by omega, g3⟩ (c3 k1 q)
          · exact q
          · exact absurd c2 (g2 k0 q)
        subst e
        exact COVx hR h.1 (by omega) (by omega) (by omega) (by omega) (KQ_mem z1) (by rw [kw, z5]) (by omega) (fun i hi q => NRD hR h.1 h7 hw ht h1 h2 hl j1 j2 (by omega) (T := s + k) (by omega) (by omega) (by omega) hi q z4 (by rw [z2, es])) z3 z2
  · refine ⟨(y.1.1).toNat, K, by omega, by rw [hbn, ya], fun k kK _ kb => cv k kK (fun i hi q => c ⟨i, by omega, q⟩) kb, fun k kk kK _ => by omega⟩
theorem SMPrqx {L s0 : Nat} {τ : Nat → qS} (hR : RNN L τ) {A : Nat → List (Ms × Nat × Nat)} {ρ : Nat → qS × qS × qS} {B : Nat → List (Ms × Nat × Nat) × List (Ms × Nat × Nat) × List (Ms × Nat × Nat)} (h : ANC2 L s0 τ A ρ B) (h7 : 224 ≤ s0) {w : Nat} (hw : w < 6) {t : Nat} (ht : t % 7 = w) (h1 : 7 * 145 ≤ t) (h2 : t + 1 ≤ 7 * L) (hl : LKs (τ (t + 1)) w) {j : Nat} (j1 : 1 ≤ j) (j2 : j ≤ 143) {s : Nat} (es : s = t + 1 - 7 * j) (js : s0 < s) (ha : τ s 65 (w : Int) = 1) {n K : Nat} (eK : K = 7 * n + 6) (hK : s + K ≤ t + 1) (hF : zQ (τ s) + osm true τ s K ≤ 93) {q : Nat} (eq : q = s / 7) : ∃ T r1, ∀ r, q + 1 ≤ r → r ≤ q + n → (r < r1 ∨ r1 + 1 ≤ r) → CXr A B s T r := by
  obtain ⟨b, k0, b6, -, c1, c2⟩ := SMPqx hR h h7 hw ht h1 h2 hl j1 j2 es js ha hK hF
  have e7 : s % 7 = w + 1 := by omega
  refine ⟨s + k0 + 1, (s + k0) / 7, fun r r1 r2 r3 => ?_⟩
  rcases r3 with r3 | r3
  · obtain ⟨k, ek⟩ : ∃ k, s + k = 7 * r + b := ⟨7 * r + b - s, by omega⟩
    exact ⟨b, b6, Or.inl (by rw [← ek]; exact c1 k (by omega) (by omega) (by omega))⟩
  · obtain ⟨k, ek⟩ : ∃ k, s + k = 7 * r + w := ⟨7 * r + w - s, by omega⟩
    exact ⟨w, hw, Or.inr (by rw [← ek]; exact c2 k (by omega) (by omega) (by omega))⟩
theorem SMPcqx {L s0 : Nat} {τ : Nat → qS} (hR : RNN L τ) {A : Nat → List (Ms × Nat × Nat)} {ρ : Nat → qS × qS × qS} {B : Nat → List (Ms × Nat × Nat) × List (Ms × Nat × Nat) × List (Ms × Nat × Nat)} (h : ANC2 L s0 τ A ρ B) (h7 : 224 ≤ s0) {w : Nat} (hw : w < 6) {t : Nat} (ht : t % 7 = w) (h1 : 7 * 145 ≤ t) (h2 : t + 1 ≤ 7 * L) (hl : LKs (τ (t + 1)) w) {j : Nat} (j1 : 1 ≤ j) (j2 : j ≤ 143) {s : Nat} (es : s = t + 1 - 7 * j) (js : s0 < s) (ha : τ s 65 (w : Int) = 1) {n K : Nat} (eK : K = 7 * n + 6) (hK : s + K ≤ t + 1) (hF : zQ (τ s) + osm true τ s K ≤ 93) : ∃ T, n ≤ ctq (CXr A B s T) (s / 7 + 1) n + 1 := by
  obtain ⟨T, r1, c⟩ := SMPrqx hR h h7 hw ht h1 h2 hl j1 j2 es js ha eK hK hF rfl
  exact ⟨T, ctq_gap0 c⟩
theorem SMPdqx {L s0 : Nat} {τ : Nat → qS} (hR : RNN L τ) {A : Nat → List (Ms × Nat × Nat)} {ρ : Nat → qS × qS × qS} {B : Nat → List (Ms × Nat × Nat) × List (Ms × Nat × Nat) × List (Ms × Nat × Nat)} (h : ANC2 L s0 τ A ρ B) (h7 : 224 ≤ s0) {w : Nat} (hw : w < 6) {t : Nat} (ht : t % 7 = w) (h1 : 7 * 145 ≤ t) (h2 : t + 1 ≤ 7 * L) (hl : LKs (τ (t + 1)) w) {i s : Nat} (i1 : 1 ≤ i) (i2 : i ≤ 11) (es : s = t + 1 - 91 * i) (js : s0 < s) {n m : Nat} (em : m = n + 1) (hn : n ≤ 12) : (∃ T, n ≤ ctq (CXr A B s T) (s / 7 + 1) n + 1) ∨ 94 ≤ zQ (τ s) + (ctq (OWv τ 0) s (7 * m) + ctq (OWv τ 1) s (7 * m) + ctq (OWv τ 2) s (7 * m) + ctq (OWv τ 3) s (7 * m) + ctq (OWv τ 4) s (7 * m) + ctq (OWv τ 5) s (7 * m)) + ctq (LKt τ) s (7 * m) := by
  by_cases c : zQ (τ s) + osm true τ s (7 * n + 6) ≤ 93
  · left
    exact SMPcqx hR h h7 hw ht h1 h2 hl (j := 13 * i) (by omega) (by omega) (by omega) js (by rw [es]; exact lk_age hR hw ht h1 h2 hl i1 i2) rfl (by omega) c
  · right
    have a := osm_7 τ s m
    have b := osm_m true τ s (7 * n + 6) 1
    rw [show 7 * n + 6 + 1 = 7 * m by omega] at b
    omega
theorem SMPh {L s0 : Nat} {τ : Nat → qS} (hR : RNN L τ) {A : Nat → List (Ms × Nat × Nat)} {ρ : Nat → qS × qS × qS} {B : Nat → List (Ms × Nat × Nat) × List (Ms × Nat × Nat) × List (Ms × Nat × Nat)} (h : ANC2 L s0 τ A ρ B) (h7 : 224 ≤ s0) {w : Nat} (hw : w < 6) {t : Nat} (ht : t % 7 = w) (h1 : 7 * 145 ≤ t) (h2 : t + 7 ≤ 7 * L) (hl : LKs (τ (t + 1)) w) {i s : Nat} (i1 : 1 ≤ i) (i2 : i ≤ 11) (es : s = t + 1 - 91 * i) (js : s0 + 231 ≤ s) {n m : Nat} (em : m = n + 1) (hn : n ≤ 12) : CFr A (s / 7) ∨ (∃ T, n ≤ ctq (CXr A B s T) (s / 7 + 1) n + 1) ∨ 70 ≤ min (3 * m) (mqc (A s)) + (ctq (OWv τ 0) s (7 * m) + ctq (OWv τ 1) s (7 * m) + ctq (OWv τ 2) s (7 * m) + ctq (OWv τ 3) s (7 * m) + ctq (OWv τ 4) s (7 * m) + ctq (OWv τ 5) s (7 * m)) + ctq (LKt τ) s (7 * m) + ctq (LKt τ) (7 * (s / 7)) 6 := by
  have z := zA_m hR h (t := s) (by omega) (by omega) (by omega)
  by_cases c : CFr A (s / 7)
  · exact Or.inl c
  · right
    have u := UNFs0 hR h h7 (s := s) js (by omega) c
    rcases SMPdx hR h h7 hw ht h1 (by omega) hl i1 i2 es (by omega) em hn with a | a
    · exact Or.inl a
    rcases SMPdqx hR h h7 hw ht h1 (by omega) hl i1 i2 es (by omega) em hn with b | b
    · exact Or.inl b
    right
    have zz := zQ_s (τ s)
    omega
-- own names whose FETCH is read while the token lies unread: at most six for each of its two letters
theorem XK_b {L s0 : Nat} {τ : Nat → qS} (hR : RNN L τ) {A : Nat → List (Ms × Nat × Nat)} {ρ : Nat → qS × qS × qS} {B : Nat → List (Ms × Nat × Nat) × List (Ms × Nat × Nat) × List (Ms × Nat × Nat)} (h : ANC L s0 τ A ρ B) {s g t i b : Nat} (h0 : 224 ≤ t) (h1 : s0 ≤ t) (h2 : t < 7 * L) (hx : XK A B s g t) (hi : i < 3) (hr : rdk τ A ρ B 5 t i b) : b ≤ g ∧ g ≤ t := by
  obtain ⟨h6, y, hy, yw, hn, yg, -⟩ := hx
  have ys : y.2.1 ≤ t := by
    have k := ANR_srt h.1 (t - s0) (by omega)
    rw [show s0 + (t - s0) = t by omega] at k
    exact k.2 y hy
  have st : ∀ j, j < 3 → y ∈ stA A B t j := fun j => by
    induction j with
    | zero => intro _; exact hy
    | succ j ih =>
      intro q
      have m := ih (by omega)
      apply Classical.byContradiction
      intro z
      exact hn j (by omega) (RDn_lv (st_rd h h1 h2 h6 (i := j) (by omega)) (st_95 hR h h0 h1 h2 h6 j (by omega)) m z)
  obtain ⟨-, x, xb, xh, -, x5⟩ := hr
  have lb := hd_lb (st_srt h h1 h2 h6 i (by omega)) xh
  have a := lb y (st i hi) yw
  have xA := st_f5 h h1 h2 h6 i (by omega) x (hd_mem xh).1 x5
  have fs := ANR_fs h.1 (t - s0) (by omega)
  rw [show s0 + (t - s0) = t by omega] at fs
  have e := fs x xA x5
  exact ⟨by omega, by omega⟩
theorem XK_ow {L s0 : Nat} {τ : Nat → qS} (hR : RNN L τ) {A : Nat → List (Ms × Nat × Nat)} {ρ : Nat → qS × qS × qS} {B : Nat → List (Ms × Nat × Nat) × List (Ms × Nat × Nat) × List (Ms × Nat × Nat)} (h : ANC L s0 τ A ρ B) {s g x m : Nat} (hx0 : 224 ≤ s0) (hx : s0 < x) : ctq (fun b => OWb L s0 τ A ρ B b ∧ ∃ t i, s0 ≤ t ∧ t < 7 * L ∧ i < 3 ∧ XK A B s g t ∧ rdk τ A ρ B 5 t i b) x m ≤ 6 := by
  have a := ctq_mo (P := fun b => OWb L s0 τ A ρ B b ∧ ∃ t i, s0 ≤ t ∧ t < 7 * L ∧ i < 3 ∧ XK A B s g t ∧ rdk τ A ρ B 5 t i b) (Q := OWs L τ A ρ B g) (s := x) m (fun b b1 b2 ⟨⟨t', a1, a2, a3, a4⟩, t, i, t1, t2, hi, xk, hr⟩ => by
    obtain ⟨c1, c2⟩ := XK_b hR h (by omega) t1 t2 xk hi hr
    obtain ⟨j, hj, r6⟩ := ACC_rd a3
    have l := rd56 h (b := b) (by omega) t1 t2 a1 a2 hj hi hr r6
    exact ⟨c1, t', by omega, a2, a3, a4⟩)
  exact Nat.le_trans a (OWs_6 hR h hx m)

