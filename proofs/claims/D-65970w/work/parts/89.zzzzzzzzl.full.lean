-- full ticks in place of T1t (r14)
def T0t (A : Nat → List (Ms × Nat × Nat)) (t : Nat) : Prop := t % 7 < 6 ∧ 3 ≤ oc t ((t % 7 : Nat) : Int) (A t)
def CFr (A : Nat → List (Ms × Nat × Nat)) (r : Nat) : Prop := ∃ v, v < 6 ∧ T0t A (7 * r + v)
theorem COV0 {L s0 : Nat} {τ : Nat → qS} (hR : RNN L τ) {A : Nat → List (Ms × Nat × Nat)} {ρ : Nat → qS × qS × qS} {B : Nat → List (Ms × Nat × Nat) × List (Ms × Nat × Nat) × List (Ms × Nat × Nat)} (h : ANC L s0 τ A ρ B) {u : Nat} (h0 : 224 ≤ u) (h1 : s0 ≤ u) (h2 : u < 7 * L) (h6 : u % 7 < 6) {y : Ms × Nat × Nat} (hy : y ∈ A u) (yw : y.1.1 = ((u % 7 : Nat) : Int)) (ho : y.2.1 ≤ u) (hn : ∀ i, i < 3 → ¬ hdA ((u % 7 : Nat) : Int) (stA A B u i) y) : T0t A u := by
  rcases rd_oq hR h h0 h1 h2 h6 hy yw with ⟨i, hi, q⟩ | q
  · exact absurd q (hn i hi)
  · have := oc_mo ho ((u % 7 : Nat) : Int) (A u)
    exact ⟨h6, by omega⟩
theorem ctq_gap0 {P : Nat → Prop} {q n r1 : Nat} (h : ∀ r, q + 1 ≤ r → r ≤ q + n → (r < r1 ∨ r1 + 1 ≤ r) → P r) : n ≤ ctq P (q + 1) n + 1 := by
  have a := ctq_all (P := fun _ => True) (s := q + 1) n (fun _ _ _ => trivial)
  have b := ctq_or (P := fun _ => True) (Q := P) (R := fun r => r = r1) (s := q + 1) n (fun r h1 h2 _ => by
    by_cases c : r = r1
    · exact Or.inr c
    · exact Or.inl (h r (by omega) (by omega) (by omega)))
  have o3 := ctq_one (P := fun r => r = r1) (s := q + 1) n (fun t t' _ _ _ _ p p' => by omega)
  omega
theorem SMP0 {L s0 : Nat} {τ : Nat → qS} (hR : RNN L τ) {A : Nat → List (Ms × Nat × Nat)} {ρ : Nat → qS × qS × qS} {B : Nat → List (Ms × Nat × Nat) × List (Ms × Nat × Nat) × List (Ms × Nat × Nat)} (h : ANC2 L s0 τ A ρ B) (h7 : 224 ≤ s0) {w : Nat} (hw : w < 6) {t : Nat} (ht : t % 7 = w) (h1 : 7 * 145 ≤ t) (h2 : t + 1 ≤ 7 * L) (hl : LKs (τ (t + 1)) w) {j : Nat} (j1 : 1 ≤ j) (j2 : j ≤ 143) {s : Nat} (es : s = t + 1 - 7 * j) (js : s0 < s) (ha : τ s 65 (w : Int) = 1) {K : Nat} (hK : s + K ≤ t + 1) (hF : zF (τ s) + osm false τ s K ≤ 93) : ∃ b k0 : Nat, b < 6 ∧ τ s 33 (τ s 64 (w : Int)) = (b : Int) ∧ (∀ k, k < K → k < k0 → (s + k) % 7 = b → T0t A (s + k)) ∧ ∀ k, k0 + 1 ≤ k → k < K → (s + k) % 7 = w → T0t A (s + k) := by
  obtain ⟨-, v1, -⟩ := lk_wait hR hw ht h1 h2 hl (j - 1) (by omega)
  rw [show j - 1 + 1 = j by omega, ← es] at v1
  obtain ⟨u, eu⟩ : ∃ u, s = u + 1 := ⟨s - 1, by omega⟩
  have u7 : u % 7 = w := by omega
  have fe1 : fe (τ s) (w : Int) = 1 := by unfold fe; exact if_pos ⟨v1, ha⟩
  obtain ⟨y, y1, y5, yw, ya, ys, yb⟩ := BIRTH2 h (u := u) (by omega) (by omega) (by omega) (by rw [u7, ← eu]; exact fe1)
  rw [u7] at yw ya
  rw [← eu] at y1 ya ys yb
  have e0 := h.1.1.2.1 s (by omega) (by omega)
  have ym : y.1 ∈ ln (τ s) := by rw [← e0]; exact List.mem_map_of_mem (KA_mem y1)
  obtain ⟨b1, b2⟩ := lt5_b hR (by omega) (by omega) ym y5
  have hbn : ((y.1.1).toNat : Int) = y.1.1 := Int.toNat_of_nonneg b1
  have y6 : y.1.1 ≠ 6 := by omega
  have sm := fun k a b => SMPs hR h h7 hw ht h1 h2 hl j1 j2 es js y5 yw yb y6 y1 k a b
  have mo : ∀ k, k ≤ K → zF (τ s) + osm false τ s k ≤ 93 := fun k hk => by
    have := osm_m false τ s k (K - k)
    rw [show k + (K - k) = K by omega] at this
    omega
  have cv : ∀ k, k < K → (∀ i, i ≤ k → ¬ rdY A B (s + i) y) → (s + k) % 7 = (y.1.1).toNat → T0t A (s + k) := fun k kK nr kb => by
    rcases sm k (by omega) (mo k (by omega)) with ⟨-, g⟩ | ⟨k0, g1, -, g3, -⟩
    · refine COV0 hR h.1 (by omega) (by omega) (by omega) (by omega) (KA_mem g) (by rw [kb, hbn]) (by omega) (fun i hi c => nr k (Nat.le_refl _) ⟨by omega, i, hi, c⟩)
    · exact absurd g3 (nr k0 (by omega))
  by_cases c : ∃ k, k < K ∧ rdY A B (s + k) y
  · obtain ⟨k0, c3⟩ : ∃ k0, (k0 < K ∧ rdY A B (s + k0) y) ∧ ∀ i, i < k0 → ¬ (i < K ∧ rdY A B (s + i) y) := by
      obtain ⟨k, c1, c2⟩ := c
      obtain ⟨q, -, q2, q3, q4⟩ := fst_P (P := fun k => rdY A B (s + k) y) (a := 0) K ⟨k, by omega, by omega, c2⟩
      exact ⟨q, ⟨by omega, q3⟩, fun i hi p => q4 i (by omega) hi p.2⟩
    obtain ⟨⟨c1, c2⟩, c3⟩ := c3
    refine ⟨(y.1.1).toNat, k0, by omega, by rw [hbn, ya], fun k kK kk kb => cv k kK (fun i hi q => ?_) kb, fun k kk kK kw => ?_⟩
    · exact c3 i (by omega) ⟨by omega, q⟩
    · rcases sm k (by omega) (mo k (by omega)) with ⟨g, -⟩ | ⟨k1, g1, g2, g3, z, z1, z2, z3, z4, z5⟩
      · exact absurd c2 (g k0 (by omega))
      · have e : k1 = k0 := by
          rcases (by omega : k1 < k0 ∨ k1 = k0 ∨ k0 < k1) with q | q | q
          · exact absurd ⟨by omega, g3⟩ (c3 k1 q)
          · exact q
          · exact absurd c2 (g2 k0 q)
        subst e
        exact COV0 hR h.1 (by omega) (by omega) (by omega) (by omega) (KA_mem z1) (by rw [kw, z5]) (by omega) (fun i hi q => NRD hR h.1 h7 hw ht h1 h2 hl j1 j2 (by omega) (T := s + k) (by omega) (by omega) (by omega) hi q z4 (by rw [z2, es]))
  · refine ⟨(y.1.1).toNat, K, by omega, by rw [hbn, ya], fun k kK _ kb => cv k kK (fun i hi q => c ⟨i, by omega, q⟩) kb, fun k kk kK _ => by omega⟩
theorem SMPr0 {L s0 : Nat} {τ : Nat → qS} (hR : RNN L τ) {A : Nat → List (Ms × Nat × Nat)} {ρ : Nat → qS × qS × qS} {B : Nat → List (Ms × Nat × Nat) × List (Ms × Nat × Nat) × List (Ms × Nat × Nat)} (h : ANC2 L s0 τ A ρ B) (h7 : 224 ≤ s0) {w : Nat} (hw : w < 6) {t : Nat} (ht : t % 7 = w) (h1 : 7 * 145 ≤ t) (h2 : t + 1 ≤ 7 * L) (hl : LKs (τ (t + 1)) w) {j : Nat} (j1 : 1 ≤ j) (j2 : j ≤ 143) {s : Nat} (es : s = t + 1 - 7 * j) (js : s0 < s) (ha : τ s 65 (w : Int) = 1) {n K : Nat} (eK : K = 7 * n + 6) (hK : s + K ≤ t + 1) (hF : zF (τ s) + osm false τ s K ≤ 93) {q : Nat} (eq : q = s / 7) : ∃ r1, ∀ r, q + 1 ≤ r → r ≤ q + n → (r < r1 ∨ r1 + 1 ≤ r) → CFr A r := by
  obtain ⟨b, k0, b6, -, c1, c2⟩ := SMP0 hR h h7 hw ht h1 h2 hl j1 j2 es js ha hK hF
  have e7 : s % 7 = w + 1 := by omega
  refine ⟨(s + k0) / 7, fun r r1 r2 r3 => ?_⟩
  rcases r3 with r3 | r3
  · obtain ⟨k, ek⟩ : ∃ k, s + k = 7 * r + b := ⟨7 * r + b - s, by omega⟩
    exact ⟨b, b6, by rw [← ek]; exact c1 k (by omega) (by omega) (by omega)⟩
  · obtain ⟨k, ek⟩ : ∃ k, s + k = 7 * r + w := ⟨7 * r + w - s, by omega⟩
    exact ⟨w, hw, by rw [← ek]; exact c2 k (by omega) (by omega) (by omega)⟩
theorem SMPc0 {L s0 : Nat} {τ : Nat → qS} (hR : RNN L τ) {A : Nat → List (Ms × Nat × Nat)} {ρ : Nat → qS × qS × qS} {B : Nat → List (Ms × Nat × Nat) × List (Ms × Nat × Nat) × List (Ms × Nat × Nat)} (h : ANC2 L s0 τ A ρ B) (h7 : 224 ≤ s0) {w : Nat} (hw : w < 6) {t : Nat} (ht : t % 7 = w) (h1 : 7 * 145 ≤ t) (h2 : t + 1 ≤ 7 * L) (hl : LKs (τ (t + 1)) w) {j : Nat} (j1 : 1 ≤ j) (j2 : j ≤ 143) {s : Nat} (es : s = t + 1 - 7 * j) (js : s0 < s) (ha : τ s 65 (w : Int) = 1) {n K : Nat} (eK : K = 7 * n + 6) (hK : s + K ≤ t + 1) (hF : zF (τ s) + osm false τ s K ≤ 93) : n ≤ ctq (CFr A) (s / 7 + 1) n + 1 := by
  obtain ⟨r1, c⟩ := SMPr0 hR h h7 hw ht h1 h2 hl j1 j2 es js ha eK hK hF rfl
  exact ctq_gap0 c
theorem SMPd0 {L s0 : Nat} {τ : Nat → qS} (hR : RNN L τ) {A : Nat → List (Ms × Nat × Nat)} {ρ : Nat → qS × qS × qS} {B : Nat → List (Ms × Nat × Nat) × List (Ms × Nat × Nat) × List (Ms × Nat × Nat)} (h : ANC2 L s0 τ A ρ B) (h7 : 224 ≤ s0) {w : Nat} (hw : w < 6) {t : Nat} (ht : t % 7 = w) (h1 : 7 * 145 ≤ t) (h2 : t + 1 ≤ 7 * L) (hl : LKs (τ (t + 1)) w) {i s : Nat} (i1 : 1 ≤ i) (i2 : i ≤ 11) (es : s = t + 1 - 91 * i) (js : s0 < s) {n m : Nat} (em : m = n + 1) (hn : n ≤ 12) : n ≤ ctq (CFr A) (s / 7 + 1) n + 1 ∨ 94 ≤ zF (τ s) + 3 * m + (ctq (OWv τ 0) s (7 * m) + ctq (OWv τ 1) s (7 * m) + ctq (OWv τ 2) s (7 * m) + ctq (OWv τ 3) s (7 * m) + ctq (OWv τ 4) s (7 * m) + ctq (OWv τ 5) s (7 * m)) + ctq (LKt τ) s (7 * m) := by
  by_cases c : zF (τ s) + osm false τ s (7 * n + 6) ≤ 93
  · left
    exact SMPc0 hR h h7 hw ht h1 h2 hl (j := 13 * i) (by omega) (by omega) (by omega) js (by rw [es]; exact lk_age hR hw ht h1 h2 hl i1 i2) rfl (by omega) c
  · right
    have a := osm_6 τ s m
    have b := osm_m false τ s (7 * n + 6) 1
    rw [show 7 * n + 6 + 1 = 7 * m by omega] at b
    omega
theorem SMPq0 {L s0 : Nat} {τ : Nat → qS} (hR : RNN L τ) {A : Nat → List (Ms × Nat × Nat)} {ρ : Nat → qS × qS × qS} {B : Nat → List (Ms × Nat × Nat) × List (Ms × Nat × Nat) × List (Ms × Nat × Nat)} (h : ANC2 L s0 τ A ρ B) (h7 : 224 ≤ s0) {w : Nat} (hw : w < 6) {t : Nat} (ht : t % 7 = w) (h1 : 7 * 145 ≤ t) (h2 : t + 1 ≤ 7 * L) (hl : LKs (τ (t + 1)) w) {j : Nat} (j1 : 1 ≤ j) (j2 : j ≤ 143) {s : Nat} (es : s = t + 1 - 7 * j) (js : s0 < s) (ha : τ s 65 (w : Int) = 1) {K : Nat} (hK : s + K ≤ t + 1) (hF : zQ (τ s) + osm true τ s K ≤ 93) : ∃ b k0 : Nat, b < 6 ∧ τ s 33 (τ s 64 (w : Int)) = (b : Int) ∧ (∀ k, k < K → k < k0 → (s + k) % 7 = b → T0t A (s + k)) ∧ ∀ k, k0 + 1 ≤ k → k < K → (s + k) % 7 = w → T0t A (s + k) := by
  obtain ⟨-, v1, -⟩ := lk_wait hR hw ht h1 h2 hl (j - 1) (by omega)
  rw [show j - 1 + 1 = j by omega, ← es] at v1
  obtain ⟨u, eu⟩ : ∃ u, s = u + 1 := ⟨s - 1, by omega⟩
  have u7 : u % 7 = w := by omega
  have fe1 : fe (τ s) (w : Int) = 1 := by unfold fe; exact if_pos ⟨v1, ha⟩
  obtain ⟨y, y1, y5, yw, ya, ys, yb⟩ := BIRTH3 h (u := u) (by omega) (by omega) (by omega) (by rw [u7, ← eu]; exact fe1)
  rw [u7] at yw ya
  rw [← eu] at y1 ya ys yb
  have e0 := h.1.1.2.1 s (by omega) (by omega)
  have ym : y.1 ∈ ln (τ s) := by rw [← e0]; exact List.mem_map_of_mem (KQ_mem y1)
  obtain ⟨b1, b2⟩ := lt5_b hR (by omega) (by omega) ym y5
  have hbn : ((y.1.1).toNat : Int) = y.1.1 := Int.toNat_of_nonneg b1
  have y6 : y.1.1 ≠ 6 := by omega
  have sm := fun k a b => SMPsq hR h h7 hw ht h1 h2 hl j1 j2 es js y5 yw yb y6 y1 k a b
  have mo : ∀ k, k ≤ K → zQ (τ s) + osm true τ s k ≤ 93 := fun k hk => by
    have := osm_m true τ s k (K - k)
    rw [show k + (K - k) = K by omega] at this
    omega
  have cv : ∀ k, k < K → (∀ i, i ≤ k → ¬ rdY A B (s + i) y) → (s + k) % 7 = (y.1.1).toNat → T0t A (s + k) := fun k kK nr kb => by
    rcases sm k (by omega) (mo k (by omega)) with ⟨-, g⟩ | ⟨k0, g1, -, g3, -⟩
    · refine COV0 hR h.1 (by omega) (by omega) (by omega) (by omega) (KQ_mem g) (by rw [kb, hbn]) (by omega) (fun i hi c => nr k (Nat.le_refl _) ⟨by omega, i, hi, c⟩)
    · exact absurd g3 (nr k0 (by omega))
  by_cases c : ∃ k, k < K ∧ rdY A B (s + k) y
  · obtain ⟨k0, c3⟩ : ∃ k0, (k0 < K ∧ rdY A B (s + k0) y) ∧ ∀ i, i < k0 → ¬ (i < K ∧ rdY A B (s + i) y) := by
      obtain ⟨k, c1, c2⟩ := c
      obtain ⟨q, -, q2, q3, q4⟩ := fst_P (P := fun k => rdY A B (s + k) y) (a := 0) K ⟨k, by omega, by omega, c2⟩
      exact ⟨q, ⟨by omega, q3⟩, fun i hi p => q4 i (by omega) hi p.2⟩
    obtain ⟨⟨c1, c2⟩, c3⟩ := c3
    refine ⟨(y.1.1).toNat, k0, by omega, by rw [hbn, ya], fun k kK kk kb => cv k kK (fun i hi q => ?_) kb, fun k kk kK kw => ?_⟩
    · exact c3 i (by omega) ⟨by omega, q⟩
    · rcases sm k (by omega) (mo k (by omega)) with ⟨g, -⟩ | ⟨k1, g1, g2, g3, z, z1, z2, z3, z4, z5⟩
      · exact absurd c2 (g k0 (by omega))
      · have e : k1 = k0 := by
          rcases (by omega : k1 < k0 ∨ k1 = k0 ∨ k0 < k1) with q | q | q
          · exact absurd ⟨by omega, g3⟩ (c3 k1 q)
          · exact q
          · exact absurd c2 (g2 k0 q)
        subst e
        exact COV0 hR h.1 (by omega) (by omega) (by omega) (by omega) (KQ_mem z1) (by rw [kw, z5]) (by omega) (fun i hi q => NRD hR h.1 h7 hw ht h1 h2 hl j1 j2 (by omega) (T := s + k) (by omega) (by omega) (by omega) hi q z4 (by rw [z2, es]))
  · refine ⟨(y.1.1).toNat, K, by omega, by rw [hbn, ya], fun k kK _ kb => cv k kK (fun i hi q => c ⟨i, by omega, q⟩) kb, fun k kk kK _ => by omega⟩
theorem SMPrq0 {L s0 : Nat} {τ : Nat → qS} (hR : RNN L τ) {A : Nat → List (Ms × Nat × Nat)} {ρ : Nat → qS × qS × qS} {B : Nat → List (Ms × Nat × Nat) × List (Ms × Nat × Nat) × List (Ms × Nat × Nat)} (h : ANC2 L s0 τ A ρ B) (h7 : 224 ≤ s0) {w : Nat} (hw : w < 6) {t : Nat} (ht : t % 7 = w) (h1 : 7 * 145 ≤ t) (h2 : t + 1 ≤ 7 * L) (hl : LKs (τ (t + 1)) w) {j : Nat} (j1 : 1 ≤ j) (j2 : j ≤ 143) {s : Nat} (es : s = t + 1 - 7 * j) (js : s0 < s) (ha : τ s 65 (w : Int) = 1) {n K : Nat} (eK : K = 7 * n + 6) (hK : s + K ≤ t + 1) (hF : zQ (τ s) + osm true τ s K ≤ 93) {q : Nat} (eq : q = s / 7) : ∃ r1, ∀ r, q + 1 ≤ r → r ≤ q + n → (r < r1 ∨ r1 + 1 ≤ r) → CFr A r := by
  obtain ⟨b, k0, b6, -, c1, c2⟩ := SMPq0 hR h h7 hw ht h1 h2 hl j1 j2 es js ha hK hF
  have e7 : s % 7 = w + 1 := by omega
  refine ⟨(s + k0) / 7, fun r r1 r2 r3 => ?_⟩
  rcases r3 with r3 | r3
  · obtain ⟨k, ek⟩ : ∃ k, s + k = 7 * r + b := ⟨7 * r + b - s, by omega⟩
    exact ⟨b, b6, by rw [← ek]; exact c1 k (by omega) (by omega) (by omega)⟩
  · obtain ⟨k, ek⟩ : ∃ k, s + k = 7 * r + w := ⟨7 * r + w - s, by omega⟩
    exact ⟨w, hw, by rw [← ek]; exact c2 k (by omega) (by omega) (by omega)⟩
theorem SMPcq0 {L s0 : Nat} {τ : Nat → qS} (hR : RNN L τ) {A : Nat → List (Ms × Nat × Nat)} {ρ : Nat → qS × qS × qS} {B : Nat → List (Ms × Nat × Nat) × List (Ms × Nat × Nat) × List (Ms × Nat × Nat)} (h : ANC2 L s0 τ A ρ B) (h7 : 224 ≤ s0) {w : Nat} (hw : w < 6) {t : Nat} (ht : t % 7 = w) (h1 : 7 * 145 ≤ t) (h2 : t + 1 ≤ 7 * L) (hl : LKs (τ (t + 1)) w) {j : Nat} (j1 : 1 ≤ j) (j2 : j ≤ 143) {s : Nat} (es : s = t + 1 - 7 * j) (js : s0 < s) (ha : τ s 65 (w : Int) = 1) {n K : Nat} (eK : K = 7 * n + 6) (hK : s + K ≤ t + 1) (hF : zQ (τ s) + osm true τ s K ≤ 93) : n ≤ ctq (CFr A) (s / 7 + 1) n + 1 := by
  obtain ⟨r1, c⟩ := SMPrq0 hR h h7 hw ht h1 h2 hl j1 j2 es js ha eK hK hF rfl
  exact ctq_gap0 c
theorem SMPdq0 {L s0 : Nat} {τ : Nat → qS} (hR : RNN L τ) {A : Nat → List (Ms × Nat × Nat)} {ρ : Nat → qS × qS × qS} {B : Nat → List (Ms × Nat × Nat) × List (Ms × Nat × Nat) × List (Ms × Nat × Nat)} (h : ANC2 L s0 τ A ρ B) (h7 : 224 ≤ s0) {w : Nat} (hw : w < 6) {t : Nat} (ht : t % 7 = w) (h1 : 7 * 145 ≤ t) (h2 : t + 1 ≤ 7 * L) (hl : LKs (τ (t + 1)) w) {i s : Nat} (i1 : 1 ≤ i) (i2 : i ≤ 11) (es : s = t + 1 - 91 * i) (js : s0 < s) {n m : Nat} (em : m = n + 1) (hn : n ≤ 12) : n ≤ ctq (CFr A) (s / 7 + 1) n + 1 ∨ 94 ≤ zQ (τ s) + (ctq (OWv τ 0) s (7 * m) + ctq (OWv τ 1) s (7 * m) + ctq (OWv τ 2) s (7 * m) + ctq (OWv τ 3) s (7 * m) + ctq (OWv τ 4) s (7 * m) + ctq (OWv τ 5) s (7 * m)) + ctq (LKt τ) s (7 * m) := by
  by_cases c : zQ (τ s) + osm true τ s (7 * n + 6) ≤ 93
  · left
    exact SMPcq0 hR h h7 hw ht h1 h2 hl (j := 13 * i) (by omega) (by omega) (by omega) js (by rw [es]; exact lk_age hR hw ht h1 h2 hl i1 i2) rfl (by omega) c
  · right
    have a := osm_7 τ s m
    have b := osm_m true τ s (7 * n + 6) 1
    rw [show 7 * n + 6 + 1 = 7 * m by omega] at b
    omega
theorem OLD0 {L s0 : Nat} {τ : Nat → qS} (hR : RNN L τ) {A : Nat → List (Ms × Nat × Nat)} {ρ : Nat → qS × qS × qS} {B : Nat → List (Ms × Nat × Nat) × List (Ms × Nat × Nat) × List (Ms × Nat × Nat)} (h : ANC2 L s0 τ A ρ B) {r : Nat} (h0 : 224 ≤ 7 * r) (h1 : s0 ≤ 7 * r) (h2 : 7 * r + 7 ≤ 7 * L) (hc : ¬ CFr A r) : oW (7 * r) 0 (A (7 * r)) ≤ 12 + (ow (τ (7 * r + 1)) 0 + ow (τ (7 * r + 2)) 1 + ow (τ (7 * r + 3)) 2 + ow (τ (7 * r + 4)) 3 + ow (τ (7 * r + 5)) 4 + ow (τ (7 * r + 6)) 5) := by
  have st : ∀ v, v < 6 → oW (7 * r) v (A (7 * r + v)) ≤ 2 + oW (7 * r) (v + 1) (A (7 * r + (v + 1))) + ow (τ (7 * r + (v + 1))) (v : Int) := fun v hv => by
    have a := oW_s (7 * r) v hv (A (7 * r + v))
    have b : oc (7 * r) (v : Int) (A (7 * r + v)) ≤ 2 := by
      apply Classical.byContradiction
      intro n
      have m := oc_mo (g := 7 * r) (g' := 7 * r + v) (by omega) (v : Int) (A (7 * r + v))
      exact hc ⟨v, hv, by omega, by rw [show (7 * r + v) % 7 = v by omega]; omega⟩
    have c := cp_tk hR h (p := fun y => decide (y.2.1 ≤ 7 * r ∧ ((v + 1 : Nat) : Int) ≤ y.1.1 ∧ y.1.1 < 6)) (u := 7 * r + v) (by omega) (by omega) (by omega) (by omega) (fun y e => decide_eq_false (fun q => by rw [show (7 * r + v) % 7 = v by omega] at e; omega))
    rw [show (7 * r + v) % 7 = v by omega] at c
    unfold oW at a ⊢
    rw [show 7 * r + (v + 1) = 7 * r + v + 1 by omega]
    omega
  have z : oW (7 * r) 6 (A (7 * r + 6)) = 0 := List.countP_eq_zero.mpr (fun y _ q => by
    have := of_decide_eq_true q
    omega)
  have s0' : oW (7 * r) 0 (A (7 * r)) ≤ 2 + oW (7 * r) 1 (A (7 * r + 1)) + ow (τ (7 * r + 1)) 0 := st 0 (by omega)
  have s1 : oW (7 * r) 1 (A (7 * r + 1)) ≤ 2 + oW (7 * r) 2 (A (7 * r + 2)) + ow (τ (7 * r + 2)) 1 := st 1 (by omega)
  have s2 : oW (7 * r) 2 (A (7 * r + 2)) ≤ 2 + oW (7 * r) 3 (A (7 * r + 3)) + ow (τ (7 * r + 3)) 2 := st 2 (by omega)
  have s3 : oW (7 * r) 3 (A (7 * r + 3)) ≤ 2 + oW (7 * r) 4 (A (7 * r + 4)) + ow (τ (7 * r + 4)) 3 := st 3 (by omega)
  have s4 : oW (7 * r) 4 (A (7 * r + 4)) ≤ 2 + oW (7 * r) 5 (A (7 * r + 5)) + ow (τ (7 * r + 5)) 4 := st 4 (by omega)
  have s5 : oW (7 * r) 5 (A (7 * r + 5)) ≤ 2 + oW (7 * r) 6 (A (7 * r + 6)) + ow (τ (7 * r + 6)) 5 := st 5 (by omega)
  omega
theorem UNF0 {L s0 : Nat} {τ : Nat → qS} (hR : RNN L τ) {A : Nat → List (Ms × Nat × Nat)} {ρ : Nat → qS × qS × qS} {B : Nat → List (Ms × Nat × Nat) × List (Ms × Nat × Nat) × List (Ms × Nat × Nat)} (h : ANC2 L s0 τ A ρ B) {r : Nat} (h0 : 224 ≤ 7 * r) (h1 : s0 ≤ 7 * r) (h2 : 7 * r + 7 ≤ 7 * L) (hc : ¬ CFr A r) : zF (τ (7 * r)) ≤ 18 + ctq (LKt τ) (7 * r) 6 := by
  have o := OLD0 hR h (r := r) (by omega) (by omega) h2 hc
  have b := ow_r τ r
  have e0 := h.1.1.2.1 (7 * r) (by omega) (by omega)
  have sr := ANR_srt h.1.1 (7 * r - s0) (by omega)
  rw [show s0 + (7 * r - s0) = 7 * r by omega] at sr
  have z : zF (τ (7 * r)) = f5A (A (7 * r)) := by rw [f5_pr, e0]; rfl
  have c : f5A (A (7 * r)) ≤ oW (7 * r) 0 (A (7 * r)) := by
    unfold f5A oW
    refine List.countP_mono_left (fun y hy p5 => ?_)
    have y5 := (t5_i y.1).mp p5
    have a := lt5_b hR (t := 7 * r) (by omega) (by omega) (by rw [← e0]; exact List.mem_map_of_mem hy) y5
    exact decide_eq_true ⟨sr.2 y hy, a.1, a.2⟩
  omega
theorem UNFs0 {L s0 : Nat} {τ : Nat → qS} (hR : RNN L τ) {A : Nat → List (Ms × Nat × Nat)} {ρ : Nat → qS × qS × qS} {B : Nat → List (Ms × Nat × Nat) × List (Ms × Nat × Nat) × List (Ms × Nat × Nat)} (h : ANC2 L s0 τ A ρ B) (h7 : 224 ≤ s0) {s : Nat} (h1 : s0 + 231 ≤ s) (h2 : s + 7 ≤ 7 * L) (hc : ¬ CFr A (s / 7)) : zF (τ s) ≤ 18 + s % 7 + ctq (LKt τ) (7 * (s / 7)) 6 := by
  have a := UNF0 hR h (r := s / 7) (by omega) (by omega) (by omega) hc
  have c := zF_j hR (s := 7 * (s / 7)) (by omega) (s % 7) (by omega)
  rw [show 7 * (s / 7) + s % 7 = s by omega] at c
  omega
-- a sample of a LACKS wait: its round has a full tick, or all but one of the next n rounds, or many letters are sent
theorem SMPg {L s0 : Nat} {τ : Nat → qS} (hR : RNN L τ) {A : Nat → List (Ms × Nat × Nat)} {ρ : Nat → qS × qS × qS} {B : Nat → List (Ms × Nat × Nat) × List (Ms × Nat × Nat) × List (Ms × Nat × Nat)} (h : ANC2 L s0 τ A ρ B) (h7 : 224 ≤ s0) {w : Nat} (hw : w < 6) {t : Nat} (ht : t % 7 = w) (h1 : 7 * 145 ≤ t) (h2 : t + 7 ≤ 7 * L) (hl : LKs (τ (t + 1)) w) {i s : Nat} (i1 : 1 ≤ i) (i2 : i ≤ 11) (es : s = t + 1 - 91 * i) (js : s0 + 231 ≤ s) {n m : Nat} (em : m = n + 1) (hn : n ≤ 12) : CFr A (s / 7) ∨ n ≤ ctq (CFr A) (s / 7 + 1) n + 1 ∨ 70 ≤ min (3 * m) (mqc (A s)) + (ctq (OWv τ 0) s (7 * m) + ctq (OWv τ 1) s (7 * m) + ctq (OWv τ 2) s (7 * m) + ctq (OWv τ 3) s (7 * m) + ctq (OWv τ 4) s (7 * m) + ctq (OWv τ 5) s (7 * m)) + ctq (LKt τ) s (7 * m) + ctq (LKt τ) (7 * (s / 7)) 6 := by
  have z := zA_m hR h (t := s) (by omega) (by omega) (by omega)
  by_cases c : CFr A (s / 7)
  · exact Or.inl c
  · right
    have u := UNFs0 hR h h7 (s := s) js (by omega) c
    rcases SMPd0 hR h h7 hw ht h1 (by omega) hl i1 i2 es (by omega) em hn with a | a
    · exact Or.inl a
    rcases SMPdq0 hR h h7 hw ht h1 (by omega) hl i1 i2 es (by omega) em hn with b | b
    · exact Or.inl b
    right
    have zz := zQ_s (τ s)
    omega

