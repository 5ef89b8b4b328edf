def Fg (x : Nat) : Nat := 17 + (x + 13) / 14 + 5 * (x / 182)
theorem Fg_1 (q y : Nat) : 17 + (y + 13) / 14 ≤ Fg (q + y) := by
  unfold Fg; omega
theorem Fg_2 {x q y : Nat} (h : x + 181 ≤ q) (hy : 1 ≤ y) : Fg x + (17 + (y + 13) / 14) ≤ Fg (q + y) := by
  unfold Fg; omega
theorem gv_sup1 {L : Nat} {τ : Nat → qS} {S : Nat → List Ms} (h : RNN L τ) (hS : SNC L τ S) {b : Nat} (hb : b < 6) {p : Nat} (h0 : 224 ≤ p) {y : Nat} (hl : p + y + 14 ≤ 7 * L) : (sns S p y).countP (isT (τ 0 31 0) b) ≤ 16 + (y + 13) / 14 := gv_sup h hS hb h0 (k := y) (r := (y + 13) / 14) (by omega) (by omega)
theorem st_own {u : Int} {σ σ' : qS} (h : STP u σ σ') (hu : u ≠ 6) : σ' 37 = σ 37 ∧ σ' 38 = σ 38 := by
  rcases h with ⟨-, σ1, σ2, σ3, r1, r2, r3, a, -⟩ | ⟨e, -⟩
  · exact ⟨(a.2.2.1 _ (by decide)).trans ((r3.2.2.1 _ (by decide)).trans ((r2.2.2.1 _ (by decide)).trans (r1.2.2.1 _ (by decide)))), (a.2.2.1 _ (by decide)).trans ((r3.2.2.1 _ (by decide)).trans ((r2.2.2.1 _ (by decide)).trans (r1.2.2.1 _ (by decide))))⟩
  · exact absurd e hu
def IVo (τ : Nat → qS) (S : Nat → List Ms) (k : Int) (s n : Nat) : Prop := (sns S s n).countP (isG (τ 0 31 0) k) = 0 ∨ ∃ (p C g a : Nat), s ≤ p ∧ p ≤ g ∧ g < s + n ∧ g % 7 = 6 ∧ a < 6 ∧ τ (s + n) 37 k = a ∧ τ (s + n) 38 k = (clk (τ g)) 39 0 ∧ (sns S s n).countP (isG (τ 0 31 0) k) ≤ C + (sns S p (g + 1 - p)).countP (isT (τ 0 31 0) a) ∧ ∀ y, 1 ≤ y → C + (17 + (y + 13) / 14) ≤ Fg (p - s + y)
theorem own_run {L : Nat} {τ : Nat → qS} {S : Nat → List Ms} (h : RNN L τ) {s1 s2 : Nat → qS} (hS : SNO L τ S s1 s2) {k : Int} (k0 : 0 ≤ k) (k1 : k < 38) {s : Nat} (h0 : 224 ≤ s) (hck : ∀ g t, g % 7 = 6 → t % 7 = 6 → s ≤ g → g < t → t < g + 182 → t < 7 * L → ¬ 25 < z_sub ((clk (τ t)) 39 0) ((clk (τ g)) 39 0)) : ∀ n, s + n + 14 ≤ 7 * L → (∀ t, s ≤ t → t < s + n → t % 7 = 6 → NL (τ t) ∧ UN τ s1 s2 k t) → IVo τ S k s n
  | 0, _, _ => Or.inl (by simp [sns])
  | n + 1, hl, hu => by
    have ih := own_run h hS k0 k1 h0 hck n (by omega) (fun t t1 t2 t3 => hu t t1 (by omega) t3)
    have es : s + (n + 1) = s + n + 1 := by omega
    have hst := h.2 (s + n) (by omega)
    by_cases c6 : (s + n) % 7 = 6
    · obtain ⟨nl, un⟩ := hu (s + n) (by omega) (by omega) c6
      have ow := hS.2 (s + n) (by omega) c6 nl k k0 k1 un
      have eE : (clk (τ (s + n))) 31 = τ 0 31 := (clk_k (by decide)).trans (run_era h (by omega))
      have eg : (clk (τ (s + n))) 37 = τ (s + n) 37 := clk_k (by decide)
      have ea : (clk (τ (s + n))) 38 = τ (s + n) 38 := clk_k (by decide)
      unfold OW at ow
      rw [eE, eg, ea] at ow
      rcases ow with ⟨o1, o2, o3⟩ | ⟨o1, o2, o3, o4⟩
      · rcases ih with ih | ⟨p, C, g, a, i1, i2, i3, i4, i5, i6, i7, i8, i9⟩
        · left
          simp only [sns, List.countP_append]; omega
        · right
          refine ⟨p, C, g, a, i1, i2, by omega, i4, i5, by rw [es, o2]; exact i6, by rw [es, o3]; exact i7, ?_, i9⟩
          simp only [sns, List.countP_append]; omega
      · have gs := h.1 (s + n + 1) (by omega)
        have fresh : ∀ C : Nat, (sns S s n).countP (isG (τ 0 31 0) k) ≤ C → (∀ y, 1 ≤ y → C + (17 + (y + 13) / 14) ≤ Fg (s + n - s + y)) → IVo τ S k s (n + 1) := fun C hC hF => by
          right
          have en : ((τ (s + n + 1) 37 k).toNat : Int) = τ (s + n + 1) 37 k := Int.toNat_of_nonneg o2.1
          refine ⟨s + n, C, s + n, (τ (s + n + 1) 37 k).toNat, by omega, Nat.le_refl _, by omega, c6, by omega, by rw [es, en], by rw [es]; exact o3, ?_, hF⟩
          rw [show s + n + 1 - (s + n) = 0 + 1 by omega]
          simp only [sns, List.countP_append, Nat.add_zero]
          rw [en]
          simp only [List.countP_nil]
          omega
        rcases ih with ih | ⟨p, C, g, a, i1, i2, i3, i4, i5, i6, i7, i8, i9⟩
        · exact fresh 0 (by omega) (fun y _ => by rw [Nat.zero_add]; exact Fg_1 _ _)
        · rcases o4 with o4 | o4 | o4
          · right
            refine ⟨p, C, s + n, a, i1, by omega, by omega, c6, i5, by rw [es, ← o4]; exact i6, by rw [es]; exact o3, ?_, i9⟩
            have e1 := sns_add S p (g + 1 - p) (s + n - (g + 1))
            rw [show g + 1 - p + (s + n - (g + 1)) = s + n - p by omega] at e1
            rw [← o4, i6] at o1
            rw [show s + n + 1 - p = (s + n - p) + 1 by omega]
            simp only [sns, List.countP_append]
            rw [e1, List.countP_append, show p + (s + n - p) = s + n by omega]
            omega
          · rw [i6] at o4; omega
          · rw [i7] at o4
            have d : g + 182 ≤ s + n := by
              apply Classical.byContradiction
              intro hn
              exact hck g (s + n) i4 c6 (by omega) (by omega) (by omega) (by omega) o4
            have gb := gv_sup1 h hS.1 i5 (p := p) (by omega) (y := g + 1 - p) (by omega)
            have f0 := i9 (g + 1 - p) (by omega)
            rw [show p - s + (g + 1 - p) = g + 1 - s by omega] at f0
            exact fresh (Fg (g + 1 - s)) (by omega) (fun y hy => Fg_2 (by omega) hy)
    · obtain ⟨q1, q2⟩ := st_own hst (by omega)
      have z := (hS.1 (s + n) (by omega)).2.2.1 (by omega)
      have z' := z.1 k
      rw [run_era h (by omega)] at z'
      rcases ih with ih | ⟨p, C, g, a, i1, i2, i3, i4, i5, i6, i7, i8, i9⟩
      · left
        simp only [sns, List.countP_append]; omega
      · right
        refine ⟨p, C, g, a, i1, i2, by omega, i4, i5, by rw [es, q1]; exact i6, by rw [es, q2]; exact i7, ?_, i9⟩
        simp only [sns, List.countP_append]; omega
theorem ck_w (c : Int) (j : Nat) (h : j ≤ 25) : ∀ d : Int, (∃ m : Int, d = c + j + 4294967296 * m) → ¬ 25 < z_sub d c := fun d hd => by
  obtain ⟨m, hm⟩ := hd
  unfold z_sub w32
  omega
theorem ck_m {L : Nat} {τ : Nat → qS} (h : RNN L τ) {g : Nat} (hg : g % 7 = 6) : ∀ j, g + 7 * j < 7 * L → ∃ m : Int, (clk (τ (g + 7 * j))) 39 0 = (clk (τ g)) 39 0 + j + 4294967296 * m
  | 0, _ => ⟨0, by simp⟩
  | j + 1, hl => by
    obtain ⟨m, hm⟩ := ck_m h hg j (by omega)
    have e0 : τ (g + 7 * j + 1) 39 0 = (clk (τ (g + 7 * j))) 39 0 := by
      rcases h.2 (g + 7 * j) (by omega) with ⟨hw, -⟩ | ⟨-, σ1, σ2, r1, r2, r3, -⟩
      · omega
      · rw [r3.2.1 39 (by decide), r2.2.1 39 (by decide), r1.2.1 39 (by decide)]
    have wk : ∀ i, i ≤ 6 → τ (g + 7 * j + 1 + i) 39 = τ (g + 7 * j + 1) 39 := fun i => by
      induction i with
      | zero => intro _; rfl
      | succ i ih =>
        intro hi
        rw [← ih (by omega)]
        rcases h.2 (g + 7 * j + 1 + i) (by omega) with ⟨-, σ1, σ2, σ3, r1, r2, r3, a, -⟩ | ⟨e, -⟩
        · exact (a.2.2.1 _ (by decide)).trans ((r3.2.2.1 _ (by decide)).trans ((r2.2.2.1 _ (by decide)).trans (r1.2.2.1 _ (by decide))))
        · omega
    have w6 := wk 6 (by omega)
    have e7 : g + 7 * (j + 1) = g + 7 * j + 1 + 6 := by omega
    have e1 : (clk (τ (g + 7 * (j + 1)))) 39 0 = z_add ((clk (τ (g + 7 * j))) 39 0) 1 := by
      rw [e7]
      unfold clk
      rw [su_s, w6]
      exact congrArg (fun z => z_add z 1) e0
    rw [e1, hm]
    unfold z_add w32
    generalize (clk (τ g)) 39 0 = c
    refine ⟨m + (((c + j + 4294967296 * m + 1) - ((c + j + 4294967296 * m + 1 + 2147483648) % 4294967296 - 2147483648)) / -4294967296), ?_⟩
    omega
theorem ACT_nl {w : Int} {σ σ' : qS} (h : ACT w σ σ') : ∃ s, acop (ln σ) (ln σ') s ∧ ∀ x ∈ s, xw x 0 = 7 → xw x 3 ≠ -1 := by
  obtain ⟨-, -, -, c⟩ := h
  have tl : ∀ {to ty a b c d}, ty ≠ 7 → TL to ty a b c d σ σ' → ∃ s, acop (ln σ) (ln σ') s ∧ ∀ x ∈ s, xw x 0 = 7 → xw x 3 ≠ -1 := fun {to ty a b c d} hn t => by
    obtain ⟨kv, t⟩ := t
    exact ⟨_, Or.inr (Or.inl ⟨_, t, rfl⟩), fun x hx e => by rw [List.mem_singleton.mp hx] at e; exact absurd (show ty = 7 from e) hn⟩
  have nl : ln σ' = ln σ → ∃ s, acop (ln σ) (ln σ') s ∧ ∀ x ∈ s, xw x 0 = 7 → xw x 3 ≠ -1 := fun e => ⟨[], Or.inl ⟨e, rfl⟩, fun x hx => absurd hx (by simp)⟩
  rcases c with ⟨-, -, -, -, c⟩ | ⟨-, c⟩ | ⟨-, c⟩
  · rcases c with ⟨-, c⟩ | ⟨-, c⟩
    · exact tl (by decide) c
    · exact nl c
  · rcases c with ⟨-, -, -, a, c⟩ | ⟨-, -, -, ⟨a, c⟩, -⟩ | ⟨-, -, -, c⟩ | ⟨-, -, -, -, -, c⟩
    · exact tl (by decide) c
    · exact tl (by decide) c
    · exact tl (by decide) c
    · exact nl c
  · rcases c with ⟨-, -, -, c⟩ | ⟨-, -, -, -, -, c⟩ | ⟨-, -, -, -, -, c, -⟩ | ⟨-, -, cb, -, -, -, -, -, -, c⟩ | ⟨-, -, -, -, c⟩
    · exact tl (by decide) c
    · exact nl c
    · exact nl c
    · rcases c with ⟨-, -, c⟩ | ⟨-, -, kv, kv', c⟩
      · exact tl (by decide) c
      · refine ⟨_, Or.inr (Or.inr ⟨_, _, c, rfl⟩), fun x hx e => ?_⟩
        rcases List.mem_cons.mp hx with rfl | hx
        · exact absurd (show (5 : Int) = 7 from e) (by decide)
        · rw [List.mem_singleton.mp hx]; exact cb
    · rcases c with ⟨-, -, c⟩ | ⟨-, c⟩
      · exact tl (by decide) c
      · exact tl (by decide) c
theorem STP_nl {w : Int} {σ σ' : qS} (h : STP w σ σ') : ∃ s, TS w (ln σ) (ln σ') s ∧ ∀ x ∈ s, xw x 0 = 7 → xw x 3 ≠ -1 := by
  rcases h with ⟨hw, σ1, σ2, σ3, r1, r2, r3, a, -⟩ | ⟨rfl, σ1, σ2, r1, r2, r3, -⟩
  · obtain ⟨s1, p1, q1, -⟩ := RD_c hw r1
    obtain ⟨s2, p2, q2, -⟩ := RD_c hw r2
    obtain ⟨s3, p3, q3, -⟩ := RD_c hw r3
    obtain ⟨s4, p4, q4⟩ := ACT_nl a
    refine ⟨_, ⟨_, _, _, s1, s2, s3, s4, p1, p2, p3, p4, rfl⟩, fun x hx e => ?_⟩
    rw [List.mem_append, List.mem_append, List.mem_append] at hx
    rcases hx with ((hx | hx) | hx) | hx
    · have := q1 x hx; omega
    · have := q2 x hx; omega
    · have := q3 x hx; omega
    · exact q4 x hx e
  · obtain ⟨s1, p1, q1, -⟩ := HR_c r1
    obtain ⟨s2, p2, q2, -⟩ := HR_c r2
    obtain ⟨s3, p3, q3, -⟩ := HR_c r3
    rw [l_clk] at p1
    refine ⟨_, ⟨_, _, _, s1, s2, s3, [], p1, p2, p3, Or.inl ⟨rfl, rfl⟩, rfl⟩, fun x hx e => ?_⟩
    rw [List.append_nil, List.mem_append, List.mem_append] at hx
    rcases hx with (hx | hx) | hx
    · have := q1 x hx; omega
    · have := q2 x hx; omega
    · have := q3 x hx; omega
theorem run_NL {L : Nat} {τ : Nat → qS} (h : RNN L τ) {t : Nat} (h1 : 224 ≤ t) (h2 : t ≤ 7 * L) : NL (τ t) := by
  have : ∀ t, ∃ s, t < 7 * L → TS ((t % 7 : Nat) : Int) (ln (τ t)) (ln (τ (t + 1))) s ∧ ∀ x ∈ s, xw x 0 = 7 → xw x 3 ≠ -1 := fun t => by
    by_cases c : t < 7 * L
    · obtain ⟨s, hs⟩ := STP_nl (h.2 t c)
      exact ⟨s, fun _ => hs⟩
    · exact ⟨[], fun e => absurd e c⟩
  obtain ⟨S, hS⟩ := Classical.skolem.mp this
  have o := old_gone h (S := S) (fun t ht => (hS t ht).1) (t - 224) 224 (by omega) (by omega)
  rw [show t - 224 + 224 = t by omega] at o
  intro x hx
  have hm := o.subset hx
  exact sns_m (P := fun x => xw x 0 = 7 → xw x 3 ≠ -1) 224 (fun t' g1 g2 => (hS t' (by omega)).2) x hm
theorem gk_ph {L : Nat} {τ : Nat → qS} {S : Nat → List Ms} (h : RNN L τ) {s1 s2 : Nat → qS} (hS : SNO L τ S s1 s2) {k : Int} (k0 : 0 ≤ k) (k1 : k < 38) {s n : Nat} (h0 : 224 ≤ s) (hl : s + n + 14 ≤ 7 * L) (hu : ∀ t, s ≤ t → t < s + n → t % 7 = 6 → UN τ s1 s2 k t) : (sns S s n).countP (isG (τ 0 31 0) k) ≤ Fg n := by
  have hck : ∀ g t, g % 7 = 6 → t % 7 = 6 → s ≤ g → g < t → t < g + 182 → t < 7 * L → ¬ 25 < z_sub ((clk (τ t)) 39 0) ((clk (τ g)) 39 0) := fun g t a1 a2 a3 a4 a5 a6 => by
    have e : t = g + 7 * ((t - g) / 7) := by omega
    have m := ck_m h a1 ((t - g) / 7) (by omega)
    rw [← e] at m
    exact ck_w _ ((t - g) / 7) (by omega) _ m
  rcases own_run h hS k0 k1 h0 hck n hl (fun t t1 t2 t3 => ⟨run_NL h (by omega) (by omega), hu t t1 t2 t3⟩) with g | ⟨p, C, g, a, i1, i2, i3, i4, i5, i6, i7, i8, i9⟩
  · omega
  · have gb := gv_sup1 h hS.1 i5 (p := p) (by omega) (y := g + 1 - p) (by omega)
    have f0 := i9 (g + 1 - p) (by omega)
    have f1 : Fg (p - s + (g + 1 - p)) ≤ Fg n := by
      unfold Fg
      have : p - s + (g + 1 - p) ≤ n := by omega
      omega
    omega

