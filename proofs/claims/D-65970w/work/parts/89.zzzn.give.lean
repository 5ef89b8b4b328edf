def PSM (s0 : Nat) (A : List (Ms × Nat × Nat)) : Prop := ∀ y ∈ A, s0 < y.2.1 → (xw y.1 0 = 2 → y.2.1 % 7 = 0) ∧ (xw y.1 0 = 6 → y.2.1 % 7 ≠ 0)
theorem PSM_sub {s0 : Nat} {A B : List (Ms × Nat × Nat)} (h : PSM s0 A) (hs : B.Sublist A) : PSM s0 B := fun y hy => h y (hs.subset hy)
theorem PSM_ap {s0 : Nat} {A : List (Ms × Nat × Nat)} (h : PSM s0 A) {z : Ms} {a b : Nat} (hz : (xw z 0 = 2 → a % 7 = 0) ∧ (xw z 0 = 6 → a % 7 ≠ 0)) : PSM s0 (A ++ [(z, a, b)]) := fun x hx e => by
  rw [List.mem_append, List.mem_singleton] at hx
  rcases hx with hx | hx
  · exact h x hx e
  · rw [hx]; exact hz
theorem RDn_ps {s0 t : Nat} (ht : t % 7 < 6) {w e : Int} {A A' : List (Ms × Nat × Nat)} (h : RDn w e t A A') (hk : PSM s0 A) : PSM s0 A' := by
  rcases h with ⟨-, rfl⟩ | ⟨i, y, -, c2, c⟩
  · exact hk
  · have e1 := PSM_sub hk (List.eraseIdx_sublist A i)
    rcases c with ⟨-, rfl⟩ | ⟨-, -, z, -, z0, -, -, -, -, rfl⟩
    · exact e1
    · exact PSM_ap (PSM_sub e1 (tlA_sub _)) ⟨fun q => by omega, fun _ => by omega⟩
theorem HRn_ps {s0 t : Nat} (ht : t % 7 = 6) {A A' : List (Ms × Nat × Nat)} (h : HRn t A A') (hk : PSM s0 A) : PSM s0 A' := by
  rcases h with ⟨-, rfl⟩ | ⟨i, y, -, -, c⟩
  · exact hk
  · have e1 := PSM_sub hk (List.eraseIdx_sublist A i)
    rcases c with rfl | ⟨z, z0, rfl⟩
    · exact e1
    · exact PSM_ap (PSM_sub e1 (tlA_sub _)) ⟨fun _ => by omega, fun q => by omega⟩
theorem ACn_ps {s0 t : Nat} {w : Int} {σ' : qS} {A A' : List (Ms × Nat × Nat)} {s : List Ms} (h : ACn t A A' s) (ho : OWN w σ' s) (hk : PSM s0 A) : PSM s0 A' := by
  have own : ∀ z ∈ s, (xw z 0 = 2 → (t + 1) % 7 = 0) ∧ (xw z 0 = 6 → (t + 1) % 7 ≠ 0) := fun z hz => by
    obtain ⟨-, n6, n2, -⟩ := ho.2 z hz
    exact ⟨fun q => absurd q n2, fun q => absurd q n6⟩
  rcases h with ⟨rfl, -⟩ | ⟨z, rfl, es⟩ | ⟨z, z', rfl, es⟩
  · exact hk
  · exact PSM_ap (PSM_sub hk (tlA_sub _)) (own z (by rw [es]; exact List.mem_singleton.mpr rfl))
  · refine PSM_ap (PSM_sub (PSM_ap (PSM_sub hk (tlA_sub _)) (own z ?_)) (tlA_sub _)) (own z' ?_)
    · rw [es]; exact List.mem_cons_self
    · rw [es]; exact List.mem_cons_of_mem _ (List.mem_singleton.mpr rfl)
theorem ANR_ps {L s0 : Nat} {τ : Nat → qS} {A : Nat → List (Ms × Nat × Nat)} (h : ANR L s0 τ A) : ∀ k, s0 + k ≤ 7 * L → PSM s0 (A (s0 + k))
  | 0, _ => by
    rw [Nat.add_zero, h.1]
    intro y hy hb
    rw [List.mem_map] at hy
    obtain ⟨m, -, rfl⟩ := hy
    exact absurd hb (Nat.lt_irrefl _)
  | k + 1, hk => by
    have ih := ANR_ps h k (by omega)
    rcases h.2.2 (s0 + k) (by omega) (by omega) with ⟨h6, σ1, σ2, σ3, A1, A2, A3, -, -, r1, r2, r3, s, a, o⟩ | ⟨h6, σ1, σ2, A1, A2, -, -, -, -, r1, r2, r3⟩
    · exact ACn_ps a o (RDn_ps h6 r3 (RDn_ps h6 r2 (RDn_ps h6 r1 ih)))
    · exact HRn_ps h6 r3 (HRn_ps h6 r2 (HRn_ps h6 r1 ih))
theorem st_ps {L s0 : Nat} {τ : Nat → qS} {A : Nat → List (Ms × Nat × Nat)} {ρ : Nat → qS × qS × qS} {B : Nat → List (Ms × Nat × Nat) × List (Ms × Nat × Nat) × List (Ms × Nat × Nat)} (h : ANC L s0 τ A ρ B) {t : Nat} (h1 : s0 ≤ t) (h2 : t < 7 * L) (h6 : t % 7 < 6) : ∀ i, i ≤ 3 → PSM s0 (stA A B t i)
  | 0, _ => by
    have := ANR_ps h.1 (t - s0) (by omega)
    rw [show s0 + (t - s0) = t by omega] at this
    exact this
  | i + 1, hi => RDn_ps h6 (st_rd h h1 h2 h6 (i := i) (by omega)) (st_ps h h1 h2 h6 i (by omega))
theorem ACCG {L s0 : Nat} {τ : Nat → qS} (hR : RNN L τ) {A : Nat → List (Ms × Nat × Nat)} {ρ : Nat → qS × qS × qS} {B : Nat → List (Ms × Nat × Nat) × List (Ms × Nat × Nat) × List (Ms × Nat × Nat)} (h : ANC L s0 τ A ρ B) (h7 : 224 ≤ s0) {v : Nat} (hv : v < 6) {S t i b : Nat} (h1 : s0 ≤ S) (h2 : t < 7 * L) (hS : S % 7 = v) (ht : t % 7 = v) (hi : i < 3) (hlt : S < t) {y : Ms × Nat × Nat} (hy : hdA v (stA A B S i) y) (y2 : xw y.1 0 = 2) (yg : s0 + 224 ≤ y.2.1) (ha : ACC τ A ρ B t b) (hb : b ≤ y.2.1) : y.2.1 < b + 224 := by
  obtain ⟨h6, z, zb, c⟩ := ha
  have fin : ∀ i', i' < 3 → hdA ((t % 7 : Nat) : Int) (stA A B t i') z → xw z.1 0 = 6 → y.2.1 < b + 224 := fun i' hi' hz z6 => by
    rw [ht] at hz
    have f := FIFO h hv h1 h2 hS ht hi hi' (Or.inl hlt) hy hz
    have hS6 : S % 7 < 6 := by omega
    have p1 := (st_ps h h1 (by omega) hS6 i (by omega) y (hd_mem hy).1 (by omega)).1 y2
    have p2 := (st_ps h (by omega : s0 ≤ t) h2 h6 i' (by omega) z (hd_mem hz).1 (by omega)).2 z6
    have ne : y.2.1 ≠ z.2.1 := fun e => by rw [e] at p1; exact p2 p1
    have sr := (st_srt h h1 (by omega) hS6 i (by omega)).2 y (hd_mem hy).1
    have q := BORN2 hR h h7 (g := y.2.1) (t := t) (i := i') yg (by omega) h2 h6 (by omega) (hd_mem hz).1 ((tokb_i z).mpr (Or.inr z6)) (by rw [zb]; exact hb) (by omega)
    omega
  rcases c with ⟨c, -, c6, -⟩ | ⟨c, -, c6, -⟩ | ⟨c, -, c6, -⟩
  · exact fin 0 (by omega) c c6
  · exact fin 1 (by omega) c c6
  · exact fin 2 (by omega) c c6

