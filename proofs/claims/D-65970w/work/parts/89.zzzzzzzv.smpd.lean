-- own letters of one worker in a stretch
def OWv (τ : Nat → qS) (v u : Nat) : Prop := OWt τ u ∧ u % 7 = v
theorem own_n {τ : Nat → qS} {v s : Nat} (hv : v < 7) (n : Nat) : ctq (OWv τ v) s (7 * n) ≤ n :=
  Nat.le_trans (ctq_mo (P := OWv τ v) (Q := fun t => t % 7 = v) (s := s) (7 * n) (fun t _ _ q => q.2)) (ctq_m7 hv n)
theorem sil_1 {L : Nat} {τ : Nat → qS} (hR : RNN L τ) {v : Nat} (hv : v < 6) {t : Nat} (ht : t % 7 = v) (h1 : 7 * 145 ≤ t) (h2 : t + 1 ≤ 7 * L) (hl : LKs (τ (t + 1)) v) {s k : Nat} (hs : t ≤ s + 7 * 142) (hk : k ≤ 91) (he : s + k ≤ t + 1) : ctq (OWv τ v) s k ≤ 1 := ctq_one k (fun u u' a1 a2 a1' a2' ⟨p, pv⟩ ⟨p', pv'⟩ => by
  have q : (t - u) % 91 = 0 := by
    apply Classical.byContradiction
    intro n
    exact lk_sil hR hv ht h1 h2 hl pv (by omega) (by omega) n p
  have q' : (t - u') % 91 = 0 := by
    apply Classical.byContradiction
    intro n
    exact lk_sil hR hv ht h1 h2 hl pv' (by omega) (by omega) n p'
  omega)
theorem sil_0 {L : Nat} {τ : Nat → qS} (hR : RNN L τ) {w : Nat} (hw : w < 6) {t : Nat} (ht : t % 7 = w) (h1 : 7 * 145 ≤ t) (h2 : t + 1 ≤ 7 * L) (hl : LKs (τ (t + 1)) w) {i s k : Nat} (i1 : 1 ≤ i) (i2 : i ≤ 10) (es : s = t + 1 - 91 * i) (hk : k ≤ 90) : ctq (OWv τ w) s k = 0 := ctq_off k (fun u a1 a2 ⟨p, pv⟩ => lk_sil hR hw ht h1 h2 hl pv (by omega) (by omega) (by omega) p)
theorem osm_6 (τ : Nat → qS) (s n : Nat) : osm false τ s (7 * n) ≤ 3 * n + (ctq (OWv τ 0) s (7 * n) + ctq (OWv τ 1) s (7 * n) + ctq (OWv τ 2) s (7 * n) + ctq (OWv τ 3) s (7 * n) + ctq (OWv τ 4) s (7 * n) + ctq (OWv τ 5) s (7 * n)) + ctq (LKt τ) s (7 * n) := by
  have a := osm_c τ s (7 * n)
  have b := ctq_m7 (v := 6) (s := s) (by omega) n
  have c := ctq_six (P := OWt τ) (s := s) (k := 7 * n) (fun t q => q.1)
  have c' : ctq (OWt τ) s (7 * n) ≤ ctq (OWv τ 0) s (7 * n) + ctq (OWv τ 1) s (7 * n) + ctq (OWv τ 2) s (7 * n) + ctq (OWv τ 3) s (7 * n) + ctq (OWv τ 4) s (7 * n) + ctq (OWv τ 5) s (7 * n) := c
  omega
-- a sample covers all rounds but five of the next n, or the line had many FETCHes, or other workers sent many letters
theorem SMPd {L s0 : Nat} {τ : Nat → qS} (hR : RNN L τ) {A : Nat → List (Ms × Nat × Nat)} {ρ : Nat → qS × qS × qS} {B : Nat → List (Ms × Nat × Nat) × List (Ms × Nat × Nat) × List (Ms × Nat × Nat)} (h : ANC2 L s0 τ A ρ B) (h7 : 224 ≤ s0) {w : Nat} (hw : w < 6) {t : Nat} (ht : t % 7 = w) (h1 : 7 * 145 ≤ t) (h2 : t + 1 ≤ 7 * L) (hl : LKs (τ (t + 1)) w) {i s : Nat} (i1 : 1 ≤ i) (i2 : i ≤ 11) (es : s = t + 1 - 91 * i) (js : s0 < s) {n m : Nat} (em : m = n + 1) (hn : n ≤ 12) : n ≤ ctq (CVr A) (s / 7 + 1) n + 5 ∨ 94 ≤ zF (τ s) + 3 * m + (ctq (OWv τ 0) s (7 * m) + ctq (OWv τ 1) s (7 * m) + ctq (OWv τ 2) s (7 * m) + ctq (OWv τ 3) s (7 * m) + ctq (OWv τ 4) s (7 * m) + ctq (OWv τ 5) s (7 * m)) + ctq (LKt τ) s (7 * m) := by
  by_cases c : zF (τ s) + osm false τ s (7 * n + 6) ≤ 93
  · left
    exact SMPc hR h h7 hw ht h1 h2 hl (j := 13 * i) (by omega) (by omega) (by omega) js (by rw [es]; exact lk_age hR hw ht h1 h2 hl i1 i2) rfl (by omega) c
  · right
    have a := osm_6 τ s m
    have b := osm_m false τ s (7 * n + 6) 1
    rw [show 7 * n + 6 + 1 = 7 * m by omega] at b
    omega

