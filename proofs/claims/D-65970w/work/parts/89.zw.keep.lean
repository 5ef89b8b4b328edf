def t5 (x : Ms) : Bool := xw x 0 == 5
def qa (a : Bool) (x : Ms) : Bool := (a && t1 x) || t5 x
def KX (a : Bool) (x : Ms) (L : List Ms) (c m : Nat) : Prop := ∃ p n, L = p ++ x :: n ∧ cn x.1 p ≤ c ∧ n.length + p.countP (qa a) ≤ m
theorem KX_mo {a : Bool} {x : Ms} {L : List Ms} {c c' m m' : Nat} (h : KX a x L c m) (hc : c ≤ c') (hm : m ≤ m') : KX a x L c' m' := by
  obtain ⟨p, n, e, h1, h2⟩ := h
  exact ⟨p, n, e, by omega, by omega⟩
theorem kx_tl {a : Bool} {x : Ms} {L : List Ms} {c m : Nat} (h : KX a x L c m) (hm : m ≤ 93) : KX a x (tl95 L) c m := by
  obtain ⟨p, n, e, h1, h2⟩ := h
  subst e
  unfold tl95
  split
  · rename_i c95
    cases p with
    | nil => simp at c95; simp at h2; omega
    | cons b p =>
      have s := List.sublist_cons_self b p
      have f1 := cn_sub (w := x.1) s
      have f2 := s.countP_le (p := qa a)
      exact ⟨p, n, rfl, by omega, by omega⟩
  · exact ⟨p, n, rfl, h1, h2⟩
theorem kx_ap {a : Bool} {x y : Ms} {L : List Ms} {c m : Nat} (h : KX a x L c m) : KX a x (L ++ [y]) c (m + 1) := by
  obtain ⟨p, n, e, h1, h2⟩ := h
  exact ⟨p, n ++ [y], by rw [e, List.append_assoc]; rfl, h1, by rw [List.length_append, List.length_singleton]; omega⟩
theorem kx_er {a : Bool} {w : Int} {x z : Ms} {L : List Ms} {c m i : Nat} (h : KX a x L c m) (hi : L.findIdx? (fun m => m.1 == w) = some i) (hz : L[i]? = some z) (hn : x.1 ≠ w ∨ z ≠ x) : ∃ c', (x.1 = w → c' + 1 ≤ c) ∧ c' ≤ c ∧ KX a x (L.eraseIdx i) c' m ∧ (qa a z = true → 1 ≤ m ∧ KX a x (L.eraseIdx i) c' (m - 1)) := by
  obtain ⟨p, n, e, h1, h2⟩ := h
  subst e
  obtain ⟨i0, i1, i2⟩ := List.findIdx?_eq_some_iff_getElem.mp hi
  have hzi : (p ++ x :: n)[i] = z := by rw [List.getElem?_eq_getElem i0] at hz; exact Option.some.inj hz
  have hzw : z.1 = w := by rw [hzi] at i1; simpa using i1
  by_cases c1 : i < p.length
  · have hp : p[i]? = some z := by rw [List.getElem?_append_left c1] at hz; exact hz
    have hc1 := cp_er (qa a) p i z hp
    have hcn := cp_er (toW x.1) p i z hp
    have hcn' : cn x.1 (p.eraseIdx i) + (if toW x.1 z = true then 1 else 0) = cn x.1 p := hcn
    refine ⟨cn x.1 (p.eraseIdx i), fun ew => ?_, ?_, ⟨p.eraseIdx i, n, List.eraseIdx_append_of_lt_length c1 _, Nat.le_refl _, ?_⟩, fun t => ?_⟩
    · have : toW x.1 z = true := by unfold toW; rw [hzw, ew]; exact beq_self_eq_true w
      rw [if_pos this] at hcn'
      omega
    · omega
    · omega
    · rw [if_pos t] at hc1
      exact ⟨by omega, ⟨p.eraseIdx i, n, List.eraseIdx_append_of_lt_length c1 _, Nat.le_refl _, by omega⟩⟩
  · by_cases c2 : i = p.length
    · have ez : z = x := by
        subst c2
        rw [← hzi, List.getElem_append_right (Nat.le_refl _)]
        simp
      exfalso
      rcases hn with hn | hn
      · apply hn; rw [← ez]; exact hzw
      · exact hn ez
    · have hxw : x.1 ≠ w := fun ew => by
        have := i2 p.length (by omega)
        rw [List.getElem_append_right (Nat.le_refl _)] at this
        simp at this
        exact this ew
      have hlt : i - p.length - 1 < n.length := by simp at i0; omega
      have hlen := List.length_eraseIdx_of_lt hlt
      have he : (p ++ x :: n).eraseIdx i = p ++ x :: n.eraseIdx (i - p.length - 1) := by
        rw [List.eraseIdx_append_of_length_le (by omega)]
        obtain ⟨k, hk⟩ : ∃ k, i - p.length = k + 1 := ⟨i - p.length - 1, by omega⟩
        rw [hk, List.eraseIdx_cons_succ]
        rfl
      exact ⟨cn x.1 p, fun ew => absurd ew hxw, h1, ⟨p, n.eraseIdx (i - p.length - 1), he, Nat.le_refl _, by omega⟩, fun _ => ⟨by omega, ⟨p, n.eraseIdx (i - p.length - 1), he, Nat.le_refl _, by omega⟩⟩⟩
def rdX (w : Int) (x : Ms) (L : List Ms) : Prop := x.1 = w ∧ ∃ i, L.findIdx? (fun m => m.1 == w) = some i ∧ L[i]? = some x
theorem kx_n {a : Bool} {w : Int} {x : Ms} {L : List Ms} {c m : Nat} (h : KX a x L c m) (hn : L.findIdx? (fun m => m.1 == w) = none) : x.1 ≠ w := fun e => by
  obtain ⟨p, n, e', -, -⟩ := h
  have := List.findIdx?_eq_none_iff.mp hn x (by rw [e']; exact List.mem_append_right _ List.mem_cons_self)
  rw [e] at this
  simp at this
theorem kx_RD {a : Bool} {w : Int} {x : Ms} {σ σ' : qS} {c m : Nat} (h : RD w σ σ') (hx : KX a x (ln σ) c m) (hm : m ≤ 93) : rdX w x (ln σ) ∨ ∃ c', (x.1 = w → c' + 1 ≤ c) ∧ c' ≤ c ∧ KX a x (ln σ') c' m := by
  obtain ⟨-, -, -, d⟩ := h
  rcases d with ⟨d1, d2, -⟩ | ⟨i, z, d1, d2, d⟩
  · exact Or.inr ⟨c, fun e => absurd e (kx_n hx d1), Nat.le_refl _, by rw [d2]; exact hx⟩
  · by_cases ez : x.1 = w ∧ z = x
    · exact Or.inl ⟨ez.1, i, d1, by rw [← ez.2]; exact d2⟩
    · obtain ⟨c', e1, e2, e3, e4⟩ := kx_er hx d1 d2 (by
        by_cases e : x.1 = w
        · exact Or.inr (fun e' => ez ⟨e, e'⟩)
        · exact Or.inl e)
      refine Or.inr ⟨c', e1, e2, ?_⟩
      rcases d with ⟨-, d, -⟩ | ⟨-, -, d, -⟩ | ⟨-, d5, -, b, kv, d⟩ | ⟨-, -, d, -⟩
      · rw [d]; exact e3
      · rw [d]; exact e3
      · have t : qa a z = true := by
          unfold qa t5; rw [d5]
          cases a <;> cases t1 z <;> rfl
        obtain ⟨f1, f2⟩ := e4 t
        rw [d]
        exact KX_mo (kx_ap (kx_tl f2 (by omega))) (Nat.le_refl _) (by omega)
      · rw [d]; exact e3
theorem kx_HR {a : Bool} {x : Ms} {σ σ' : qS} {c m : Nat} (h : HR σ σ') (hx : KX a x (ln σ) c m) (hm : m ≤ 93) (h6 : x.1 ≠ 6) : KX a x (ln σ') c (if a = true then m else m + 1) := by
  have lf : m ≤ (if a = true then m else m + 1) := by split <;> omega
  obtain ⟨-, -, d⟩ := h
  rcases d with ⟨d1, d2, -⟩ | ⟨i, z, d1, d2, d⟩
  · rw [d2]; exact KX_mo hx (Nat.le_refl _) lf
  · obtain ⟨c', -, e2, e3, e4⟩ := kx_er hx d1 d2 (Or.inl h6)
    rcases d with ⟨-, d, -⟩ | ⟨-, d1', -, -, fi, en, -, d⟩ | ⟨-, -, d, -⟩ | ⟨-, -, d, -⟩
    · rw [d]; exact KX_mo e3 e2 lf
    · rcases d with ⟨d, -⟩ | ⟨t, -, -, -, -, -, kv, d⟩
      · rw [d]; exact KX_mo e3 e2 lf
      · rw [d]
        cases a with
        | true =>
          have t : qa true z = true := by unfold qa t1; rw [d1']; rfl
          obtain ⟨f1, f2⟩ := e4 t
          exact KX_mo (kx_ap (kx_tl f2 (by omega))) e2 (by rw [if_pos rfl]; omega)
        | false => exact KX_mo (kx_ap (kx_tl e3 hm)) e2 (by rw [if_neg (by decide)]; omega)
    · rw [d]; exact KX_mo e3 e2 lf
    · rw [d]; exact KX_mo e3 e2 lf
def mi (a : Bool) : Nat := if a = true then 0 else 3
theorem kx_MTK {a : Bool} {x : Ms} {σ σ' : qS} {c m : Nat} (h : MTK σ σ') (hx : KX a x (ln σ) c m) (hm : m + mi a ≤ 93) (h6 : x.1 ≠ 6) : KX a x (ln σ') c (m + mi a) := by
  obtain ⟨σ1, σ2, r1, r2, r3, -⟩ := h
  have hx' : KX a x (ln (clk σ)) c m := by rw [l_clk]; exact hx
  have k1 := kx_HR r1 hx' (by omega) h6
  cases a with
  | true => exact kx_HR r3 (kx_HR r2 k1 hm h6) hm h6
  | false =>
    have e3 : mi false = 3 := rfl
    rw [e3] at hm ⊢
    exact kx_HR r3 (kx_HR r2 k1 (show m + 1 ≤ 93 by omega) h6) (show m + 1 + 1 ≤ 93 by omega) h6
theorem kx_ac {a : Bool} {x : Ms} {L L' s : List Ms} {c m : Nat} (h : KX a x L c m) (hr : acop L L' s) (hm : m + s.length ≤ 94) : KX a x L' c (m + s.length) := by
  rcases hr with ⟨rfl, rfl⟩ | ⟨y, rfl, rfl⟩ | ⟨y, y', rfl, rfl⟩
  · exact h
  · rw [List.length_singleton] at hm ⊢
    exact kx_ap (kx_tl h (by omega))
  · have e : [y, y'].length = 2 := rfl
    rw [e] at hm ⊢
    exact kx_ap (kx_tl (kx_ap (kx_tl h (by omega))) (by omega))
def ow (σ' : qS) (w : Int) : Nat := if 38 ≤ σ' 62 w ∧ 2 ≤ σ' 65 w then 0 else if 38 ≤ σ' 62 w ∧ σ' 65 w = 1 ∧ σ' 66 w = 0 then 2 else 1
theorem ow_2 (σ' : qS) (w : Int) : ow σ' w ≤ 2 := by
  unfold ow; split
  · omega
  · split <;> omega
theorem ow_1 {σ' : qS} {w : Int} (h : ¬ LKs σ' w) : ow σ' w ≤ 1 := by
  unfold ow; split
  · omega
  · rw [if_neg (show ¬ (38 ≤ σ' 62 w ∧ σ' 65 w = 1 ∧ σ' 66 w = 0) from h)]; omega
theorem ow_0 {σ' : qS} {w : Int} (h : 38 ≤ σ' 62 w) (h' : 2 ≤ σ' 65 w) : ow σ' w = 0 := by unfold ow; rw [if_pos ⟨h, h'⟩]
theorem ACT_ow {w : Int} {σ σ' : qS} (hj : jobok σ) (hr : 38 ≤ σ 62 w → (0 ≤ σ 65 w ∧ σ 65 w ≤ 13) ∧ (0 ≤ σ 66 w ∧ σ 66 w < 12) ∧ (σ 65 w = 0 → σ 66 w = 0)) (h : ACT w σ σ') : ∃ s, acop (ln σ) (ln σ') s ∧ s.length ≤ ow σ' w := by
  have hsp := spl_b hj
  obtain ⟨-, -, -, c⟩ := h
  have n38 : ¬ 38 ≤ σ' 62 w → ow σ' w = 1 := fun e => by
    unfold ow; rw [if_neg (fun z => e z.1), if_neg (fun z => e z.1)]
  have tl : ∀ {to ty a b c d}, 1 ≤ ow σ' w → TL to ty a b c d σ σ' → ∃ s, acop (ln σ) (ln σ') s ∧ s.length ≤ ow σ' w := fun ho t => by
    obtain ⟨kv, t⟩ := t
    exact ⟨_, Or.inr (Or.inl ⟨_, t, rfl⟩), by rw [List.length_singleton]; exact ho⟩
  have nl : ln σ' = ln σ → ∃ s, acop (ln σ) (ln σ') s ∧ s.length ≤ ow σ' w := fun e => ⟨[], Or.inl ⟨e, rfl⟩, Nat.zero_le _⟩
  have fg : fgo w σ' → 1 ≤ ow σ' w := fun f => by rw [n38 (by have := f.1; omega)]; exact Nat.le_refl _
  rcases c with ⟨-, -, c1, -, c⟩ | ⟨c0, c⟩ | ⟨c0, c⟩
  · rcases c with ⟨-, c⟩ | ⟨-, c⟩
    · exact tl (by rw [n38 (by omega)]; exact Nat.le_refl _) c
    · exact nl c
  · rcases c with ⟨-, -, f, b, c⟩ | ⟨-, f, -, ⟨b, c⟩, -⟩ | ⟨-, -, f, c⟩ | ⟨-, -, -, -, -, c⟩
    · exact tl (fg f) c
    · exact tl (fg f) c
    · exact tl (fg f) c
    · exact nl c
  · obtain ⟨r1, r2, r3⟩ := hr c0
    rcases c with ⟨-, -, f, c⟩ | ⟨-, -, -, -, -, c⟩ | ⟨-, -, -, -, -, c, -⟩ | ⟨-, -, -, -, -, c1, -, -, c5, c⟩ | ⟨-, -, f, -, c⟩
    · exact tl (fg f) c
    · exact nl c
    · exact nl c
    · rcases c with ⟨c6, c7, c⟩ | ⟨-, c7, kv, kv', c⟩
      · refine tl ?_ c
        unfold ow
        rw [if_neg (fun z => by omega)]
        split <;> omega
      · refine ⟨_, Or.inr (Or.inr ⟨_, _, c, rfl⟩), ?_⟩
        unfold ow
        rw [if_neg (fun z => by omega), if_pos ⟨by omega, c5, c7⟩]
        exact Nat.le_refl _
    · rcases c with ⟨-, -, c⟩ | ⟨-, c⟩
      · exact tl (fg f) c
      · exact tl (fg f) c
def WD (w : Int) (σ σ1 σ2 σ3 σ' : qS) : Prop := RD w σ σ1 ∧ RD w σ1 σ2 ∧ RD w σ2 σ3 ∧ ACT w σ3 σ' ∧ (JI False (-1) σ1 ∧ JI False (-1) σ2 ∧ JI False (-1) σ3 ∧ JI False (-1) σ') ∧ AW σ1 w ∧ AW σ2 w ∧ AW σ3 w ∧ AW σ' w
def rdT (w : Int) (x : Ms) (σ σ' : qS) : Prop := ∃ σ1 σ2 σ3, WD w σ σ1 σ2 σ3 σ' ∧ (rdX w x (ln σ) ∨ rdX w x (ln σ1) ∨ rdX w x (ln σ2))
theorem kx_WTK {a : Bool} {w : Int} {x : Ms} {σ σ' : qS} {c m : Nat} (hw : 0 ≤ w ∧ w < 6) (hat : AT σ w) (h : WTK w σ σ') (hx : KX a x (ln σ) c m) (hm : m + ow σ' w ≤ 93) : rdT w x σ σ' ∨ ∃ c', (x.1 = w → c' + 3 ≤ c) ∧ c' ≤ c ∧ KX a x (ln σ') c' (m + ow σ' w) := by
  obtain ⟨σ1, σ2, σ3, r1, r2, r3, ac, ⟨j1, j2, j3, j4⟩, a1, a2, a3, a4⟩ := h
  have wd : WD w σ σ1 σ2 σ3 σ' := ⟨r1, r2, r3, ac, ⟨j1, j2, j3, j4⟩, a1, a2, a3, a4⟩
  rcases kx_RD r1 hx (by omega) with g | ⟨c1, d1, e1, k1⟩
  · exact Or.inl ⟨σ1, σ2, σ3, wd, Or.inl g⟩
  rcases kx_RD r2 k1 (by omega) with g | ⟨c2, d2, e2, k2⟩
  · exact Or.inl ⟨σ1, σ2, σ3, wd, Or.inr (Or.inl g)⟩
  rcases kx_RD r3 k2 (by omega) with g | ⟨c3, d3, e3, k3⟩
  · exact Or.inl ⟨σ1, σ2, σ3, wd, Or.inr (Or.inr g)⟩
  obtain ⟨s, s1, s2⟩ := ACT_ow j3.1 (hr_of j3 hw a3 (RD_AT r3 (RD_AT r2 (RD_AT r1 hat)))) ac
  refine Or.inr ⟨c3, fun e => ?_, by omega, KX_mo (kx_ac k3 s1 (by omega)) (Nat.le_refl _) (by omega)⟩
  have := d1 e
  have := d2 e
  have := d3 e
  omega
def osm (a : Bool) (τ : Nat → qS) (s : Nat) : Nat → Nat
  | 0 => 0
  | k + 1 => osm a τ s k + (if (s + k) % 7 = 6 then mi a else ow (τ (s + k + 1)) (((s + k) % 7 : Nat) : Int))
theorem osm_m (a : Bool) (τ : Nat → qS) (s k : Nat) : ∀ j, osm a τ s k ≤ osm a τ s (k + j)
  | 0 => Nat.le_refl _
  | j + 1 => by
    have := osm_m a τ s k j
    rw [show k + (j + 1) = k + j + 1 by omega]
    simp only [osm]
    omega
theorem keep {L : Nat} {τ : Nat → qS} (h : RNN L τ) {a : Bool} {x : Ms} {b : Nat} (hb : b < 6) (hx : x.1 = b) {s c m : Nat} (h7 : 7 ≤ s) (h0 : KX a x (ln (τ s)) c m) : ∀ k, s + k ≤ 7 * L → m + osm a τ s k ≤ 93 → (∃ j, j < k ∧ (s + j) % 7 = b ∧ rdT b x (τ (s + j)) (τ (s + j + 1))) ∨ (3 * ntk b s k ≤ c ∧ KX a x (ln (τ (s + k))) (c - 3 * ntk b s k) (m + osm a τ s k))
  | 0, _, _ => Or.inr ⟨by simp [ntk], by simpa [ntk, osm] using h0⟩
  | k + 1, hk, hm => by
    have hm' := osm_m a τ s k 1
    rcases keep h hb hx h7 h0 k (by omega) (by omega) with ⟨j, j1, j2, j3⟩ | ⟨hc, ih⟩
    · exact Or.inl ⟨j, by omega, j2, j3⟩
    have hs := h.2 (s + k) (by omega)
    rw [show s + (k + 1) = s + k + 1 by omega]
    simp only [osm, ntk] at hm ⊢
    rcases hs with ⟨hw, hs⟩ | ⟨e6, hs⟩
    · have n6 : ¬ (s + k) % 7 = 6 := by omega
      rw [if_neg n6] at hm ⊢
      have hat := run_AT7 h (w := (s + k) % 7) (by omega) (t := s + k) (by omega) (by omega)
      rcases kx_WTK hw hat hs ih (by omega) with g | ⟨c', d1, d2, d3⟩
      · by_cases e : (s + k) % 7 = b
        · exact Or.inl ⟨k, by omega, e, by rw [← e]; exact g⟩
        · exfalso
          obtain ⟨_, _, _, _, gg⟩ := g
          have hne : x.1 ≠ (((s + k) % 7 : Nat) : Int) := by rw [hx]; omega
          rcases gg with gg | gg | gg <;> exact hne gg.1
      · right
        by_cases e : (s + k) % 7 = b
        · rw [if_pos e]
          have := d1 (by rw [hx, e])
          exact ⟨by omega, KX_mo d3 (by omega) (by omega)⟩
        · rw [if_neg e]
          exact ⟨by omega, KX_mo d3 (by omega) (by omega)⟩
    · have n6 : (s + k) % 7 = 6 := by omega
      have nb : ¬ (s + k) % 7 = b := by omega
      rw [if_pos n6] at hm ⊢
      rw [if_neg nb]
      right
      exact ⟨by omega, KX_mo (kx_MTK hs ih (by omega) (by rw [hx]; omega)) (by omega) (by omega)⟩

