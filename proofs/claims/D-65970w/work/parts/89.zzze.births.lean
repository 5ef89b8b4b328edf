def tokb (y : Ms × Nat × Nat) : Bool := xw y.1 0 == 5 || xw y.1 0 == 6
def asr (x : Ms) : Int := if xw x 0 = 5 then xw x 5 else x.1
def tpl (x : Ms) : Int × Int × Int := if xw x 0 = 5 then (xw x 3, xw x 2, xw x 4) else (xw x 5, xw x 2, xw x 3)
theorem tokb_i (y : Ms × Nat × Nat) : tokb y = true ↔ xw y.1 0 = 5 ∨ xw y.1 0 = 6 := by unfold tokb; simp
def TKv (s0 : Nat) (τ : Nat → qS) (T : Nat) (y : Ms × Nat × Nat) : Prop := tokb y = true → s0 < y.2.2 → y.2.2 ≤ T ∧ y.2.2 ≤ y.2.1 ∧ (xw y.1 0 = 5 → y.2.1 = y.2.2) ∧ ∃ v : Nat, v < 6 ∧ (y.2.2 - 1) % 7 = v ∧ asr y.1 = v ∧ tpl y.1 = plc (τ y.2.2) v ∧ fe (τ y.2.2) v = 1
def TKa (s0 : Nat) (τ : Nat → qS) (T : Nat) (A : List (Ms × Nat × Nat)) : Prop := ∀ y ∈ A, TKv s0 τ T y
theorem TKa_sub {s0 T : Nat} {τ : Nat → qS} {A B : List (Ms × Nat × Nat)} (h : TKa s0 τ T A) (hs : B.Sublist A) : TKa s0 τ T B := fun y hy => h y (hs.subset hy)
theorem TKa_mo {s0 T : Nat} {τ : Nat → qS} {A : List (Ms × Nat × Nat)} (h : TKa s0 τ T A) : TKa s0 τ (T + 1) A := fun y hy a b => by
  obtain ⟨c, d⟩ := h y hy a b
  exact ⟨by omega, d⟩
theorem TKa_ap {s0 T : Nat} {τ : Nat → qS} {A : List (Ms × Nat × Nat)} (h : TKa s0 τ T A) {y : Ms × Nat × Nat} (hy : TKv s0 τ T y) : TKa s0 τ T (A ++ [y]) := fun x hx => by
  rw [List.mem_append, List.mem_singleton] at hx
  rcases hx with hx | hx
  · exact h x hx
  · rw [hx]; exact hy
theorem TKa_no {s0 T : Nat} {τ : Nat → qS} {z : Ms} {a b : Nat} (h : xw z 0 ≠ 5 ∧ xw z 0 ≠ 6) : TKv s0 τ T (z, a, b) := fun e => by
  rcases (tokb_i _).mp e with q | q
  · exact absurd q h.1
  · exact absurd q h.2
theorem RDn_tk {s0 t : Nat} {τ : Nat → qS} {w e : Int} {A A' : List (Ms × Nat × Nat)} (h : RDn w e t A A') (hk : TKa s0 τ t A) : TKa s0 τ t A' := by
  rcases h with ⟨-, rfl⟩ | ⟨i, y, -, c2, c⟩
  · exact hk
  · have e1 := TKa_sub hk (List.eraseIdx_sublist A i)
    rcases c with ⟨-, rfl⟩ | ⟨-, d5, z, z1, z0, -, z2, z3, z5, rfl⟩
    · exact e1
    · refine TKa_ap (TKa_sub e1 (tlA_sub _)) (fun _ hb => ?_)
      obtain ⟨f1, f2, f3, v, v1, v2, v3, v4, v5⟩ := hk y (List.mem_of_getElem? c2) ((tokb_i y).mpr (Or.inl d5)) hb
      refine ⟨f1, by show y.2.2 ≤ t + 1; omega, fun q => ?_, v, v1, v2, ?_, ?_, v5⟩
      · exfalso
        have q' : xw z 0 = 5 := q
        omega
      · have n5 : ¬ xw z 0 = 5 := by omega
        show asr z = v
        rw [← v3]
        unfold asr
        rw [if_neg n5, if_pos d5, z1]
      · have n5 : ¬ xw z 0 = 5 := by omega
        show tpl z = plc (τ y.2.2) v
        rw [← v4]
        unfold tpl
        rw [if_neg n5, if_pos d5, z2, z3, z5]
theorem HRn_tk {s0 t : Nat} {τ : Nat → qS} {A A' : List (Ms × Nat × Nat)} (h : HRn t A A') (hk : TKa s0 τ t A) : TKa s0 τ t A' := by
  rcases h with ⟨-, rfl⟩ | ⟨i, y, -, -, c⟩
  · exact hk
  · have e1 := TKa_sub hk (List.eraseIdx_sublist A i)
    rcases c with rfl | ⟨z, z0, rfl⟩
    · exact e1
    · exact TKa_ap (TKa_sub e1 (tlA_sub _)) (TKa_no ⟨by omega, by omega⟩)
theorem OWN_tk {s0 t w : Nat} (hw : w < 6) (ht : t % 7 = w) {τ : Nat → qS} {s : List Ms} (h : OWN w (τ (t + 1)) s) {z : Ms} (hz : z ∈ s) : TKv s0 τ (t + 1) (z, t + 1, t + 1) := fun hk _ => by
  obtain ⟨a, b⟩ := h
  obtain ⟨b1, b2, b3, b4⟩ := b z hz
  have z5 : xw z 0 = 5 := by
    rcases (tokb_i _).mp hk with q | q
    · exact q
    · exact absurd q b2
  obtain ⟨c1, c2, c3, c4⟩ := b1 z5
  have f1 : fe (τ (t + 1)) (w : Int) = 1 := by
    have p : 0 < s.countP t5 := List.countP_pos_iff.mpr ⟨z, hz, (t5_i z).mpr z5⟩
    have : fe (τ (t + 1)) (w : Int) ≤ 1 := by unfold fe; split <;> omega
    omega
  refine ⟨Nat.le_refl _, Nat.le_refl _, fun _ => rfl, w, hw, by show (t + 1 - 1) % 7 = w; omega, ?_, ?_, f1⟩
  · show asr z = w
    unfold asr
    rw [if_pos z5, c1]
  · show tpl z = plc (τ (t + 1)) w
    unfold tpl plc
    rw [if_pos z5, c2, c3, c4]
theorem ACn_tk {s0 t w : Nat} (hw : w < 6) (ht : t % 7 = w) {τ : Nat → qS} {A A' : List (Ms × Nat × Nat)} {s : List Ms} (h : ACn t A A' s) (ho : OWN w (τ (t + 1)) s) (hk : TKa s0 τ t A) : TKa s0 τ (t + 1) A' := by
  have h1 := TKa_mo hk
  rcases h with ⟨rfl, -⟩ | ⟨z, rfl, es⟩ | ⟨z, z', rfl, es⟩
  · exact h1
  · exact TKa_ap (TKa_sub h1 (tlA_sub _)) (OWN_tk hw ht ho (by rw [es]; exact List.mem_singleton.mpr rfl))
  · refine TKa_ap (TKa_sub (TKa_ap (TKa_sub h1 (tlA_sub _)) (OWN_tk hw ht ho (z := z) ?_)) (tlA_sub _)) (OWN_tk hw ht ho (z := z') ?_)
    · rw [es]; exact List.mem_cons_self
    · rw [es]; exact List.mem_cons_of_mem _ (List.mem_singleton.mpr rfl)
theorem ANR_tk {L s0 : Nat} {τ : Nat → qS} {A : Nat → List (Ms × Nat × Nat)} (h : ANR L s0 τ A) : ∀ k, s0 + k ≤ 7 * L → TKa s0 τ (s0 + k) (A (s0 + k))
  | 0, _ => by
    rw [Nat.add_zero, h.1]
    intro y hy _ hb
    rw [List.mem_map] at hy
    obtain ⟨m, -, rfl⟩ := hy
    exact absurd hb (Nat.lt_irrefl _)
  | k + 1, hk => by
    have ih := ANR_tk h k (by omega)
    rcases h.2.2 (s0 + k) (by omega) (by omega) with ⟨h6, σ1, σ2, σ3, A1, A2, A3, -, -, r1, r2, r3, s, a, o⟩ | ⟨-, σ1, σ2, A1, A2, -, -, -, -, r1, r2, r3⟩
    · exact ACn_tk h6 rfl a o (RDn_tk r3 (RDn_tk r2 (RDn_tk r1 ih)))
    · exact TKa_mo (HRn_tk r3 (HRn_tk r2 (HRn_tk r1 ih)))
def tbc (b : Nat) (A : List (Ms × Nat × Nat)) : Nat := A.countP (fun y => tokb y && decide (y.2.2 = b))
theorem tbc_sub (b : Nat) {A B : List (Ms × Nat × Nat)} (h : B.Sublist A) : tbc b B ≤ tbc b A := List.Sublist.countP_le h
theorem tbc_no (b : Nat) (A : List (Ms × Nat × Nat)) {z : Ms} {a c : Nat} (h : xw z 0 ≠ 5 ∧ xw z 0 ≠ 6) : tbc b (A ++ [(z, a, c)]) = tbc b A := by
  unfold tbc
  rw [List.countP_append, List.countP_cons, List.countP_nil]
  have : tokb (z, a, c) = false := by
    cases e : tokb (z, a, c) with
    | false => rfl
    | true =>
      rcases (tokb_i _).mp e with q | q
      · exact absurd q h.1
      · exact absurd q h.2
  rw [this]
  simp
theorem tbc_ap (b : Nat) (A : List (Ms × Nat × Nat)) (z : Ms) (a c : Nat) : tbc b (A ++ [(z, a, c)]) ≤ tbc b A + (if c = b then 1 else 0) := by
  unfold tbc
  rw [List.countP_append, List.countP_cons, List.countP_nil]
  by_cases e : c = b
  · rw [if_pos e]
    split <;> omega
  · rw [if_neg e]
    have : (tokb (z, a, c) && decide ((z, a, c).2.2 = b)) = false := by
      rw [Bool.and_eq_false_iff]
      right
      exact decide_eq_false e
    rw [this]
    simp
theorem RDn_tb {t : Nat} {w e : Int} {A A' : List (Ms × Nat × Nat)} (h : RDn w e t A A') (b : Nat) : tbc b A' ≤ tbc b A := by
  rcases h with ⟨-, rfl⟩ | ⟨i, y, -, c2, c⟩
  · exact Nat.le_refl _
  · rcases c with ⟨-, rfl⟩ | ⟨-, d5, z, -, -, -, -, -, -, rfl⟩
    · exact tbc_sub b (List.eraseIdx_sublist A i)
    · have p := cpA_er (fun y => tokb y && decide (y.2.2 = b)) A i y c2
      have q := tbc_ap b (tlA (A.eraseIdx i)) z (t + 1) y.2.2
      have r := tbc_sub b (tlA_sub (A.eraseIdx i))
      have k : tokb y = true := (tokb_i y).mpr (Or.inl d5)
      rw [k] at p
      unfold tbc at q r ⊢
      by_cases e : y.2.2 = b
      · rw [if_pos e] at q
        rw [if_pos (by rw [decide_eq_true e]; rfl)] at p
        omega
      · rw [if_neg e] at q
        rw [if_neg (by rw [decide_eq_false e]; decide)] at p
        omega
theorem HRn_tb {t : Nat} {A A' : List (Ms × Nat × Nat)} (h : HRn t A A') (b : Nat) : tbc b A' ≤ tbc b A := by
  rcases h with ⟨-, rfl⟩ | ⟨i, y, -, -, c⟩
  · exact Nat.le_refl _
  · rcases c with rfl | ⟨z, z0, rfl⟩
    · exact tbc_sub b (List.eraseIdx_sublist A i)
    · rw [tbc_no b _ ⟨by omega, by omega⟩]
      exact Nat.le_trans (tbc_sub b (tlA_sub _)) (tbc_sub b (List.eraseIdx_sublist A i))
theorem ACn_tb {t : Nat} {w : Int} {σ' : qS} {A A' : List (Ms × Nat × Nat)} {s : List Ms} (h : ACn t A A' s) (ho : OWN w σ' s) (b : Nat) : tbc b A' ≤ tbc b A + (if b = t + 1 then 1 else 0) := by
  obtain ⟨o1, o2⟩ := ho
  have f1 : fe σ' w ≤ 1 := by unfold fe; split <;> omega
  rcases h with ⟨rfl, -⟩ | ⟨z, rfl, es⟩ | ⟨z, z', rfl, es⟩
  · omega
  · have q := tbc_ap b (tlA A) z (t + 1) (t + 1)
    have r := tbc_sub b (tlA_sub A)
    by_cases e : b = t + 1
    · rw [if_pos e]; rw [if_pos e.symm] at q; omega
    · rw [if_neg e]; rw [if_neg (fun e' => e e'.symm)] at q; omega
  · have q := tbc_ap b (tlA A) z (t + 1) (t + 1)
    have r := tbc_sub b (tlA_sub A)
    have r' := tbc_sub b (tlA_sub (tlA A ++ [(z, t + 1, t + 1)]))
    have q' := tbc_ap b (tlA (tlA A ++ [(z, t + 1, t + 1)])) z' (t + 1) (t + 1)
    by_cases e : b = t + 1
    · rw [if_pos e]; rw [if_pos e.symm] at q q'
      rw [es] at o1 o2
      rw [List.countP_cons, List.countP_cons, List.countP_nil] at o1
      have n6 := (o2 z List.mem_cons_self).2.1
      have n6' := (o2 z' (List.mem_cons_of_mem _ (List.mem_singleton.mpr rfl))).2.1
      by_cases c5 : xw z 0 = 5
      · have c5' : ¬ xw z' 0 = 5 := fun c => by
          rw [if_pos ((t5_i z).mpr c5), if_pos ((t5_i z').mpr c)] at o1
          omega
        have := tbc_no b (tlA (tlA A ++ [(z, t + 1, t + 1)])) (z := z') (a := t + 1) (c := t + 1) ⟨c5', n6'⟩
        omega
      · have := tbc_no b (tlA A) (z := z) (a := t + 1) (c := t + 1) ⟨c5, n6⟩
        omega
    · rw [if_neg e]; rw [if_neg (fun e' => e e'.symm)] at q q'; omega
theorem ANR_tb {L s0 : Nat} {τ : Nat → qS} {A : Nat → List (Ms × Nat × Nat)} (h : ANR L s0 τ A) {b : Nat} (hb : s0 < b) : ∀ k, s0 + k ≤ 7 * L → tbc b (A (s0 + k)) ≤ (if b ≤ s0 + k then 1 else 0)
  | 0, _ => by
    rw [Nat.add_zero, h.1, if_neg (by omega)]
    unfold tbc
    rw [Nat.le_zero, List.countP_eq_zero]
    intro y hy
    rw [List.mem_map] at hy
    obtain ⟨m, -, rfl⟩ := hy
    have : decide (s0 = b) = false := decide_eq_false (by omega)
    simp [this]
  | k + 1, hk => by
    have ih := ANR_tb h hb k (by omega)
    rw [show s0 + (k + 1) = s0 + k + 1 by omega]
    rcases h.2.2 (s0 + k) (by omega) (by omega) with ⟨h6, σ1, σ2, σ3, A1, A2, A3, -, -, r1, r2, r3, s, a, o⟩ | ⟨-, σ1, σ2, A1, A2, -, -, -, -, r1, r2, r3⟩
    · have x1 := RDn_tb r1 b
      have x2 := RDn_tb r2 b
      have x3 := RDn_tb r3 b
      have x4 := ACn_tb a o b
      by_cases c : b ≤ s0 + k
      · rw [if_pos c] at ih
        rw [if_pos (by omega)]
        rw [if_neg (by omega)] at x4
        omega
      · rw [if_neg c] at ih
        by_cases e : b = s0 + k + 1
        · rw [if_pos e] at x4
          rw [if_pos (by omega)]
          omega
        · rw [if_neg e] at x4
          omega
    · have x1 := HRn_tb r1 b
      have x2 := HRn_tb r2 b
      have x3 := HRn_tb r3 b
      by_cases c : b ≤ s0 + k
      · rw [if_pos c] at ih
        rw [if_pos (by omega)]
        omega
      · rw [if_neg c] at ih
        omega

