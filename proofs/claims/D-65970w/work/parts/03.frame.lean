abbrev qA : Type := Int ⊕ (Int ⊕ Nat)
abbrev qS : Type := Nat → Int → Int
abbrev qL : Type := List (Option qA)
abbrev qP : Type := List qA → qL → qS → Prop
def w32 (x : Int) : Int := (x + 2147483648) % 4294967296 - 2147483648
def w64 (x : Int) : Int := (x + 9223372036854775808) % 18446744073709551616 - 9223372036854775808
abbrev r32 (x : Int) : Prop := -2147483648 ≤ x ∧ x < 2147483648
abbrev r64 (x : Int) : Prop := -9223372036854775808 ≤ x ∧ x < 9223372036854775808
theorem w32_r (x : Int) : r32 (w32 x) := by unfold r32 w32; omega
theorem w64_r (x : Int) : r64 (w64 x) := by unfold r64 w64; omega
theorem w32_id {x : Int} (h : r32 x) : w32 x = x := by unfold r32 at h; unfold w32; omega
theorem w64_id {x : Int} (h : r64 x) : w64 x = x := by unfold r64 at h; unfold w64; omega
theorem w32_i (x : Int) (h1 : -2147483648 ≤ x) (h2 : x < 2147483648) : w32 x = x := by unfold w32; omega
theorem w64_i (x : Int) (h1 : -9223372036854775808 ≤ x) (h2 : x < 9223372036854775808) : w64 x = x := by unfold w64; omega
theorem i32_toInt (x : Int) : (Int32.ofInt x).toInt = w32 x := by
  rw [Int32.toInt_ofInt, show Int32.size = 4294967296 from rfl, Int.bmod_def]; unfold w32; split <;> omega
theorem i64_toInt (x : Int) : (Int64.ofInt x).toInt = w64 x := by
  rw [Int64.toInt_ofInt, show Int64.size = 18446744073709551616 from rfl, Int.bmod_def]; unfold w64; split <;> omega
theorem i32_w (x : Int) : Int32.ofInt (w32 x) = Int32.ofInt x := by rw [← i32_toInt, Int32.ofInt_toInt]
theorem i64_w (x : Int) : Int64.ofInt (w64 x) = Int64.ofInt x := by rw [← i64_toInt, Int64.ofInt_toInt]
theorem i32_t {x : Int} (h : r32 x) : (Int32.ofInt x).toInt = x := by rw [i32_toInt, w32_id h]
theorem i64_t {x : Int} (h : r64 x) : (Int64.ofInt x).toInt = x := by rw [i64_toInt, w64_id h]
theorem i32_r (x : Int32) : r32 x.toInt := by rw [← Int32.ofInt_toInt x, i32_toInt]; exact w32_r _
theorem i64_r (x : Int64) : r64 x.toInt := by rw [← Int64.ofInt_toInt x, i64_toInt]; exact w64_r _
theorem i32_lt {a b : Int} (ha : r32 a) (hb : r32 b) : Int32.ofInt a < Int32.ofInt b ↔ a < b := by rw [Int32.lt_iff_toInt_lt, i32_t ha, i32_t hb]
theorem i32_le {a b : Int} (ha : r32 a) (hb : r32 b) : Int32.ofInt a ≤ Int32.ofInt b ↔ a ≤ b := by rw [Int32.le_iff_toInt_le, i32_t ha, i32_t hb]
theorem i32_eq {a b : Int} (ha : r32 a) (hb : r32 b) : Int32.ofInt a = Int32.ofInt b ↔ a = b := ⟨fun h => by rw [← i32_t ha, h, i32_t hb], fun h => by rw [h]⟩
theorem i64_lt {a b : Int} (ha : r64 a) (hb : r64 b) : Int64.ofInt a < Int64.ofInt b ↔ a < b := by rw [Int64.lt_iff_toInt_lt, i64_t ha, i64_t hb]
theorem i64_eq {a b : Int} (ha : r64 a) (hb : r64 b) : Int64.ofInt a = Int64.ofInt b ↔ a = b := ⟨fun h => by rw [← i64_t ha, h, i64_t hb], fun h => by rw [h]⟩
theorem r32_0 : r32 0 := by unfold r32; omega
theorem i32_0 : (0 : Int32) = Int32.ofInt 0 := rfl
theorem i32_clamp {x : Int} (h : r32 x) : (Int32.ofInt x).toNatClampNeg = x.toNat := by
  show (Int32.ofInt x).toInt.toNat = _
  rw [i32_t h]
theorem i32_in {i : Int} {n : Nat} (h : r32 i) (h0 : 0 ≤ i) (h1 : i < n) : vp_in (Int32.ofInt i) n := by
  rw [vp_in_iff, i32_t h]; exact ⟨h0, h1⟩
def z_add (a b : Int) : Int := w32 (a + b)
def z_sub (a b : Int) : Int := w32 (a - b)
def z_mul (a b : Int) : Int := w32 (a * b)
def z_div (a b : Int) : Int := w32 (a.tdiv b)
def z_rem (a b : Int) : Int := a.tmod b
def z_and (a b : Int) : Int := (Int32.ofInt a &&& Int32.ofInt b).toInt
def z_shr (a b : Int) : Int := (Int32.ofInt a >>> (Int32.ofInt b &&& 31)).toInt
def z_ushr (a b : Int) : Int := ((Int32.ofInt a).toUInt32 >>> ((Int32.ofInt b).toUInt32 &&& Int32.toUInt32 31)).toInt32.toInt
def y_add (a b : Int) : Int := w64 (a + b)
def y_sub (a b : Int) : Int := w64 (a - b)
def y_mul (a b : Int) : Int := w64 (a * b)
def y_div (a b : Int) : Int := w64 (a.tdiv b)
def y_rem (a b : Int) : Int := a.tmod b
def y_xor (a b : Int) : Int := (Int64.ofInt a ^^^ Int64.ofInt b).toInt
def y_and (a b : Int) : Int := (Int64.ofInt a &&& Int64.ofInt b).toInt
def y_or (a b : Int) : Int := (Int64.ofInt a ||| Int64.ofInt b).toInt
def y_shl (a b : Int) : Int := (Int64.ofInt a <<< ((Int32.ofInt b).toInt64 &&& 63)).toInt
def y_ushr (a b : Int) : Int := ((Int64.ofInt a).toUInt64 >>> ((Int32.ofInt b).toInt64.toUInt64 &&& Int64.toUInt64 63)).toInt64.toInt
def qv (ad : Nat → Nat) : qA → Value
  | .inl z => .int (Int32.ofInt z)
  | .inr (.inl z) => .long (Int64.ofInt z)
  | .inr (.inr r) => .ref (ad r)
def qok : qA → Prop
  | .inl z => r32 z
  | .inr (.inl z) => r64 z
  | .inr (.inr _) => True
def qcat : qA → Nat
  | .inr (.inl _) => 2
  | _ => 1
def su (σ : qS) (k : Nat) (i v : Int) : qS := fun k' i' => if k' = k ∧ i' = i then v else σ k' i'
def qty (k : Nat) : Nat := match k with
  | 0 => 1
  | 1 => 1
  | 2 => 0
  | 3 => 0
  | 4 => 1
  | 5 => 0
  | 6 => 0
  | 7 => 1
  | 8 => 0
  | 9 => 2
  | 10 => 0
  | 11 => 0
  | 12 => 0
  | 13 => 0
  | 14 => 0
  | 15 => 1
  | 16 => 0
  | 17 => 1
  | 18 => 1
  | 19 => 1
  | 20 => 0
  | 21 => 2
  | 22 => 1
  | 23 => 3
  | 24 => 0
  | 25 => 0
  | 26 => 2
  | 27 => 2
  | 28 => 0
  | 29 => 0
  | 30 => 0
  | 31 => 0
  | 32 => 0
  | 33 => 0
  | 34 => 0
  | 35 => 2
  | 36 => 2
  | 37 => 0
  | 38 => 0
  | 39 => 0
  | 40 => 0
  | 41 => 0
  | 42 => 1
  | 43 => 1
  | 44 => 0
  | 45 => 0
  | 46 => 1
  | 47 => 1
  | 48 => 0
  | 49 => 0
  | 50 => 0
  | 51 => 0
  | 52 => 1
  | 53 => 1
  | 54 => 0
  | 55 => 0
  | 56 => 0
  | 57 => 0
  | 58 => 1
  | 59 => 1
  | 60 => 1
  | 61 => 2
  | 62 => 0
  | 63 => 0
  | 64 => 0
  | 65 => 0
  | 66 => 0
  | 67 => 0
  | 68 => 1
  | 69 => 1
  | 70 => 0
  | 71 => 1
  | 72 => 1
  | 73 => 0
  | 74 => 0
  | 75 => 0
  | 76 => 0
  | 77 => 1
  | 78 => 1
  | 79 => 1
  | 80 => 1
  | 81 => 0
  | 100 => 1
  | 101 => 1
  | 102 => 0
  | 103 => 0
  | 104 => 0
  | 105 => 0
  | 106 => 1
  | 107 => 1
  | 108 => 0
  | 109 => 0
  | 110 => 0
  | 111 => 0
  | 112 => 0
  | 113 => 2
  | 114 => 2
  | 115 => 0
  | 116 => 0
  | 117 => 0
  | 118 => 0
  | 119 => 2
  | 120 => 1
  | 121 => 1
  | 122 => 1
  | 123 => 1
  | 124 => 1
  | 125 => 1
  | 126 => 1
  | 127 => 1
  | 128 => 1
  | 129 => 1
  | 130 => 0
  | 131 => 0
  | 140 => 1
  | _ => 0
def qln (k : Nat) : Nat := match k with
  | 0 => 4800
  | 1 => 4800
  | 2 => 16
  | 3 => 40
  | 4 => 40
  | 5 => 0
  | 6 => 960
  | 7 => 960
  | 8 => 24
  | 9 => 8
  | 10 => 8
  | 11 => 8
  | 12 => 8
  | 13 => 8
  | 14 => 0
  | 15 => 12
  | 16 => 0
  | 17 => 4
  | 18 => 4
  | 19 => 4
  | 20 => 0
  | 21 => 0
  | 22 => 0
  | 23 => 0
  | 24 => 0
  | 25 => 0
  | 26 => 0
  | 27 => 0
  | 28 => 0
  | 29 => 8
  | 30 => 0
  | 31 => 0
  | 32 => 0
  | 33 => 38
  | 34 => 38
  | 35 => 6
  | 36 => 0
  | 37 => 44
  | 38 => 44
  | 39 => 0
  | 40 => 6
  | 41 => 6
  | 42 => 1800
  | 43 => 1800
  | 44 => 96
  | 45 => 576
  | 46 => 768
  | 47 => 768
  | 48 => 0
  | 49 => 0
  | 50 => 0
  | 51 => 6
  | 52 => 8
  | 53 => 8
  | 54 => 6
  | 55 => 6
  | 56 => 228
  | 57 => 228
  | 58 => 228
  | 59 => 6000
  | 60 => 6000
  | 61 => 6
  | 62 => 6
  | 63 => 6
  | 64 => 6
  | 65 => 6
  | 66 => 6
  | 67 => 6
  | 68 => 48
  | 69 => 48
  | 70 => 6
  | 71 => 384
  | 72 => 384
  | 73 => 6
  | 74 => 390
  | 75 => 6
  | 76 => 234
  | 77 => 6000
  | 78 => 6000
  | 79 => 1000
  | 80 => 1000
  | 81 => 65
  | 100 => 4800
  | 101 => 4800
  | 102 => 16
  | 103 => 960
  | 104 => 24
  | 105 => 40
  | 106 => 960
  | 107 => 40
  | 108 => 8
  | 109 => 8
  | 110 => 8
  | 111 => 8
  | 112 => 8
  | 113 => 8
  | 114 => 8
  | 115 => 0
  | 116 => 0
  | 117 => 0
  | 118 => 0
  | 119 => 0
  | 120 => 200
  | 121 => 200
  | 122 => 4000
  | 123 => 4000
  | 124 => 4000
  | 125 => 4000
  | 126 => 12
  | 127 => 4
  | 128 => 4
  | 129 => 4
  | 130 => 0
  | 131 => 0
  | 140 => 1
  | _ => 0
def qar : List Nat := [140, 0, 1, 2, 3, 4, 6, 7, 8, 9, 10, 11, 12, 13, 15, 17, 18, 19, 29, 33, 34, 35, 37, 38, 40, 41, 42, 43, 44, 45, 46, 47, 51, 52, 53, 54, 55, 56, 57, 58, 59, 60, 61, 62, 63, 64, 65, 66, 67, 68, 69, 70, 71, 72, 73, 74, 75, 76, 77, 78, 79, 80, 81, 100, 101, 102, 103, 104, 105, 106, 107, 108, 109, 110, 111, 112, 113, 114, 120, 121, 122, 123, 124, 125, 126, 127, 128, 129]
def qtb : List Nat := 900 :: 901 :: qar
theorem qtb_nd : va_nd qtb = true := by decide +kernel
theorem qar_len : ∀ k ∈ qar, qln k ≠ 0 := by decide +kernel
theorem qar_ty : ∀ k ∈ qar, qty k = 0 ∨ qty k = 1 ∨ qty k = 2 := by decide +kernel
theorem qar_ne : ∀ k ∈ qar, k ≠ 900 ∧ k ≠ 901 := by decide +kernel
theorem qar_bd : ∀ k ∈ qar, qln k < 100000 := by decide +kernel
def qfv (ad : Nat → Nat) (σ : qS) (k : Nat) : Value := if qln k ≠ 0 then .ref (ad k) else if qty k = 1 then .long (Int64.ofInt (σ k 0)) else if qty k = 3 then (if σ k 0 < 0 then .null else .ref (ad (σ k 0).toNat)) else .int (Int32.ofInt (σ k 0))
def qct (σ : qS) (k : Nat) : (Nat → Int32) ⊕ (Nat → Int64) ⊕ (Nat → UInt32) ⊕ (Nat → UInt64) ⊕ (Nat → Option Nat) := if qty k = 1 then .inr (.inl (fun j => Int64.ofInt (σ k j))) else .inl (fun j => Int32.ofInt (σ k j))
def qe (ad : Nat → Nat) (cA : Nat → ClassId) (σ : qS) (r : Nat) : va_E :=
  if r = 900 then .inr (0, (List.range 82).map (fun j => qfv ad σ (0 + j))) else if r = 901 then .inr (1, (List.range 32).map (fun j => qfv ad σ (100 + j))) else .inl (cA (qty r), qln r, qct σ r)
def qw (ad : Nat → Nat) (cA : Nat → ClassId) (σ : qS) : va_W := qtb.map (fun r => (ad r, qe ad cA σ r))
def qor (t : Nat) (x : Int) : Prop := if t = 1 then r64 x else if t = 2 then x = 0 ∨ x = 1 else if t = 3 then True else r32 x
def qoS (σ : qS) : Prop := ∀ k i, qor (qty k) (σ k i)
theorem qw_get {ad : Nat → Nat} {cA : Nat → ClassId} {σ : qS} {r : Nat} (h : r ∈ qtb) : ∃ p : Nat, qtb[p]? = some r ∧ (qw ad cA σ)[p]? = some (ad r, qe ad cA σ r) := by
  obtain ⟨p, hp⟩ := List.getElem?_of_mem h
  exact ⟨p, hp, by rw [qw, List.getElem?_map, hp]; rfl⟩
theorem qw_set {ad : Nat → Nat} {cA : Nat → ClassId} {σ σ' : qS} {r p : Nat} (hp : qtb[p]? = some r) (ho : ∀ r' ∈ qtb, r' ≠ r → qe ad cA σ' r' = qe ad cA σ r') : (qw ad cA σ).set p (ad r, qe ad cA σ' r) = qw ad cA σ' := by
  apply List.ext_getElem?
  intro i
  have hl : p < qtb.length := (List.getElem?_eq_some_iff.mp hp).1
  by_cases hi : i = p
  · subst hi
    rw [List.getElem?_set_self (by rw [qw, List.length_map]; exact hl), qw, List.getElem?_map, hp]; rfl
  · rw [List.getElem?_set_ne (Ne.symm hi), qw, qw, List.getElem?_map, List.getElem?_map]
    cases hq : qtb[i]? with
    | none => rfl
    | some r' =>
      have hne : r' ≠ r := fun e => hi (va_nd_inj qtb qtb_nd i p r' hq (by rw [hp, e]))
      show some (ad r', qe ad cA σ r') = some (ad r', qe ad cA σ' r')
      rw [ho r' (List.mem_of_getElem? hq) hne]
theorem qfv_arr {ad : Nat → Nat} {σ : qS} {k : Nat} (h : qln k ≠ 0) : qfv ad σ k = .ref (ad k) := by simp [qfv, h]
theorem qfv_su_ne {ad : Nat → Nat} {σ : qS} {k k' : Nat} {i v : Int} (h : k' ≠ k) : qfv ad (su σ k i v) k' = qfv ad σ k' := by simp [qfv, su, h]
theorem qfv_su_arr {ad : Nat → Nat} {σ : qS} {k k' : Nat} {i v : Int} (h : qln k ≠ 0) : qfv ad (su σ k i v) k' = qfv ad σ k' := by
  by_cases e : k' = k
  · subst e; rw [qfv_arr h, qfv_arr h]
  · exact qfv_su_ne e
theorem qct_su_ne {σ : qS} {k k' : Nat} {i v : Int} (h : k' ≠ k) : qct (su σ k i v) k' = qct σ k' := by simp [qct, su, h]
theorem qe_su_arr {ad : Nat → Nat} {cA : Nat → ClassId} {σ : qS} {k r' : Nat} {i v : Int} (h : qln k ≠ 0) (hr : r' ≠ k) : qe ad cA (su σ k i v) r' = qe ad cA σ r' := by
  unfold qe
  rw [qct_su_ne hr]
  simp only [qfv_su_arr h]
def lkj (ls : qL) (j : Nat) : qL := match ls.getD j none with
  | some (.inr (.inl _)) => ls.set j none
  | _ => ls
def lks (ls : qL) : Nat → qL
  | 0 => ls
  | j + 1 => lkj ls j
def ls1 (ls : qL) (i : Nat) (v : qA) : qL := (lks ls i).set i (some v)
def ls2 (ls : qL) (i : Nat) (v : qA) : qL := ((lks ls i).set i (some v)).set (i + 1) none
def qlr (ad : Nat → Nat) (la : Array Slot) (nL : Nat) (ls : qL) : Prop := la.size = nL ∧ ls.length ≤ nL ∧ lv_wf la ∧ ∀ (i : Nat) (v : qA), ls[i]? = some (some v) → la[i]? = some (.val (qv ad v))
def qas (ad : Nat → Nat) (ls : qL) : List (Nat × Value) := (List.range ls.length).filterMap (fun i => (ls.getD i none).map (fun v => (i, qv ad v)))
theorem qgetD {ls : qL} {i : Nat} {v : qA} : ls.getD i none = some v ↔ ls[i]? = some (some v) := by
  rw [List.getD_eq_getElem?_getD]
  cases h : ls[i]? with
  | none => simp
  | some x => simp
theorem qas_mem {ad : Nat → Nat} {ls : qL} {q : Nat × Value} : q ∈ qas ad ls ↔ ∃ v : qA, ls[q.1]? = some (some v) ∧ q.2 = qv ad v := by
  unfold qas
  rw [List.mem_filterMap]
  constructor
  · rintro ⟨i, hi, h⟩
    cases hv : ls.getD i none with
    | none => rw [hv] at h; cases h
    | some v =>
      rw [hv] at h
      cases h
      exact ⟨v, qgetD.mp hv, rfl⟩
  · rintro ⟨v, h, e⟩
    refine ⟨q.1, List.mem_range.mpr (List.getElem?_eq_some_iff.mp h).1, ?_⟩
    rw [qgetD.mpr h, Option.map_some, ← e]
theorem qlr_has {ad : Nat → Nat} {la : Array Slot} {nL : Nat} {ls : qL} (h : qlr ad la nL ls) : lv_has la nL (qas ad ls) := by
  refine ⟨h.1, h.2.2.1, fun q hq => ?_⟩
  obtain ⟨v, h1, h2⟩ := qas_mem.mp hq
  rw [h.2.2.2 _ _ h1, h2]
theorem lks_len (ls : qL) (i : Nat) : (lks ls i).length = ls.length := by
  cases i with
  | zero => rfl
  | succ j => show (lkj ls j).length = _; unfold lkj; split <;> simp
theorem lks_at {ls : qL} {i j : Nat} {v : qA} (h : (lks ls i)[j]? = some (some v)) : ls[j]? = some (some v) ∧ ¬ (j + 1 = i ∧ qcat v = 2) := by
  cases i with
  | zero => exact ⟨h, fun q => by omega⟩
  | succ k =>
    change (lkj ls k)[j]? = _ at h
    unfold lkj at h
    split at h
    next z hz =>
      by_cases e : k = j
      · subst e
        rw [List.getElem?_set] at h
        split at h
        · split at h <;> cases h
        · exact absurd rfl ‹_›
      · rw [List.getElem?_set_ne e] at h
        exact ⟨h, fun q => e (by omega)⟩
    next hz =>
      refine ⟨h, fun q => ?_⟩
      have e : k = j := by omega
      subst e
      obtain ⟨-, q2⟩ := q
      rcases v with z | z | z
      · simp [qcat] at q2
      · exact hz z (qgetD.mpr h)
      · simp [qcat] at q2
theorem qv_cat (ad : Nat → Nat) (v : qA) : (qv ad v).category = qcat v := by rcases v with z | z | z <;> rfl
theorem qlr_o1 {ad : Nat → Nat} {la la' : Array Slot} {nL i : Nat} {ls : qL} {v : qA} (h : qlr ad la nL ls) (h' : lv_has la' nL ((i, qv ad v) :: (qas ad ls).filter (fun q => !(q.1 == i) && !(q.1 + 1 == i && q.2.category == 2)))) : qlr ad la' nL (ls1 ls i v) := by
  obtain ⟨h2, h3, h4⟩ := h'
  refine ⟨h2, by unfold ls1; rw [List.length_set, lks_len]; exact h.2.1, h3, fun j w hj => ?_⟩
  unfold ls1 at hj
  by_cases e : i = j
  · subst e
    rw [List.getElem?_set] at hj
    simp only [if_pos] at hj
    split at hj
    · have e9 := Option.some.inj (Option.some.inj hj); subst e9; exact h4 (i, qv ad v) List.mem_cons_self
    · cases hj
  · rw [List.getElem?_set_ne e] at hj
    obtain ⟨g1, g2⟩ := lks_at hj
    refine h4 (j, qv ad w) (List.mem_cons_of_mem _ (List.mem_filter.mpr ⟨qas_mem.mpr ⟨w, g1, rfl⟩, ?_⟩))
    rw [qv_cat]
    simp only [Bool.and_eq_true, Bool.not_eq_true', beq_eq_false_iff_ne, Bool.and_eq_false_iff]
    exact ⟨fun q => e q.symm, by by_cases q : j + 1 = i; exact Or.inr (fun z => g2 ⟨q, z⟩); exact Or.inl q⟩
theorem qlr_o2 {ad : Nat → Nat} {la la' : Array Slot} {nL i : Nat} {ls : qL} {v : qA} (h : qlr ad la nL ls) (h' : lv_has la' nL ((i, qv ad v) :: (qas ad ls).filter (fun q => !(q.1 == i) && (!(q.1 == i + 1) && !(q.1 + 1 == i && q.2.category == 2))))) : qlr ad la' nL (ls2 ls i v) := by
  obtain ⟨h2, h3, h4⟩ := h'
  refine ⟨h2, by unfold ls2; rw [List.length_set, List.length_set, lks_len]; exact h.2.1, h3, fun j w hj => ?_⟩
  unfold ls2 at hj
  by_cases e2 : i + 1 = j
  · subst e2
    rw [List.getElem?_set] at hj
    simp only [if_pos] at hj
    split at hj <;> cases hj
  · rw [List.getElem?_set_ne e2] at hj
    by_cases e : i = j
    · subst e
      rw [List.getElem?_set] at hj
      simp only [if_pos] at hj
      split at hj
      · have e9 := Option.some.inj (Option.some.inj hj); subst e9; exact h4 (i, qv ad v) List.mem_cons_self
      · cases hj
    · rw [List.getElem?_set_ne e] at hj
      obtain ⟨g1, g2⟩ := lks_at hj
      refine h4 (j, qv ad w) (List.mem_cons_of_mem _ (List.mem_filter.mpr ⟨qas_mem.mpr ⟨w, g1, rfl⟩, ?_⟩))
      rw [qv_cat]
      simp only [Bool.and_eq_true, Bool.not_eq_true', beq_eq_false_iff_ne, Bool.and_eq_false_iff]
      exact ⟨fun q => e q.symm, fun q => e2 q.symm, by by_cases q : j + 1 = i; exact Or.inr (fun z => g2 ⟨q, z⟩); exact Or.inl q⟩
theorem ls1_ok {ls : qL} {i : Nat} {v : qA} (h : ∀ (j : Nat) w, ls[j]? = some (some w) → qok w) (hv : qok v) : ∀ (j : Nat) w, (ls1 ls i v)[j]? = some (some w) → qok w := by
  intro j w hj
  unfold ls1 at hj
  by_cases e : i = j
  · subst e
    rw [List.getElem?_set] at hj
    simp only [if_pos] at hj
    split at hj
    · have e9 := Option.some.inj (Option.some.inj hj); subst e9; exact hv
    · cases hj
  · rw [List.getElem?_set_ne e] at hj
    exact h j w (lks_at hj).1
theorem ls2_ok {ls : qL} {i : Nat} {v : qA} (h : ∀ (j : Nat) w, ls[j]? = some (some w) → qok w) (hv : qok v) : ∀ (j : Nat) w, (ls2 ls i v)[j]? = some (some w) → qok w := by
  intro j w hj
  unfold ls2 at hj
  by_cases e2 : i + 1 = j
  · subst e2
    rw [List.getElem?_set] at hj
    simp only [if_pos] at hj
    split at hj <;> cases hj
  · rw [List.getElem?_set_ne e2] at hj
    exact ls1_ok (ls := ls) (i := i) h hv j w hj
