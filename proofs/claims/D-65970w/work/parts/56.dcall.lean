def dprg (σ : qS) (p : Int) : Prg := (fun i => σ 103 (40 * p + i), fun i => σ 106 (40 * p + i), σ 104 p)
def dprok (σ : qS) (p : Int) : Prop := (0 ≤ p ∧ p < 24) ∧ (0 ≤ σ 104 p ∧ σ 104 p ≤ 40) ∧ ∀ i, 0 ≤ i → i < σ 104 p → (0 ≤ σ 103 (40 * p + i) ∧ σ 103 (40 * p + i) ≤ 18) ∧ ((σ 103 (40 * p + i) = 4 ∨ σ 103 (40 * p + i) = 5) → 0 ≤ σ 106 (40 * p + i) ∧ σ 106 (40 * p + i) ≤ 3) ∧ ((σ 103 (40 * p + i) = 15 ∨ σ 103 (40 * p + i) = 16) → 0 ≤ σ 106 (40 * p + i) ∧ σ 106 (40 * p + i) ≤ σ 104 p)
def EmD (σ : qS) (em : List Pr) : Prop := σ 131 0 = em.length ∧ em.length ≤ 4 ∧ ∀ (i : Nat) e, em[i]? = some e → σ 128 i = e.1 ∧ σ 129 i = e.2
def F_dcl (σ σ' : qS) : Prop := ∀ q, q ∉ [126, 127, 128, 129, 131] → σ' q = σ q
def dwhat (mp cb : Int) : Int := if mp ≠ 0 then 0 else if cb ≠ 0 then 1 else 2
def P_D_call (p mp cb _k : Int) (rv : Nat) (fr to : Int) (σ : qS) : Prop := dprok σ p ∧ ((mp = 0 ∨ mp = 1) ∧ (cb = 0 ∨ cb = 1) ∧ (mp ≠ 0 → cb = 0)) ∧ rv ∈ [101, 121, 123] ∧ (0 ≤ fr ∧ fr ≤ to ∧ to ≤ qln rv)
def Q_D_call (p mp cb k : Int) (rv : Nat) (fr to : Int) (σ : qS) (r : Int) (σ' : qS) : Prop := F_dcl σ σ' ∧ (match lcall (dprg σ p) (dwhat mp cb) k (vls (σ rv) fr (to - fr).toNat) with
  | none => r = 0
  | some em => r = 1 ∧ EmD σ' em)
def pre_D_call (av : List qA) (σ : qS) : Prop := match av with
  | [.inr (.inr o), .inl a1, .inl a2, .inl a3, .inr (.inl a4), .inr (.inr a5), .inl a6, .inl a7] => o = 901 ∧ P_D_call a1 a2 a3 a4 a5 a6 a7 σ
  | _ => False
def post_D_call (av : List qA) (σ : qS) (r : Option qA) (σ' : qS) : Prop := match av, r with
  | [_, .inl a1, .inl a2, .inl a3, .inr (.inl a4), .inr (.inr a5), .inl a6, .inl a7], some (.inl r) => Q_D_call a1 a2 a3 a4 a5 a6 a7 σ r σ'
  | _, _ => False
def oc_D_call (K : qP) : qP := fun st ls σ => match st with
  | .inl a7 :: .inl a6 :: .inr (.inr a5) :: .inr (.inl a4) :: .inl a3 :: .inl a2 :: .inl a1 :: .inr (.inr o) :: st => o = 901 ∧ (st.map qcat).sum ≤ 8 ∧ P_D_call a1 a2 a3 a4 a5 a6 a7 σ ∧ ∀ (r : Int) (σ' : qS), Q_D_call a1 a2 a3 a4 a5 a6 a7 σ r σ' → K (.inl r :: st) ls σ'
  | _ => False
def rm_D_call : Room := { frames := 0, cells := 0, slots := 0, locals := 0 }
theorem fl_D_75 : qF R_D 901 1 32 100 R_D F_D 75 26 := ⟨Or.inr ⟨rfl, rfl, rfl, rfl, rfl, rfl⟩, by decide, lw_at 815 (by decide +kernel) rfl⟩
theorem fl_D_78 : qF R_D 901 1 32 100 R_D F_D 78 27 := ⟨Or.inr ⟨rfl, rfl, rfl, rfl, rfl, rfl⟩, by decide, lw_at 816 (by decide +kernel) rfl⟩
theorem fl_D_81 : qF R_D 901 1 32 100 R_D F_D 81 28 := ⟨Or.inr ⟨rfl, rfl, rfl, rfl, rfl, rfl⟩, by decide, lw_at 817 (by decide +kernel) rfl⟩
theorem fl_D_84 : qF R_D 901 1 32 100 R_D F_D 84 29 := ⟨Or.inr ⟨rfl, rfl, rfl, rfl, rfl, rfl⟩, by decide, lw_at 818 (by decide +kernel) rfl⟩
theorem fl_D_91 : qF R_D 901 1 32 100 R_D F_D 91 31 := ⟨Or.inr ⟨rfl, rfl, rfl, rfl, rfl, rfl⟩, by decide, lw_at 820 (by decide +kernel) rfl⟩
def k_D_call_727 (QR : Option qA → qS → Prop) (H : Nat → qP) : qP :=
  o_c (.inl 1) <| o_rz QR
def k_D_call_721 (QR : Option qA → qS → Prop) (H : Nat → qP) : qP :=
  o_inc 12 1 <| H 41
def k_D_call_720 (QR : Option qA → qS → Prop) (H : Nat → qP) : qP :=
  o_jsk 126 12 <| H 721
def k_D_call_719 (QR : Option qA → qS → Prop) (H : Nat → qP) : qP :=
  o_c (.inr (.inl 0)) <| k_D_call_720 QR H
def k_D_call_715 (QR : Option qA → qS → Prop) (H : Nat → qP) : qP :=
  o_c (.inr (.inl 1)) <| k_D_call_720 QR H
def k_D_call_707 (QR : Option qA → qS → Prop) (H : Nat → qP) : qP :=
  o_ll 19 <| o_ll 17 <| o_l2 (fun a b => ¬ a = b) (k_D_call_719 QR H) (k_D_call_715 QR H)
def k_D_call_704 (QR : Option qA → qS → Prop) (H : Nat → qP) : qP :=
  k_D_call_715 QR H
def k_D_call_696 (QR : Option qA → qS → Prop) (H : Nat → qP) : qP :=
  o_ll 19 <| o_ll 17 <| o_l2 (fun a b => b ≤ a) (k_D_call_719 QR H) (k_D_call_704 QR H)
def k_D_call_689 (QR : Option qA → qS → Prop) (H : Nat → qP) : qP :=
  o_il 13 <| o_c (.inl 10) <| o_i2 (fun a b => ¬ a = b) (k_D_call_707 QR H) (k_D_call_696 QR H)
def k_D_call_681 (QR : Option qA → qS → Prop) (H : Nat → qP) : qP :=
  o_ll 19 <| o_ll 17 <| o_bld y_div <| k_D_call_720 QR H
def k_D_call_674 (QR : Option qA → qS → Prop) (H : Nat → qP) : qP :=
  o_il 13 <| o_c (.inl 9) <| o_i2 (fun a b => ¬ a = b) (k_D_call_689 QR H) (k_D_call_681 QR H)
def k_D_call_666 (QR : Option qA → qS → Prop) (H : Nat → qP) : qP :=
  o_ll 19 <| o_ll 17 <| o_bl y_mul <| k_D_call_720 QR H
def k_D_call_659 (QR : Option qA → qS → Prop) (H : Nat → qP) : qP :=
  o_il 13 <| o_c (.inl 8) <| o_i2 (fun a b => ¬ a = b) (k_D_call_674 QR H) (k_D_call_666 QR H)
def k_D_call_651 (QR : Option qA → qS → Prop) (H : Nat → qP) : qP :=
  o_ll 19 <| o_ll 17 <| o_bl y_sub <| k_D_call_720 QR H
def k_D_call_644 (QR : Option qA → qS → Prop) (H : Nat → qP) : qP :=
  o_il 13 <| o_c (.inl 7) <| o_i2 (fun a b => ¬ a = b) (k_D_call_659 QR H) (k_D_call_651 QR H)
def k_D_call_636 (QR : Option qA → qS → Prop) (H : Nat → qP) : qP :=
  o_ll 19 <| o_ll 17 <| o_bl y_add <| k_D_call_720 QR H
def k_D_call_618 (QR : Option qA → qS → Prop) (H : Nat → qP) : qP :=
  o_inc 9 (-1) <| o_al 0 <| o_gA 901 126 <| o_il 9 <| o_c (.inl 1) <| o_bi z_sub <| o_il 13 <| o_c (.inl 6) <| o_i2 (fun a b => ¬ a = b) (k_D_call_644 QR H) (k_D_call_636 QR H)
def k_D_call_616 (QR : Option qA → qS → Prop) (H : Nat → qP) : qP :=
  o_c (.inl 0) <| o_rz QR
def k_D_call_609 (QR : Option qA → qS → Prop) (H : Nat → qP) : qP :=
  o_ll 17 <| o_c (.inr (.inl 0)) <| o_l2 (fun a b => ¬ a = b) (H 618) (k_D_call_616 QR H)
def k_D_call_602 (QR : Option qA → qS → Prop) (H : Nat → qP) : qP :=
  o_il 13 <| o_c (.inl 9) <| o_i2 (fun a b => ¬ a = b) (H 618) (k_D_call_609 QR H)
def k_D_call_600 (QR : Option qA → qS → Prop) (H : Nat → qP) : qP :=
  o_c (.inl 1) <| o_rz QR
def k_D_call_568 (QR : Option qA → qS → Prop) (H : Nat → qP) : qP :=
  o_jsk 128 4 <| o_al 0 <| o_gA 901 129 <| o_al 0 <| o_gI 901 131 <| o_ll 17 <| o_jsk 129 4 <| o_al 0 <| o_dup <| o_gI 901 131 <| o_c (.inl 1) <| o_bi z_add <| o_pI 901 131 <| o_il 9 <| o_il 16 <| o_bi z_sub <| o_is 9 <| H 721
def k_D_call_566 (QR : Option qA → qS → Prop) (H : Nat → qP) : qP :=
  o_ll 19 <| k_D_call_568 QR H
def k_D_call_561 (QR : Option qA → qS → Prop) (H : Nat → qP) : qP :=
  o_ll 4 <| k_D_call_568 QR H
def k_D_call_549 (QR : Option qA → qS → Prop) (H : Nat → qP) : qP :=
  o_al 0 <| o_gA 901 128 <| o_al 0 <| o_gI 901 131 <| o_il 3 <| o_if (fun a => a = 0) (k_D_call_566 QR H) (k_D_call_561 QR H)
def k_D_call_547 (QR : Option qA → qS → Prop) (H : Nat → qP) : qP :=
  o_c (.inl 0) <| o_rz QR
def k_D_call_539 (QR : Option qA → qS → Prop) (H : Nat → qP) : qP :=
  o_al 0 <| o_gI 901 131 <| o_c (.inl 4) <| o_i2 (fun a b => ¬ a = b) (k_D_call_549 QR H) (k_D_call_547 QR H)
def k_D_call_531 (QR : Option qA → qS → Prop) (H : Nat → qP) : qP :=
  o_ll 14 <| o_l2i <| o_is 10 <| H 721
def k_D_call_521 (QR : Option qA → qS → Prop) (H : Nat → qP) : qP :=
  o_inc 9 (-1) <| o_ll 17 <| o_c (.inr (.inl 0)) <| o_l2 (fun a b => ¬ a = b) (H 721) (k_D_call_531 QR H)
def k_D_call_513 (QR : Option qA → qS → Prop) (H : Nat → qP) : qP :=
  o_ll 14 <| o_l2i <| o_is 10 <| H 721
def k_D_call_488 (QR : Option qA → qS → Prop) (H : Nat → qP) : qP :=
  o_al 0 <| o_gA 901 126 <| o_il 9 <| o_c (.inl 1) <| o_bi z_sub <| o_ll 19 <| o_jsk 126 12 <| o_al 0 <| o_gA 901 126 <| o_il 9 <| o_c (.inl 2) <| o_bi z_sub <| o_ll 17 <| o_jsk 126 12 <| H 721
def k_D_call_482 (QR : Option qA → qS → Prop) (H : Nat → qP) : qP :=
  o_inc 9 (-1) <| H 721
def k_D_call_467 (QR : Option qA → qS → Prop) (H : Nat → qP) : qP :=
  o_al 0 <| o_gA 901 126 <| o_il 9 <| o_inc 9 1 <| o_ll 17 <| o_jsk 126 12 <| H 721
def k_D_call_446 (QR : Option qA → qS → Prop) (H : Nat → qP) : qP :=
  o_al 0 <| o_gA 901 127 <| o_ll 14 <| o_l2i <| o_al 0 <| o_gA 901 126 <| o_inc 9 (-1) <| o_il 9 <| o_jak 126 12 <| o_jsk 127 4 <| H 721
def k_D_call_425 (QR : Option qA → qS → Prop) (H : Nat → qP) : qP :=
  o_al 0 <| o_gA 901 126 <| o_il 9 <| o_inc 9 1 <| o_al 0 <| o_gA 901 127 <| o_ll 14 <| o_l2i <| o_jak 127 4 <| o_jsk 126 12 <| H 721
def k_D_call_421 (QR : Option qA → qS → Prop) (H : Nat → qP) : qP :=
  o_jsk 126 12 <| H 721
def k_D_call_420 (QR : Option qA → qS → Prop) (H : Nat → qP) : qP :=
  o_c (.inr (.inl 0)) <| k_D_call_421 QR H
def k_D_call_416 (QR : Option qA → qS → Prop) (H : Nat → qP) : qP :=
  o_c (.inr (.inl 1)) <| k_D_call_421 QR H
def k_D_call_409 (QR : Option qA → qS → Prop) (H : Nat → qP) : qP :=
  o_il 11 <| o_il 8 <| o_i2 (fun a b => b ≤ a) (k_D_call_420 QR H) (k_D_call_416 QR H)
def k_D_call_396 (QR : Option qA → qS → Prop) (H : Nat → qP) : qP :=
  o_al 0 <| o_gA 901 126 <| o_il 9 <| o_inc 9 1 <| o_il 2 <| o_if (fun a => ¬ a = 0) (k_D_call_420 QR H) (k_D_call_409 QR H)
def k_D_call_390 (QR : Option qA → qS → Prop) (H : Nat → qP) : qP :=
  o_inc 11 1 <| H 721
def k_D_call_371 (QR : Option qA → qS → Prop) (H : Nat → qP) : qP :=
  o_al 0 <| o_gA 901 126 <| o_il 9 <| o_inc 9 1 <| o_al 6 <| o_il 11 <| o_ja <| o_jsk 126 12 <| o_il 2 <| o_if (fun a => ¬ a = 0) (H 721) (k_D_call_390 QR H)
def k_D_call_369 (QR : Option qA → qS → Prop) (H : Nat → qP) : qP :=
  o_c (.inl 0) <| o_rz QR
def k_D_call_362 (QR : Option qA → qS → Prop) (H : Nat → qP) : qP :=
  o_il 11 <| o_il 8 <| o_i2 (fun a b => ¬ a = b) (k_D_call_371 QR H) (k_D_call_369 QR H)
def k_D_call_347 (QR : Option qA → qS → Prop) (H : Nat → qP) : qP :=
  o_al 0 <| o_gA 901 126 <| o_il 9 <| o_inc 9 1 <| o_ll 4 <| o_jsk 126 12 <| H 721
def k_D_call_332 (QR : Option qA → qS → Prop) (H : Nat → qP) : qP :=
  o_al 0 <| o_gA 901 126 <| o_il 9 <| o_inc 9 1 <| o_ll 14 <| o_jsk 126 12 <| H 721
def k_D_call_240 (QR : Option qA → qS → Prop) (H : Nat → qP) : qP :=
  o_il 13 <| o_sw 0 [k_D_call_332 QR H, k_D_call_347 QR H, k_D_call_362 QR H, k_D_call_396 QR H, k_D_call_425 QR H, k_D_call_446 QR H, H 602, H 602, H 602, H 602, H 602, H 602, k_D_call_467 QR H, k_D_call_482 QR H, k_D_call_488 QR H, k_D_call_513 QR H, k_D_call_521 QR H, k_D_call_539 QR H, k_D_call_600 QR H] (H 602)
def k_D_call_238 (QR : Option qA → qS → Prop) (H : Nat → qP) : qP :=
  o_ls 19 <| H 240
def k_D_call_237 (QR : Option qA → qS → Prop) (H : Nat → qP) : qP :=
  o_c (.inr (.inl 0)) <| k_D_call_238 QR H
def k_D_call_225 (QR : Option qA → qS → Prop) (H : Nat → qP) : qP :=
  o_al 0 <| o_gA 901 126 <| o_il 9 <| o_c (.inl 2) <| o_bi z_sub <| o_jak 126 12 <| k_D_call_238 QR H
def k_D_call_219 (QR : Option qA → qS → Prop) (H : Nat → qP) : qP :=
  o_il 9 <| o_c (.inl 1) <| o_i2 (fun a b => a ≤ b) (k_D_call_237 QR H) (k_D_call_225 QR H)
def k_D_call_217 (QR : Option qA → qS → Prop) (H : Nat → qP) : qP :=
  o_ls 17 <| H 219
def k_D_call_216 (QR : Option qA → qS → Prop) (H : Nat → qP) : qP :=
  o_c (.inr (.inl 0)) <| k_D_call_217 QR H
def k_D_call_204 (QR : Option qA → qS → Prop) (H : Nat → qP) : qP :=
  o_al 0 <| o_gA 901 126 <| o_il 9 <| o_c (.inl 1) <| o_bi z_sub <| o_jak 126 12 <| k_D_call_217 QR H
def k_D_call_196 (QR : Option qA → qS → Prop) (H : Nat → qP) : qP :=
  o_inc 10 1 <| o_il 9 <| o_if (fun a => a ≤ 0) (k_D_call_216 QR H) (k_D_call_204 QR H)
def k_D_call_194 (QR : Option qA → qS → Prop) (H : Nat → qP) : qP :=
  o_c (.inl 0) <| o_rz QR
def k_D_call_187 (QR : Option qA → qS → Prop) (H : Nat → qP) : qP :=
  o_il 9 <| o_c (.inl 12) <| o_i2 (fun a b => ¬ a = b) (H 196) (H 194)
def k_D_call_180 (QR : Option qA → qS → Prop) (H : Nat → qP) : qP :=
  o_il 13 <| o_c (.inl 12) <| o_i2 (fun a b => ¬ a = b) (H 196) (k_D_call_187 QR H)
def k_D_call_174 (QR : Option qA → qS → Prop) (H : Nat → qP) : qP :=
  o_il 13 <| o_c (.inl 4) <| o_i2 (fun a b => a ≤ b) (k_D_call_187 QR H) (k_D_call_180 QR H)
def k_D_call_167 (QR : Option qA → qS → Prop) (H : Nat → qP) : qP :=
  o_il 9 <| o_il 16 <| o_i2 (fun a b => a < b) (H 194) (k_D_call_174 QR H)
def k_D_call_165 (QR : Option qA → qS → Prop) (H : Nat → qP) : qP :=
  o_is 16 <| H 167
def k_D_call_164 (QR : Option qA → qS → Prop) (H : Nat → qP) : qP :=
  o_c (.inl 0) <| k_D_call_165 QR H
def k_D_call_160 (QR : Option qA → qS → Prop) (H : Nat → qP) : qP :=
  o_c (.inl 1) <| k_D_call_165 QR H
def k_D_call_153 (QR : Option qA → qS → Prop) (H : Nat → qP) : qP :=
  o_il 13 <| o_c (.inl 17) <| o_i2 (fun a b => ¬ a = b) (H 164) (H 160)
def k_D_call_146 (QR : Option qA → qS → Prop) (H : Nat → qP) : qP :=
  o_il 13 <| o_c (.inl 16) <| o_i2 (fun a b => a = b) (H 160) (k_D_call_153 QR H)
def k_D_call_139 (QR : Option qA → qS → Prop) (H : Nat → qP) : qP :=
  o_il 13 <| o_c (.inl 13) <| o_i2 (fun a b => a = b) (H 160) (k_D_call_146 QR H)
def k_D_call_132 (QR : Option qA → qS → Prop) (H : Nat → qP) : qP :=
  o_il 13 <| o_c (.inl 12) <| o_i2 (fun a b => a = b) (H 160) (k_D_call_139 QR H)
def k_D_call_126 (QR : Option qA → qS → Prop) (H : Nat → qP) : qP :=
  o_il 13 <| o_c (.inl 5) <| o_i2 (fun a b => a = b) (H 160) (k_D_call_132 QR H)
def k_D_call_122 (QR : Option qA → qS → Prop) (H : Nat → qP) : qP :=
  o_c (.inl 2) <| k_D_call_165 QR H
def k_D_call_118 (QR : Option qA → qS → Prop) (H : Nat → qP) : qP :=
  o_il 3 <| o_if (fun a => ¬ a = 0) (H 126) (H 122)
def k_D_call_111 (QR : Option qA → qS → Prop) (H : Nat → qP) : qP :=
  o_il 13 <| o_c (.inl 17) <| o_i2 (fun a b => ¬ a = b) (H 126) (k_D_call_118 QR H)
def k_D_call_104 (QR : Option qA → qS → Prop) (H : Nat → qP) : qP :=
  o_il 13 <| o_c (.inl 14) <| o_i2 (fun a b => a = b) (H 122) (k_D_call_111 QR H)
def k_D_call_97 (QR : Option qA → qS → Prop) (H : Nat → qP) : qP :=
  o_il 13 <| o_c (.inl 11) <| o_i2 (fun a b => a ≤ b) (H 122) (k_D_call_104 QR H)
def k_D_call_90 (QR : Option qA → qS → Prop) (H : Nat → qP) : qP :=
  o_il 13 <| o_c (.inl 6) <| o_i2 (fun a b => a < b) (k_D_call_104 QR H) (k_D_call_97 QR H)
def k_D_call_62 (QR : Option qA → qS → Prop) (H : Nat → qP) : qP :=
  o_al 0 <| o_gA 901 103 <| o_c (.inl 40) <| o_il 1 <| o_bi z_mul <| o_il 10 <| o_bi z_add <| o_iak 103 960 <| o_is 13 <| o_al 0 <| o_gA 901 106 <| o_c (.inl 40) <| o_il 1 <| o_bi z_mul <| o_il 10 <| o_bi z_add <| o_jak 106 960 <| o_ls 14 <| H 90
def k_D_call_60 (QR : Option qA → qS → Prop) (H : Nat → qP) : qP :=
  o_c (.inl 0) <| o_rz QR
def k_D_call_52 (QR : Option qA → qS → Prop) (H : Nat → qP) : qP :=
  o_il 12 <| o_c (.inl 400) <| o_i2 (fun a b => ¬ a = b) (k_D_call_62 QR H) (k_D_call_60 QR H)
def k_D_call_41 (QR : Option qA → qS → Prop) (H : Nat → qP) : qP :=
  o_il 10 <| o_al 0 <| o_gA 901 104 <| o_il 1 <| o_iak 104 24 <| o_i2 (fun a b => b ≤ a) (k_D_call_727 QR H) (k_D_call_52 QR H)
def k_D_call_38 (QR : Option qA → qS → Prop) (H : Nat → qP) : qP :=
  o_c (.inl 0) <| o_is 12 <| H 41
def k_D_call_24 (QR : Option qA → qS → Prop) (H : Nat → qP) : qP :=
  o_al 0 <| o_gA 901 127 <| o_il 12 <| o_c (.inr (.inl 0)) <| o_jsk 127 4 <| o_inc 12 1 <| H 18
def k_D_call_18 (QR : Option qA → qS → Prop) (H : Nat → qP) : qP :=
  o_il 12 <| o_c (.inl 4) <| o_i2 (fun a b => b ≤ a) (k_D_call_38 QR H) (k_D_call_24 QR H)
def k_D_call_0 (QR : Option qA → qS → Prop) (H : Nat → qP) : qP :=
  o_c (.inl 0) <| o_is 9 <| o_c (.inl 0) <| o_is 10 <| o_il 7 <| o_is 11 <| o_al 0 <| o_c (.inl 0) <| o_pI 901 131 <| o_c (.inl 0) <| o_is 12 <| H 18
set_option maxRecDepth 8000 in
theorem s_D_call_727 {l : Launch} {ad : Nat → Nat} {D : va_G} {cA : Nat → ClassId} {WW : Nat → qP} {QR : Option qA → qS → Prop} (S : qSnd l rm_D_call ad D cA R_D b_D_call 21 WW) (Q : qRet (some .boolean) b_D_call WW QR) : qle (k_D_call_727 QR WW) WW 727 :=
  S.iconst d_D_call_727 (by decide) <| Q.2.1 rfl _ d_D_call_728
set_option maxRecDepth 8000 in
theorem s_D_call_721 {l : Launch} {ad : Nat → Nat} {D : va_G} {cA : Nat → ClassId} {WW : Nat → qP} {QR : Option qA → qS → Prop} (S : qSnd l rm_D_call ad D cA R_D b_D_call 21 WW) (Q : qRet (some .boolean) b_D_call WW QR) : qle (k_D_call_721 QR WW) WW 721 :=
  S.iinc d_D_call_721 (by decide) <| S.goto d_D_call_724 (by decide) (fun _ _ _ h => h)
set_option maxRecDepth 8000 in
theorem s_D_call_720 {l : Launch} {ad : Nat → Nat} {D : va_G} {cA : Nat → ClassId} {WW : Nat → qP} {QR : Option qA → qS → Prop} (S : qSnd l rm_D_call ad D cA R_D b_D_call 21 WW) (Q : qRet (some .boolean) b_D_call WW QR) : qle (k_D_call_720 QR WW) WW 720 :=
  S.jsk (by decide) d_D_call_720 <| (fun _ _ _ h => h)
set_option maxRecDepth 8000 in
theorem s_D_call_719 {l : Launch} {ad : Nat → Nat} {D : va_G} {cA : Nat → ClassId} {WW : Nat → qP} {QR : Option qA → qS → Prop} (S : qSnd l rm_D_call ad D cA R_D b_D_call 21 WW) (Q : qRet (some .boolean) b_D_call WW QR) : qle (k_D_call_719 QR WW) WW 719 :=
  S.lconst d_D_call_719 (by decide) <| (s_D_call_720 S Q)
set_option maxRecDepth 8000 in
theorem s_D_call_715 {l : Launch} {ad : Nat → Nat} {D : va_G} {cA : Nat → ClassId} {WW : Nat → qP} {QR : Option qA → qS → Prop} (S : qSnd l rm_D_call ad D cA R_D b_D_call 21 WW) (Q : qRet (some .boolean) b_D_call WW QR) : qle (k_D_call_715 QR WW) WW 715 :=
  S.lconst d_D_call_715 (by decide) <| S.goto d_D_call_716 (by decide) (s_D_call_720 S Q)
set_option maxRecDepth 8000 in
theorem s_D_call_707 {l : Launch} {ad : Nat → Nat} {D : va_G} {cA : Nat → ClassId} {WW : Nat → qP} {QR : Option qA → qS → Prop} (S : qSnd l rm_D_call ad D cA R_D b_D_call 21 WW) (Q : qRet (some .boolean) b_D_call WW QR) : qle (k_D_call_707 QR WW) WW 707 :=
  S.lload d_D_call_707 <| S.lload d_D_call_709 <| S.lcmp_ne d_D_call_711 d_D_call_712 (by decide) (s_D_call_719 S Q) (s_D_call_715 S Q)
set_option maxRecDepth 8000 in
theorem s_D_call_704 {l : Launch} {ad : Nat → Nat} {D : va_G} {cA : Nat → ClassId} {WW : Nat → qP} {QR : Option qA → qS → Prop} (S : qSnd l rm_D_call ad D cA R_D b_D_call 21 WW) (Q : qRet (some .boolean) b_D_call WW QR) : qle (k_D_call_704 QR WW) WW 704 :=
  S.goto d_D_call_704 (by decide) (s_D_call_715 S Q)
set_option maxRecDepth 8000 in
theorem s_D_call_696 {l : Launch} {ad : Nat → Nat} {D : va_G} {cA : Nat → ClassId} {WW : Nat → qP} {QR : Option qA → qS → Prop} (S : qSnd l rm_D_call ad D cA R_D b_D_call 21 WW) (Q : qRet (some .boolean) b_D_call WW QR) : qle (k_D_call_696 QR WW) WW 696 :=
  S.lload d_D_call_696 <| S.lload d_D_call_698 <| S.lcmp_ge d_D_call_700 d_D_call_701 (by decide) (s_D_call_719 S Q) (s_D_call_704 S Q)
set_option maxRecDepth 8000 in
theorem s_D_call_689 {l : Launch} {ad : Nat → Nat} {D : va_G} {cA : Nat → ClassId} {WW : Nat → qP} {QR : Option qA → qS → Prop} (S : qSnd l rm_D_call ad D cA R_D b_D_call 21 WW) (Q : qRet (some .boolean) b_D_call WW QR) : qle (k_D_call_689 QR WW) WW 689 :=
  S.iload d_D_call_689 <| S.bipush d_D_call_691 (by decide) <| S.icmp_ne d_D_call_693 (by decide) (s_D_call_707 S Q) (s_D_call_696 S Q)
set_option maxRecDepth 8000 in
theorem s_D_call_681 {l : Launch} {ad : Nat → Nat} {D : va_G} {cA : Nat → ClassId} {WW : Nat → qP} {QR : Option qA → qS → Prop} (S : qSnd l rm_D_call ad D cA R_D b_D_call 21 WW) (Q : qRet (some .boolean) b_D_call WW QR) : qle (k_D_call_681 QR WW) WW 681 :=
  S.lload d_D_call_681 <| S.lload d_D_call_683 <| S.ldiv d_D_call_685 <| S.goto d_D_call_686 (by decide) (s_D_call_720 S Q)
set_option maxRecDepth 8000 in
theorem s_D_call_674 {l : Launch} {ad : Nat → Nat} {D : va_G} {cA : Nat → ClassId} {WW : Nat → qP} {QR : Option qA → qS → Prop} (S : qSnd l rm_D_call ad D cA R_D b_D_call 21 WW) (Q : qRet (some .boolean) b_D_call WW QR) : qle (k_D_call_674 QR WW) WW 674 :=
  S.iload d_D_call_674 <| S.bipush d_D_call_676 (by decide) <| S.icmp_ne d_D_call_678 (by decide) (s_D_call_689 S Q) (s_D_call_681 S Q)
set_option maxRecDepth 8000 in
theorem s_D_call_666 {l : Launch} {ad : Nat → Nat} {D : va_G} {cA : Nat → ClassId} {WW : Nat → qP} {QR : Option qA → qS → Prop} (S : qSnd l rm_D_call ad D cA R_D b_D_call 21 WW) (Q : qRet (some .boolean) b_D_call WW QR) : qle (k_D_call_666 QR WW) WW 666 :=
  S.lload d_D_call_666 <| S.lload d_D_call_668 <| S.lmul d_D_call_670 <| S.goto d_D_call_671 (by decide) (s_D_call_720 S Q)
set_option maxRecDepth 8000 in
theorem s_D_call_659 {l : Launch} {ad : Nat → Nat} {D : va_G} {cA : Nat → ClassId} {WW : Nat → qP} {QR : Option qA → qS → Prop} (S : qSnd l rm_D_call ad D cA R_D b_D_call 21 WW) (Q : qRet (some .boolean) b_D_call WW QR) : qle (k_D_call_659 QR WW) WW 659 :=
  S.iload d_D_call_659 <| S.bipush d_D_call_661 (by decide) <| S.icmp_ne d_D_call_663 (by decide) (s_D_call_674 S Q) (s_D_call_666 S Q)
set_option maxRecDepth 8000 in
theorem s_D_call_651 {l : Launch} {ad : Nat → Nat} {D : va_G} {cA : Nat → ClassId} {WW : Nat → qP} {QR : Option qA → qS → Prop} (S : qSnd l rm_D_call ad D cA R_D b_D_call 21 WW) (Q : qRet (some .boolean) b_D_call WW QR) : qle (k_D_call_651 QR WW) WW 651 :=
  S.lload d_D_call_651 <| S.lload d_D_call_653 <| S.lsub d_D_call_655 <| S.goto d_D_call_656 (by decide) (s_D_call_720 S Q)
set_option maxRecDepth 8000 in
theorem s_D_call_644 {l : Launch} {ad : Nat → Nat} {D : va_G} {cA : Nat → ClassId} {WW : Nat → qP} {QR : Option qA → qS → Prop} (S : qSnd l rm_D_call ad D cA R_D b_D_call 21 WW) (Q : qRet (some .boolean) b_D_call WW QR) : qle (k_D_call_644 QR WW) WW 644 :=
  S.iload d_D_call_644 <| S.bipush d_D_call_646 (by decide) <| S.icmp_ne d_D_call_648 (by decide) (s_D_call_659 S Q) (s_D_call_651 S Q)
set_option maxRecDepth 8000 in
theorem s_D_call_636 {l : Launch} {ad : Nat → Nat} {D : va_G} {cA : Nat → ClassId} {WW : Nat → qP} {QR : Option qA → qS → Prop} (S : qSnd l rm_D_call ad D cA R_D b_D_call 21 WW) (Q : qRet (some .boolean) b_D_call WW QR) : qle (k_D_call_636 QR WW) WW 636 :=
  S.lload d_D_call_636 <| S.lload d_D_call_638 <| S.ladd d_D_call_640 <| S.goto d_D_call_641 (by decide) (s_D_call_720 S Q)
set_option maxRecDepth 8000 in
theorem s_D_call_618 {l : Launch} {ad : Nat → Nat} {D : va_G} {cA : Nat → ClassId} {WW : Nat → qP} {QR : Option qA → qS → Prop} (S : qSnd l rm_D_call ad D cA R_D b_D_call 21 WW) (Q : qRet (some .boolean) b_D_call WW QR) : qle (k_D_call_618 QR WW) WW 618 :=
  S.iinc d_D_call_618 (by decide) <| S.aload_n d_D_call_621 rfl <| S.gA fl_D_75 (by decide) d_D_call_622 <| S.iload d_D_call_625 <| S.iconst d_D_call_627 (by decide) <| S.isub d_D_call_628 <| S.iload d_D_call_629 <| S.bipush d_D_call_631 (by decide) <| S.icmp_ne d_D_call_633 (by decide) (s_D_call_644 S Q) (s_D_call_636 S Q)
set_option maxRecDepth 8000 in
theorem s_D_call_616 {l : Launch} {ad : Nat → Nat} {D : va_G} {cA : Nat → ClassId} {WW : Nat → qP} {QR : Option qA → qS → Prop} (S : qSnd l rm_D_call ad D cA R_D b_D_call 21 WW) (Q : qRet (some .boolean) b_D_call WW QR) : qle (k_D_call_616 QR WW) WW 616 :=
  S.iconst d_D_call_616 (by decide) <| Q.2.1 rfl _ d_D_call_617
set_option maxRecDepth 8000 in
theorem s_D_call_609 {l : Launch} {ad : Nat → Nat} {D : va_G} {cA : Nat → ClassId} {WW : Nat → qP} {QR : Option qA → qS → Prop} (S : qSnd l rm_D_call ad D cA R_D b_D_call 21 WW) (Q : qRet (some .boolean) b_D_call WW QR) : qle (k_D_call_609 QR WW) WW 609 :=
  S.lload d_D_call_609 <| S.lconst d_D_call_611 (by decide) <| S.lcmp_ne d_D_call_612 d_D_call_613 (by decide) (fun _ _ _ h => h) (s_D_call_616 S Q)
set_option maxRecDepth 8000 in
theorem s_D_call_602 {l : Launch} {ad : Nat → Nat} {D : va_G} {cA : Nat → ClassId} {WW : Nat → qP} {QR : Option qA → qS → Prop} (S : qSnd l rm_D_call ad D cA R_D b_D_call 21 WW) (Q : qRet (some .boolean) b_D_call WW QR) : qle (k_D_call_602 QR WW) WW 602 :=
  S.iload d_D_call_602 <| S.bipush d_D_call_604 (by decide) <| S.icmp_ne d_D_call_606 (by decide) (fun _ _ _ h => h) (s_D_call_609 S Q)
set_option maxRecDepth 8000 in
theorem s_D_call_600 {l : Launch} {ad : Nat → Nat} {D : va_G} {cA : Nat → ClassId} {WW : Nat → qP} {QR : Option qA → qS → Prop} (S : qSnd l rm_D_call ad D cA R_D b_D_call 21 WW) (Q : qRet (some .boolean) b_D_call WW QR) : qle (k_D_call_600 QR WW) WW 600 :=
  S.iconst d_D_call_600 (by decide) <| Q.2.1 rfl _ d_D_call_601
set_option maxRecDepth 8000 in
theorem s_D_call_568 {l : Launch} {ad : Nat → Nat} {D : va_G} {cA : Nat → ClassId} {WW : Nat → qP} {QR : Option qA → qS → Prop} (S : qSnd l rm_D_call ad D cA R_D b_D_call 21 WW) (Q : qRet (some .boolean) b_D_call WW QR) : qle (k_D_call_568 QR WW) WW 568 :=
  S.jsk (by decide) d_D_call_568 <| S.aload_n d_D_call_569 rfl <| S.gA fl_D_84 (by decide) d_D_call_570 <| S.aload_n d_D_call_573 rfl <| S.gI fl_D_91 (by decide) d_D_call_574 <| S.lload d_D_call_577 <| S.jsk (by decide) d_D_call_579 <| S.aload_n d_D_call_580 rfl <| S.dup d_D_call_581 <| S.gI fl_D_91 (by decide) d_D_call_582 <| S.iconst d_D_call_585 (by decide) <| S.iadd d_D_call_586 <| S.pI fl_D_91 (by decide) (by decide +kernel) d_D_call_587 <| S.iload d_D_call_590 <| S.iload d_D_call_592 <| S.isub d_D_call_594 <| S.istore d_D_call_595 (by decide) <| S.goto d_D_call_597 (by decide) (fun _ _ _ h => h)
set_option maxRecDepth 8000 in
theorem s_D_call_566 {l : Launch} {ad : Nat → Nat} {D : va_G} {cA : Nat → ClassId} {WW : Nat → qP} {QR : Option qA → qS → Prop} (S : qSnd l rm_D_call ad D cA R_D b_D_call 21 WW) (Q : qRet (some .boolean) b_D_call WW QR) : qle (k_D_call_566 QR WW) WW 566 :=
  S.lload d_D_call_566 <| (s_D_call_568 S Q)
set_option maxRecDepth 8000 in
theorem s_D_call_561 {l : Launch} {ad : Nat → Nat} {D : va_G} {cA : Nat → ClassId} {WW : Nat → qP} {QR : Option qA → qS → Prop} (S : qSnd l rm_D_call ad D cA R_D b_D_call 21 WW) (Q : qRet (some .boolean) b_D_call WW QR) : qle (k_D_call_561 QR WW) WW 561 :=
  S.lload d_D_call_561 <| S.goto d_D_call_563 (by decide) (s_D_call_568 S Q)
set_option maxRecDepth 8000 in
theorem s_D_call_549 {l : Launch} {ad : Nat → Nat} {D : va_G} {cA : Nat → ClassId} {WW : Nat → qP} {QR : Option qA → qS → Prop} (S : qSnd l rm_D_call ad D cA R_D b_D_call 21 WW) (Q : qRet (some .boolean) b_D_call WW QR) : qle (k_D_call_549 QR WW) WW 549 :=
  S.aload_n d_D_call_549 rfl <| S.gA fl_D_81 (by decide) d_D_call_550 <| S.aload_n d_D_call_553 rfl <| S.gI fl_D_91 (by decide) d_D_call_554 <| S.iload_n d_D_call_557 rfl <| S.if_eq d_D_call_558 (by decide) (s_D_call_566 S Q) (s_D_call_561 S Q)
set_option maxRecDepth 8000 in
theorem s_D_call_547 {l : Launch} {ad : Nat → Nat} {D : va_G} {cA : Nat → ClassId} {WW : Nat → qP} {QR : Option qA → qS → Prop} (S : qSnd l rm_D_call ad D cA R_D b_D_call 21 WW) (Q : qRet (some .boolean) b_D_call WW QR) : qle (k_D_call_547 QR WW) WW 547 :=
  S.iconst d_D_call_547 (by decide) <| Q.2.1 rfl _ d_D_call_548
set_option maxRecDepth 8000 in
theorem s_D_call_539 {l : Launch} {ad : Nat → Nat} {D : va_G} {cA : Nat → ClassId} {WW : Nat → qP} {QR : Option qA → qS → Prop} (S : qSnd l rm_D_call ad D cA R_D b_D_call 21 WW) (Q : qRet (some .boolean) b_D_call WW QR) : qle (k_D_call_539 QR WW) WW 539 :=
  S.aload_n d_D_call_539 rfl <| S.gI fl_D_91 (by decide) d_D_call_540 <| S.iconst d_D_call_543 (by decide) <| S.icmp_ne d_D_call_544 (by decide) (s_D_call_549 S Q) (s_D_call_547 S Q)
set_option maxRecDepth 8000 in
theorem s_D_call_531 {l : Launch} {ad : Nat → Nat} {D : va_G} {cA : Nat → ClassId} {WW : Nat → qP} {QR : Option qA → qS → Prop} (S : qSnd l rm_D_call ad D cA R_D b_D_call 21 WW) (Q : qRet (some .boolean) b_D_call WW QR) : qle (k_D_call_531 QR WW) WW 531 :=
  S.lload d_D_call_531 <| S.l2i d_D_call_533 <| S.istore d_D_call_534 (by decide) <| S.goto d_D_call_536 (by decide) (fun _ _ _ h => h)
set_option maxRecDepth 8000 in
theorem s_D_call_521 {l : Launch} {ad : Nat → Nat} {D : va_G} {cA : Nat → ClassId} {WW : Nat → qP} {QR : Option qA → qS → Prop} (S : qSnd l rm_D_call ad D cA R_D b_D_call 21 WW) (Q : qRet (some .boolean) b_D_call WW QR) : qle (k_D_call_521 QR WW) WW 521 :=
  S.iinc d_D_call_521 (by decide) <| S.lload d_D_call_524 <| S.lconst d_D_call_526 (by decide) <| S.lcmp_ne d_D_call_527 d_D_call_528 (by decide) (fun _ _ _ h => h) (s_D_call_531 S Q)
set_option maxRecDepth 8000 in
theorem s_D_call_513 {l : Launch} {ad : Nat → Nat} {D : va_G} {cA : Nat → ClassId} {WW : Nat → qP} {QR : Option qA → qS → Prop} (S : qSnd l rm_D_call ad D cA R_D b_D_call 21 WW) (Q : qRet (some .boolean) b_D_call WW QR) : qle (k_D_call_513 QR WW) WW 513 :=
  S.lload d_D_call_513 <| S.l2i d_D_call_515 <| S.istore d_D_call_516 (by decide) <| S.goto d_D_call_518 (by decide) (fun _ _ _ h => h)
set_option maxRecDepth 8000 in
theorem s_D_call_488 {l : Launch} {ad : Nat → Nat} {D : va_G} {cA : Nat → ClassId} {WW : Nat → qP} {QR : Option qA → qS → Prop} (S : qSnd l rm_D_call ad D cA R_D b_D_call 21 WW) (Q : qRet (some .boolean) b_D_call WW QR) : qle (k_D_call_488 QR WW) WW 488 :=
  S.aload_n d_D_call_488 rfl <| S.gA fl_D_75 (by decide) d_D_call_489 <| S.iload d_D_call_492 <| S.iconst d_D_call_494 (by decide) <| S.isub d_D_call_495 <| S.lload d_D_call_496 <| S.jsk (by decide) d_D_call_498 <| S.aload_n d_D_call_499 rfl <| S.gA fl_D_75 (by decide) d_D_call_500 <| S.iload d_D_call_503 <| S.iconst d_D_call_505 (by decide) <| S.isub d_D_call_506 <| S.lload d_D_call_507 <| S.jsk (by decide) d_D_call_509 <| S.goto d_D_call_510 (by decide) (fun _ _ _ h => h)
set_option maxRecDepth 8000 in
theorem s_D_call_482 {l : Launch} {ad : Nat → Nat} {D : va_G} {cA : Nat → ClassId} {WW : Nat → qP} {QR : Option qA → qS → Prop} (S : qSnd l rm_D_call ad D cA R_D b_D_call 21 WW) (Q : qRet (some .boolean) b_D_call WW QR) : qle (k_D_call_482 QR WW) WW 482 :=
  S.iinc d_D_call_482 (by decide) <| S.goto d_D_call_485 (by decide) (fun _ _ _ h => h)
set_option maxRecDepth 8000 in
theorem s_D_call_467 {l : Launch} {ad : Nat → Nat} {D : va_G} {cA : Nat → ClassId} {WW : Nat → qP} {QR : Option qA → qS → Prop} (S : qSnd l rm_D_call ad D cA R_D b_D_call 21 WW) (Q : qRet (some .boolean) b_D_call WW QR) : qle (k_D_call_467 QR WW) WW 467 :=
  S.aload_n d_D_call_467 rfl <| S.gA fl_D_75 (by decide) d_D_call_468 <| S.iload d_D_call_471 <| S.iinc d_D_call_473 (by decide) <| S.lload d_D_call_476 <| S.jsk (by decide) d_D_call_478 <| S.goto d_D_call_479 (by decide) (fun _ _ _ h => h)
set_option maxRecDepth 8000 in
theorem s_D_call_446 {l : Launch} {ad : Nat → Nat} {D : va_G} {cA : Nat → ClassId} {WW : Nat → qP} {QR : Option qA → qS → Prop} (S : qSnd l rm_D_call ad D cA R_D b_D_call 21 WW) (Q : qRet (some .boolean) b_D_call WW QR) : qle (k_D_call_446 QR WW) WW 446 :=
  S.aload_n d_D_call_446 rfl <| S.gA fl_D_78 (by decide) d_D_call_447 <| S.lload d_D_call_450 <| S.l2i d_D_call_452 <| S.aload_n d_D_call_453 rfl <| S.gA fl_D_75 (by decide) d_D_call_454 <| S.iinc d_D_call_457 (by decide) <| S.iload d_D_call_460 <| S.jak (by decide) d_D_call_462 <| S.jsk (by decide) d_D_call_463 <| S.goto d_D_call_464 (by decide) (fun _ _ _ h => h)
set_option maxRecDepth 8000 in
theorem s_D_call_425 {l : Launch} {ad : Nat → Nat} {D : va_G} {cA : Nat → ClassId} {WW : Nat → qP} {QR : Option qA → qS → Prop} (S : qSnd l rm_D_call ad D cA R_D b_D_call 21 WW) (Q : qRet (some .boolean) b_D_call WW QR) : qle (k_D_call_425 QR WW) WW 425 :=
  S.aload_n d_D_call_425 rfl <| S.gA fl_D_75 (by decide) d_D_call_426 <| S.iload d_D_call_429 <| S.iinc d_D_call_431 (by decide) <| S.aload_n d_D_call_434 rfl <| S.gA fl_D_78 (by decide) d_D_call_435 <| S.lload d_D_call_438 <| S.l2i d_D_call_440 <| S.jak (by decide) d_D_call_441 <| S.jsk (by decide) d_D_call_442 <| S.goto d_D_call_443 (by decide) (fun _ _ _ h => h)
set_option maxRecDepth 8000 in
theorem s_D_call_421 {l : Launch} {ad : Nat → Nat} {D : va_G} {cA : Nat → ClassId} {WW : Nat → qP} {QR : Option qA → qS → Prop} (S : qSnd l rm_D_call ad D cA R_D b_D_call 21 WW) (Q : qRet (some .boolean) b_D_call WW QR) : qle (k_D_call_421 QR WW) WW 421 :=
  S.jsk (by decide) d_D_call_421 <| S.goto d_D_call_422 (by decide) (fun _ _ _ h => h)
set_option maxRecDepth 8000 in
theorem s_D_call_420 {l : Launch} {ad : Nat → Nat} {D : va_G} {cA : Nat → ClassId} {WW : Nat → qP} {QR : Option qA → qS → Prop} (S : qSnd l rm_D_call ad D cA R_D b_D_call 21 WW) (Q : qRet (some .boolean) b_D_call WW QR) : qle (k_D_call_420 QR WW) WW 420 :=
  S.lconst d_D_call_420 (by decide) <| (s_D_call_421 S Q)
set_option maxRecDepth 8000 in
theorem s_D_call_416 {l : Launch} {ad : Nat → Nat} {D : va_G} {cA : Nat → ClassId} {WW : Nat → qP} {QR : Option qA → qS → Prop} (S : qSnd l rm_D_call ad D cA R_D b_D_call 21 WW) (Q : qRet (some .boolean) b_D_call WW QR) : qle (k_D_call_416 QR WW) WW 416 :=
  S.lconst d_D_call_416 (by decide) <| S.goto d_D_call_417 (by decide) (s_D_call_421 S Q)
set_option maxRecDepth 8000 in
theorem s_D_call_409 {l : Launch} {ad : Nat → Nat} {D : va_G} {cA : Nat → ClassId} {WW : Nat → qP} {QR : Option qA → qS → Prop} (S : qSnd l rm_D_call ad D cA R_D b_D_call 21 WW) (Q : qRet (some .boolean) b_D_call WW QR) : qle (k_D_call_409 QR WW) WW 409 :=
  S.iload d_D_call_409 <| S.iload d_D_call_411 <| S.icmp_ge d_D_call_413 (by decide) (s_D_call_420 S Q) (s_D_call_416 S Q)
set_option maxRecDepth 8000 in
theorem s_D_call_396 {l : Launch} {ad : Nat → Nat} {D : va_G} {cA : Nat → ClassId} {WW : Nat → qP} {QR : Option qA → qS → Prop} (S : qSnd l rm_D_call ad D cA R_D b_D_call 21 WW) (Q : qRet (some .boolean) b_D_call WW QR) : qle (k_D_call_396 QR WW) WW 396 :=
  S.aload_n d_D_call_396 rfl <| S.gA fl_D_75 (by decide) d_D_call_397 <| S.iload d_D_call_400 <| S.iinc d_D_call_402 (by decide) <| S.iload_n d_D_call_405 rfl <| S.if_ne d_D_call_406 (by decide) (s_D_call_420 S Q) (s_D_call_409 S Q)
set_option maxRecDepth 8000 in
theorem s_D_call_390 {l : Launch} {ad : Nat → Nat} {D : va_G} {cA : Nat → ClassId} {WW : Nat → qP} {QR : Option qA → qS → Prop} (S : qSnd l rm_D_call ad D cA R_D b_D_call 21 WW) (Q : qRet (some .boolean) b_D_call WW QR) : qle (k_D_call_390 QR WW) WW 390 :=
  S.iinc d_D_call_390 (by decide) <| S.goto d_D_call_393 (by decide) (fun _ _ _ h => h)
set_option maxRecDepth 8000 in
theorem s_D_call_371 {l : Launch} {ad : Nat → Nat} {D : va_G} {cA : Nat → ClassId} {WW : Nat → qP} {QR : Option qA → qS → Prop} (S : qSnd l rm_D_call ad D cA R_D b_D_call 21 WW) (Q : qRet (some .boolean) b_D_call WW QR) : qle (k_D_call_371 QR WW) WW 371 :=
  S.aload_n d_D_call_371 rfl <| S.gA fl_D_75 (by decide) d_D_call_372 <| S.iload d_D_call_375 <| S.iinc d_D_call_377 (by decide) <| S.aload d_D_call_380 <| S.iload d_D_call_382 <| S.jald d_D_call_384 <| S.jsk (by decide) d_D_call_385 <| S.iload_n d_D_call_386 rfl <| S.if_ne d_D_call_387 (by decide) (fun _ _ _ h => h) (s_D_call_390 S Q)
set_option maxRecDepth 8000 in
theorem s_D_call_369 {l : Launch} {ad : Nat → Nat} {D : va_G} {cA : Nat → ClassId} {WW : Nat → qP} {QR : Option qA → qS → Prop} (S : qSnd l rm_D_call ad D cA R_D b_D_call 21 WW) (Q : qRet (some .boolean) b_D_call WW QR) : qle (k_D_call_369 QR WW) WW 369 :=
  S.iconst d_D_call_369 (by decide) <| Q.2.1 rfl _ d_D_call_370
set_option maxRecDepth 8000 in
theorem s_D_call_362 {l : Launch} {ad : Nat → Nat} {D : va_G} {cA : Nat → ClassId} {WW : Nat → qP} {QR : Option qA → qS → Prop} (S : qSnd l rm_D_call ad D cA R_D b_D_call 21 WW) (Q : qRet (some .boolean) b_D_call WW QR) : qle (k_D_call_362 QR WW) WW 362 :=
  S.iload d_D_call_362 <| S.iload d_D_call_364 <| S.icmp_ne d_D_call_366 (by decide) (s_D_call_371 S Q) (s_D_call_369 S Q)
set_option maxRecDepth 8000 in
theorem s_D_call_347 {l : Launch} {ad : Nat → Nat} {D : va_G} {cA : Nat → ClassId} {WW : Nat → qP} {QR : Option qA → qS → Prop} (S : qSnd l rm_D_call ad D cA R_D b_D_call 21 WW) (Q : qRet (some .boolean) b_D_call WW QR) : qle (k_D_call_347 QR WW) WW 347 :=
  S.aload_n d_D_call_347 rfl <| S.gA fl_D_75 (by decide) d_D_call_348 <| S.iload d_D_call_351 <| S.iinc d_D_call_353 (by decide) <| S.lload d_D_call_356 <| S.jsk (by decide) d_D_call_358 <| S.goto d_D_call_359 (by decide) (fun _ _ _ h => h)
set_option maxRecDepth 8000 in
theorem s_D_call_332 {l : Launch} {ad : Nat → Nat} {D : va_G} {cA : Nat → ClassId} {WW : Nat → qP} {QR : Option qA → qS → Prop} (S : qSnd l rm_D_call ad D cA R_D b_D_call 21 WW) (Q : qRet (some .boolean) b_D_call WW QR) : qle (k_D_call_332 QR WW) WW 332 :=
  S.aload_n d_D_call_332 rfl <| S.gA fl_D_75 (by decide) d_D_call_333 <| S.iload d_D_call_336 <| S.iinc d_D_call_338 (by decide) <| S.lload d_D_call_341 <| S.jsk (by decide) d_D_call_343 <| S.goto d_D_call_344 (by decide) (fun _ _ _ h => h)
set_option maxRecDepth 8000 in
theorem s_D_call_240 {l : Launch} {ad : Nat → Nat} {D : va_G} {cA : Nat → ClassId} {WW : Nat → qP} {QR : Option qA → qS → Prop} (S : qSnd l rm_D_call ad D cA R_D b_D_call 21 WW) (Q : qRet (some .boolean) b_D_call WW QR) : qle (k_D_call_240 QR WW) WW 240 :=
  S.iload d_D_call_240 <| S.sw d_D_call_242 (by decide) (⟨⟨332, by decide, (s_D_call_332 S Q)⟩, ⟨⟨347, by decide, (s_D_call_347 S Q)⟩, ⟨⟨362, by decide, (s_D_call_362 S Q)⟩, ⟨⟨396, by decide, (s_D_call_396 S Q)⟩, ⟨⟨425, by decide, (s_D_call_425 S Q)⟩, ⟨⟨446, by decide, (s_D_call_446 S Q)⟩, ⟨⟨602, by decide, (fun _ _ _ h => h)⟩, ⟨⟨602, by decide, (fun _ _ _ h => h)⟩, ⟨⟨602, by decide, (fun _ _ _ h => h)⟩, ⟨⟨602, by decide, (fun _ _ _ h => h)⟩, ⟨⟨602, by decide, (fun _ _ _ h => h)⟩, ⟨⟨602, by decide, (fun _ _ _ h => h)⟩, ⟨⟨467, by decide, (s_D_call_467 S Q)⟩, ⟨⟨482, by decide, (s_D_call_482 S Q)⟩, ⟨⟨488, by decide, (s_D_call_488 S Q)⟩, ⟨⟨513, by decide, (s_D_call_513 S Q)⟩, ⟨⟨521, by decide, (s_D_call_521 S Q)⟩, ⟨⟨539, by decide, (s_D_call_539 S Q)⟩, ⟨⟨600, by decide, (s_D_call_600 S Q)⟩, trivial⟩⟩⟩⟩⟩⟩⟩⟩⟩⟩⟩⟩⟩⟩⟩⟩⟩⟩⟩) (by decide) (fun _ _ _ h => h)
set_option maxRecDepth 8000 in
theorem s_D_call_238 {l : Launch} {ad : Nat → Nat} {D : va_G} {cA : Nat → ClassId} {WW : Nat → qP} {QR : Option qA → qS → Prop} (S : qSnd l rm_D_call ad D cA R_D b_D_call 21 WW) (Q : qRet (some .boolean) b_D_call WW QR) : qle (k_D_call_238 QR WW) WW 238 :=
  S.lstore d_D_call_238 (by decide) <| (fun _ _ _ h => h)
set_option maxRecDepth 8000 in
theorem s_D_call_237 {l : Launch} {ad : Nat → Nat} {D : va_G} {cA : Nat → ClassId} {WW : Nat → qP} {QR : Option qA → qS → Prop} (S : qSnd l rm_D_call ad D cA R_D b_D_call 21 WW) (Q : qRet (some .boolean) b_D_call WW QR) : qle (k_D_call_237 QR WW) WW 237 :=
  S.lconst d_D_call_237 (by decide) <| (s_D_call_238 S Q)
set_option maxRecDepth 8000 in
theorem s_D_call_225 {l : Launch} {ad : Nat → Nat} {D : va_G} {cA : Nat → ClassId} {WW : Nat → qP} {QR : Option qA → qS → Prop} (S : qSnd l rm_D_call ad D cA R_D b_D_call 21 WW) (Q : qRet (some .boolean) b_D_call WW QR) : qle (k_D_call_225 QR WW) WW 225 :=
  S.aload_n d_D_call_225 rfl <| S.gA fl_D_75 (by decide) d_D_call_226 <| S.iload d_D_call_229 <| S.iconst d_D_call_231 (by decide) <| S.isub d_D_call_232 <| S.jak (by decide) d_D_call_233 <| S.goto d_D_call_234 (by decide) (s_D_call_238 S Q)
set_option maxRecDepth 8000 in
theorem s_D_call_219 {l : Launch} {ad : Nat → Nat} {D : va_G} {cA : Nat → ClassId} {WW : Nat → qP} {QR : Option qA → qS → Prop} (S : qSnd l rm_D_call ad D cA R_D b_D_call 21 WW) (Q : qRet (some .boolean) b_D_call WW QR) : qle (k_D_call_219 QR WW) WW 219 :=
  S.iload d_D_call_219 <| S.iconst d_D_call_221 (by decide) <| S.icmp_le d_D_call_222 (by decide) (s_D_call_237 S Q) (s_D_call_225 S Q)
set_option maxRecDepth 8000 in
theorem s_D_call_217 {l : Launch} {ad : Nat → Nat} {D : va_G} {cA : Nat → ClassId} {WW : Nat → qP} {QR : Option qA → qS → Prop} (S : qSnd l rm_D_call ad D cA R_D b_D_call 21 WW) (Q : qRet (some .boolean) b_D_call WW QR) : qle (k_D_call_217 QR WW) WW 217 :=
  S.lstore d_D_call_217 (by decide) <| (fun _ _ _ h => h)
set_option maxRecDepth 8000 in
theorem s_D_call_216 {l : Launch} {ad : Nat → Nat} {D : va_G} {cA : Nat → ClassId} {WW : Nat → qP} {QR : Option qA → qS → Prop} (S : qSnd l rm_D_call ad D cA R_D b_D_call 21 WW) (Q : qRet (some .boolean) b_D_call WW QR) : qle (k_D_call_216 QR WW) WW 216 :=
  S.lconst d_D_call_216 (by decide) <| (s_D_call_217 S Q)
set_option maxRecDepth 8000 in
theorem s_D_call_204 {l : Launch} {ad : Nat → Nat} {D : va_G} {cA : Nat → ClassId} {WW : Nat → qP} {QR : Option qA → qS → Prop} (S : qSnd l rm_D_call ad D cA R_D b_D_call 21 WW) (Q : qRet (some .boolean) b_D_call WW QR) : qle (k_D_call_204 QR WW) WW 204 :=
  S.aload_n d_D_call_204 rfl <| S.gA fl_D_75 (by decide) d_D_call_205 <| S.iload d_D_call_208 <| S.iconst d_D_call_210 (by decide) <| S.isub d_D_call_211 <| S.jak (by decide) d_D_call_212 <| S.goto d_D_call_213 (by decide) (s_D_call_217 S Q)
set_option maxRecDepth 8000 in
theorem s_D_call_196 {l : Launch} {ad : Nat → Nat} {D : va_G} {cA : Nat → ClassId} {WW : Nat → qP} {QR : Option qA → qS → Prop} (S : qSnd l rm_D_call ad D cA R_D b_D_call 21 WW) (Q : qRet (some .boolean) b_D_call WW QR) : qle (k_D_call_196 QR WW) WW 196 :=
  S.iinc d_D_call_196 (by decide) <| S.iload d_D_call_199 <| S.if_le d_D_call_201 (by decide) (s_D_call_216 S Q) (s_D_call_204 S Q)
set_option maxRecDepth 8000 in
theorem s_D_call_194 {l : Launch} {ad : Nat → Nat} {D : va_G} {cA : Nat → ClassId} {WW : Nat → qP} {QR : Option qA → qS → Prop} (S : qSnd l rm_D_call ad D cA R_D b_D_call 21 WW) (Q : qRet (some .boolean) b_D_call WW QR) : qle (k_D_call_194 QR WW) WW 194 :=
  S.iconst d_D_call_194 (by decide) <| Q.2.1 rfl _ d_D_call_195
set_option maxRecDepth 8000 in
theorem s_D_call_187 {l : Launch} {ad : Nat → Nat} {D : va_G} {cA : Nat → ClassId} {WW : Nat → qP} {QR : Option qA → qS → Prop} (S : qSnd l rm_D_call ad D cA R_D b_D_call 21 WW) (Q : qRet (some .boolean) b_D_call WW QR) : qle (k_D_call_187 QR WW) WW 187 :=
  S.iload d_D_call_187 <| S.bipush d_D_call_189 (by decide) <| S.icmp_ne d_D_call_191 (by decide) (fun _ _ _ h => h) (fun _ _ _ h => h)
set_option maxRecDepth 8000 in
theorem s_D_call_180 {l : Launch} {ad : Nat → Nat} {D : va_G} {cA : Nat → ClassId} {WW : Nat → qP} {QR : Option qA → qS → Prop} (S : qSnd l rm_D_call ad D cA R_D b_D_call 21 WW) (Q : qRet (some .boolean) b_D_call WW QR) : qle (k_D_call_180 QR WW) WW 180 :=
  S.iload d_D_call_180 <| S.bipush d_D_call_182 (by decide) <| S.icmp_ne d_D_call_184 (by decide) (fun _ _ _ h => h) (s_D_call_187 S Q)
set_option maxRecDepth 8000 in
theorem s_D_call_174 {l : Launch} {ad : Nat → Nat} {D : va_G} {cA : Nat → ClassId} {WW : Nat → qP} {QR : Option qA → qS → Prop} (S : qSnd l rm_D_call ad D cA R_D b_D_call 21 WW) (Q : qRet (some .boolean) b_D_call WW QR) : qle (k_D_call_174 QR WW) WW 174 :=
  S.iload d_D_call_174 <| S.iconst d_D_call_176 (by decide) <| S.icmp_le d_D_call_177 (by decide) (s_D_call_187 S Q) (s_D_call_180 S Q)
set_option maxRecDepth 8000 in
theorem s_D_call_167 {l : Launch} {ad : Nat → Nat} {D : va_G} {cA : Nat → ClassId} {WW : Nat → qP} {QR : Option qA → qS → Prop} (S : qSnd l rm_D_call ad D cA R_D b_D_call 21 WW) (Q : qRet (some .boolean) b_D_call WW QR) : qle (k_D_call_167 QR WW) WW 167 :=
  S.iload d_D_call_167 <| S.iload d_D_call_169 <| S.icmp_lt d_D_call_171 (by decide) (fun _ _ _ h => h) (s_D_call_174 S Q)
set_option maxRecDepth 8000 in
theorem s_D_call_165 {l : Launch} {ad : Nat → Nat} {D : va_G} {cA : Nat → ClassId} {WW : Nat → qP} {QR : Option qA → qS → Prop} (S : qSnd l rm_D_call ad D cA R_D b_D_call 21 WW) (Q : qRet (some .boolean) b_D_call WW QR) : qle (k_D_call_165 QR WW) WW 165 :=
  S.istore d_D_call_165 (by decide) <| (fun _ _ _ h => h)
set_option maxRecDepth 8000 in
theorem s_D_call_164 {l : Launch} {ad : Nat → Nat} {D : va_G} {cA : Nat → ClassId} {WW : Nat → qP} {QR : Option qA → qS → Prop} (S : qSnd l rm_D_call ad D cA R_D b_D_call 21 WW) (Q : qRet (some .boolean) b_D_call WW QR) : qle (k_D_call_164 QR WW) WW 164 :=
  S.iconst d_D_call_164 (by decide) <| (s_D_call_165 S Q)
set_option maxRecDepth 8000 in
theorem s_D_call_160 {l : Launch} {ad : Nat → Nat} {D : va_G} {cA : Nat → ClassId} {WW : Nat → qP} {QR : Option qA → qS → Prop} (S : qSnd l rm_D_call ad D cA R_D b_D_call 21 WW) (Q : qRet (some .boolean) b_D_call WW QR) : qle (k_D_call_160 QR WW) WW 160 :=
  S.iconst d_D_call_160 (by decide) <| S.goto d_D_call_161 (by decide) (s_D_call_165 S Q)
set_option maxRecDepth 8000 in
theorem s_D_call_153 {l : Launch} {ad : Nat → Nat} {D : va_G} {cA : Nat → ClassId} {WW : Nat → qP} {QR : Option qA → qS → Prop} (S : qSnd l rm_D_call ad D cA R_D b_D_call 21 WW) (Q : qRet (some .boolean) b_D_call WW QR) : qle (k_D_call_153 QR WW) WW 153 :=
  S.iload d_D_call_153 <| S.bipush d_D_call_155 (by decide) <| S.icmp_ne d_D_call_157 (by decide) (fun _ _ _ h => h) (fun _ _ _ h => h)
set_option maxRecDepth 8000 in
theorem s_D_call_146 {l : Launch} {ad : Nat → Nat} {D : va_G} {cA : Nat → ClassId} {WW : Nat → qP} {QR : Option qA → qS → Prop} (S : qSnd l rm_D_call ad D cA R_D b_D_call 21 WW) (Q : qRet (some .boolean) b_D_call WW QR) : qle (k_D_call_146 QR WW) WW 146 :=
  S.iload d_D_call_146 <| S.bipush d_D_call_148 (by decide) <| S.icmp_eq d_D_call_150 (by decide) (fun _ _ _ h => h) (s_D_call_153 S Q)
set_option maxRecDepth 8000 in
theorem s_D_call_139 {l : Launch} {ad : Nat → Nat} {D : va_G} {cA : Nat → ClassId} {WW : Nat → qP} {QR : Option qA → qS → Prop} (S : qSnd l rm_D_call ad D cA R_D b_D_call 21 WW) (Q : qRet (some .boolean) b_D_call WW QR) : qle (k_D_call_139 QR WW) WW 139 :=
  S.iload d_D_call_139 <| S.bipush d_D_call_141 (by decide) <| S.icmp_eq d_D_call_143 (by decide) (fun _ _ _ h => h) (s_D_call_146 S Q)
set_option maxRecDepth 8000 in
theorem s_D_call_132 {l : Launch} {ad : Nat → Nat} {D : va_G} {cA : Nat → ClassId} {WW : Nat → qP} {QR : Option qA → qS → Prop} (S : qSnd l rm_D_call ad D cA R_D b_D_call 21 WW) (Q : qRet (some .boolean) b_D_call WW QR) : qle (k_D_call_132 QR WW) WW 132 :=
  S.iload d_D_call_132 <| S.bipush d_D_call_134 (by decide) <| S.icmp_eq d_D_call_136 (by decide) (fun _ _ _ h => h) (s_D_call_139 S Q)
set_option maxRecDepth 8000 in
theorem s_D_call_126 {l : Launch} {ad : Nat → Nat} {D : va_G} {cA : Nat → ClassId} {WW : Nat → qP} {QR : Option qA → qS → Prop} (S : qSnd l rm_D_call ad D cA R_D b_D_call 21 WW) (Q : qRet (some .boolean) b_D_call WW QR) : qle (k_D_call_126 QR WW) WW 126 :=
  S.iload d_D_call_126 <| S.iconst d_D_call_128 (by decide) <| S.icmp_eq d_D_call_129 (by decide) (fun _ _ _ h => h) (s_D_call_132 S Q)
set_option maxRecDepth 8000 in
theorem s_D_call_122 {l : Launch} {ad : Nat → Nat} {D : va_G} {cA : Nat → ClassId} {WW : Nat → qP} {QR : Option qA → qS → Prop} (S : qSnd l rm_D_call ad D cA R_D b_D_call 21 WW) (Q : qRet (some .boolean) b_D_call WW QR) : qle (k_D_call_122 QR WW) WW 122 :=
  S.iconst d_D_call_122 (by decide) <| S.goto d_D_call_123 (by decide) (s_D_call_165 S Q)
set_option maxRecDepth 8000 in
theorem s_D_call_118 {l : Launch} {ad : Nat → Nat} {D : va_G} {cA : Nat → ClassId} {WW : Nat → qP} {QR : Option qA → qS → Prop} (S : qSnd l rm_D_call ad D cA R_D b_D_call 21 WW) (Q : qRet (some .boolean) b_D_call WW QR) : qle (k_D_call_118 QR WW) WW 118 :=
  S.iload_n d_D_call_118 rfl <| S.if_ne d_D_call_119 (by decide) (fun _ _ _ h => h) (fun _ _ _ h => h)
set_option maxRecDepth 8000 in
theorem s_D_call_111 {l : Launch} {ad : Nat → Nat} {D : va_G} {cA : Nat → ClassId} {WW : Nat → qP} {QR : Option qA → qS → Prop} (S : qSnd l rm_D_call ad D cA R_D b_D_call 21 WW) (Q : qRet (some .boolean) b_D_call WW QR) : qle (k_D_call_111 QR WW) WW 111 :=
  S.iload d_D_call_111 <| S.bipush d_D_call_113 (by decide) <| S.icmp_ne d_D_call_115 (by decide) (fun _ _ _ h => h) (s_D_call_118 S Q)
set_option maxRecDepth 8000 in
theorem s_D_call_104 {l : Launch} {ad : Nat → Nat} {D : va_G} {cA : Nat → ClassId} {WW : Nat → qP} {QR : Option qA → qS → Prop} (S : qSnd l rm_D_call ad D cA R_D b_D_call 21 WW) (Q : qRet (some .boolean) b_D_call WW QR) : qle (k_D_call_104 QR WW) WW 104 :=
  S.iload d_D_call_104 <| S.bipush d_D_call_106 (by decide) <| S.icmp_eq d_D_call_108 (by decide) (fun _ _ _ h => h) (s_D_call_111 S Q)
set_option maxRecDepth 8000 in
theorem s_D_call_97 {l : Launch} {ad : Nat → Nat} {D : va_G} {cA : Nat → ClassId} {WW : Nat → qP} {QR : Option qA → qS → Prop} (S : qSnd l rm_D_call ad D cA R_D b_D_call 21 WW) (Q : qRet (some .boolean) b_D_call WW QR) : qle (k_D_call_97 QR WW) WW 97 :=
  S.iload d_D_call_97 <| S.bipush d_D_call_99 (by decide) <| S.icmp_le d_D_call_101 (by decide) (fun _ _ _ h => h) (s_D_call_104 S Q)
set_option maxRecDepth 8000 in
theorem s_D_call_90 {l : Launch} {ad : Nat → Nat} {D : va_G} {cA : Nat → ClassId} {WW : Nat → qP} {QR : Option qA → qS → Prop} (S : qSnd l rm_D_call ad D cA R_D b_D_call 21 WW) (Q : qRet (some .boolean) b_D_call WW QR) : qle (k_D_call_90 QR WW) WW 90 :=
  S.iload d_D_call_90 <| S.bipush d_D_call_92 (by decide) <| S.icmp_lt d_D_call_94 (by decide) (s_D_call_104 S Q) (s_D_call_97 S Q)
set_option maxRecDepth 8000 in
theorem s_D_call_62 {l : Launch} {ad : Nat → Nat} {D : va_G} {cA : Nat → ClassId} {WW : Nat → qP} {QR : Option qA → qS → Prop} (S : qSnd l rm_D_call ad D cA R_D b_D_call 21 WW) (Q : qRet (some .boolean) b_D_call WW QR) : qle (k_D_call_62 QR WW) WW 62 :=
  S.aload_n d_D_call_62 rfl <| S.gA fl_D_20 (by decide) d_D_call_63 <| S.bipush d_D_call_66 (by decide) <| S.iload_n d_D_call_68 rfl <| S.imul d_D_call_69 <| S.iload d_D_call_70 <| S.iadd d_D_call_72 <| S.iak (by decide) d_D_call_73 <| S.istore d_D_call_74 (by decide) <| S.aload_n d_D_call_76 rfl <| S.gA fl_D_29 (by decide) d_D_call_77 <| S.bipush d_D_call_80 (by decide) <| S.iload_n d_D_call_82 rfl <| S.imul d_D_call_83 <| S.iload d_D_call_84 <| S.iadd d_D_call_86 <| S.jak (by decide) d_D_call_87 <| S.lstore d_D_call_88 (by decide) <| (fun _ _ _ h => h)
set_option maxRecDepth 8000 in
theorem s_D_call_60 {l : Launch} {ad : Nat → Nat} {D : va_G} {cA : Nat → ClassId} {WW : Nat → qP} {QR : Option qA → qS → Prop} (S : qSnd l rm_D_call ad D cA R_D b_D_call 21 WW) (Q : qRet (some .boolean) b_D_call WW QR) : qle (k_D_call_60 QR WW) WW 60 :=
  S.iconst d_D_call_60 (by decide) <| Q.2.1 rfl _ d_D_call_61
set_option maxRecDepth 8000 in
theorem s_D_call_52 {l : Launch} {ad : Nat → Nat} {D : va_G} {cA : Nat → ClassId} {WW : Nat → qP} {QR : Option qA → qS → Prop} (S : qSnd l rm_D_call ad D cA R_D b_D_call 21 WW) (Q : qRet (some .boolean) b_D_call WW QR) : qle (k_D_call_52 QR WW) WW 52 :=
  S.iload d_D_call_52 <| S.sipush d_D_call_54 (by decide) <| S.icmp_ne d_D_call_57 (by decide) (s_D_call_62 S Q) (s_D_call_60 S Q)
set_option maxRecDepth 8000 in
theorem s_D_call_41 {l : Launch} {ad : Nat → Nat} {D : va_G} {cA : Nat → ClassId} {WW : Nat → qP} {QR : Option qA → qS → Prop} (S : qSnd l rm_D_call ad D cA R_D b_D_call 21 WW) (Q : qRet (some .boolean) b_D_call WW QR) : qle (k_D_call_41 QR WW) WW 41 :=
  S.iload d_D_call_41 <| S.aload_n d_D_call_43 rfl <| S.gA fl_D_23 (by decide) d_D_call_44 <| S.iload_n d_D_call_47 rfl <| S.iak (by decide) d_D_call_48 <| S.icmp_ge d_D_call_49 (by decide) (s_D_call_727 S Q) (s_D_call_52 S Q)
set_option maxRecDepth 8000 in
theorem s_D_call_38 {l : Launch} {ad : Nat → Nat} {D : va_G} {cA : Nat → ClassId} {WW : Nat → qP} {QR : Option qA → qS → Prop} (S : qSnd l rm_D_call ad D cA R_D b_D_call 21 WW) (Q : qRet (some .boolean) b_D_call WW QR) : qle (k_D_call_38 QR WW) WW 38 :=
  S.iconst d_D_call_38 (by decide) <| S.istore d_D_call_39 (by decide) <| (fun _ _ _ h => h)
set_option maxRecDepth 8000 in
theorem s_D_call_24 {l : Launch} {ad : Nat → Nat} {D : va_G} {cA : Nat → ClassId} {WW : Nat → qP} {QR : Option qA → qS → Prop} (S : qSnd l rm_D_call ad D cA R_D b_D_call 21 WW) (Q : qRet (some .boolean) b_D_call WW QR) : qle (k_D_call_24 QR WW) WW 24 :=
  S.aload_n d_D_call_24 rfl <| S.gA fl_D_78 (by decide) d_D_call_25 <| S.iload d_D_call_28 <| S.lconst d_D_call_30 (by decide) <| S.jsk (by decide) d_D_call_31 <| S.iinc d_D_call_32 (by decide) <| S.goto d_D_call_35 (by decide) (fun _ _ _ h => h)
set_option maxRecDepth 8000 in
theorem s_D_call_18 {l : Launch} {ad : Nat → Nat} {D : va_G} {cA : Nat → ClassId} {WW : Nat → qP} {QR : Option qA → qS → Prop} (S : qSnd l rm_D_call ad D cA R_D b_D_call 21 WW) (Q : qRet (some .boolean) b_D_call WW QR) : qle (k_D_call_18 QR WW) WW 18 :=
  S.iload d_D_call_18 <| S.iconst d_D_call_20 (by decide) <| S.icmp_ge d_D_call_21 (by decide) (s_D_call_38 S Q) (s_D_call_24 S Q)
set_option maxRecDepth 8000 in
theorem s_D_call_0 {l : Launch} {ad : Nat → Nat} {D : va_G} {cA : Nat → ClassId} {WW : Nat → qP} {QR : Option qA → qS → Prop} (S : qSnd l rm_D_call ad D cA R_D b_D_call 21 WW) (Q : qRet (some .boolean) b_D_call WW QR) : qle (k_D_call_0 QR WW) WW 0 :=
  S.iconst d_D_call_0 (by decide) <| S.istore d_D_call_1 (by decide) <| S.iconst d_D_call_3 (by decide) <| S.istore d_D_call_4 (by decide) <| S.iload d_D_call_6 <| S.istore d_D_call_8 (by decide) <| S.aload_n d_D_call_10 rfl <| S.iconst d_D_call_11 (by decide) <| S.pI fl_D_91 (by decide) (by decide +kernel) d_D_call_12 <| S.iconst d_D_call_15 (by decide) <| S.istore d_D_call_16 (by decide) <| (fun _ _ _ h => h)
def tks (o cb : Int) : Int := if (6 ≤ o ∧ o ≤ 11) ∨ o = 14 ∨ (o = 17 ∧ cb = 0) then 2 else if o = 5 ∨ o = 12 ∨ o = 13 ∨ o = 16 ∨ o = 17 then 1 else 0
def dLs (p mp cb key : Int) (rv : Nat) (fr to tp at_ nx st : Int) (t : qL) : qL := some (.inr (.inr 901)) :: some (.inl p) :: some (.inl mp) :: some (.inl cb) :: some (.inr (.inl key)) :: none :: some (.inr (.inr rv)) :: some (.inl fr) :: some (.inl to) :: some (.inl tp) :: some (.inl at_) :: some (.inl nx) :: some (.inl st) :: t
theorem v_D_call_90 {l : Launch} {ad : Nat → Nat} {D : va_G} {cA : Nat → ClassId} {WW : Nat → qP} {QR : Option qA → qS → Prop} (S : qSnd l rm_D_call ad D cA R_D b_D_call 21 WW) (Q : qRet (some .boolean) b_D_call WW QR) (p mp cb key : Int) (rv : Nat) (fr to tp at_ nx st o a : Int) (σ : qS) (K : WW 167 [] (dLs p mp cb key rv fr to tp at_ nx st [some (.inl o), some (.inr (.inl a)), none, some (.inl (tks o cb)), none, none, none, none]) σ) : WW 90 [] (dLs p mp cb key rv fr to tp at_ nx st [some (.inl o), some (.inr (.inl a)), none, none, none, none, none, none]) σ := by
  unfold dLs at K ⊢
  unfold tks at K
  have t2 : ((6 ≤ o ∧ o ≤ 11) ∨ o = 14 ∨ (o = 17 ∧ cb = 0)) → WW 122 [] [some (.inr (.inr 901)), some (.inl p), some (.inl mp), some (.inl cb), some (.inr (.inl key)), none, some (.inr (.inr rv)), some (.inl fr), some (.inl to), some (.inl tp), some (.inl at_), some (.inl nx), some (.inl st), some (.inl o), some (.inr (.inl a)), none, none, none, none, none, none] σ := fun h => by
    rw [if_pos h] at K
    refine s_D_call_122 S Q _ _ _ ?_
    simp only [k_D_call_0, k_D_call_18, k_D_call_24, k_D_call_38, k_D_call_41, k_D_call_52, k_D_call_60, k_D_call_62, k_D_call_90, k_D_call_97, k_D_call_104, k_D_call_111, k_D_call_118, k_D_call_122, k_D_call_126, k_D_call_132, k_D_call_139, k_D_call_146, k_D_call_153, k_D_call_160, k_D_call_164, k_D_call_165, k_D_call_167, k_D_call_174, k_D_call_180, k_D_call_187, k_D_call_194, k_D_call_196, k_D_call_204, k_D_call_216, k_D_call_217, k_D_call_219, k_D_call_225, k_D_call_237, k_D_call_238, k_D_call_240, k_D_call_332, k_D_call_347, k_D_call_362, k_D_call_369, k_D_call_371, k_D_call_390, k_D_call_396, k_D_call_409, k_D_call_416, k_D_call_420, k_D_call_421, k_D_call_425, k_D_call_446, k_D_call_467, k_D_call_482, k_D_call_488, k_D_call_513, k_D_call_521, k_D_call_531, k_D_call_539, k_D_call_547, k_D_call_549, k_D_call_561, k_D_call_566, k_D_call_568, k_D_call_600, k_D_call_602, k_D_call_609, k_D_call_616, k_D_call_618, k_D_call_636, k_D_call_644, k_D_call_651, k_D_call_659, k_D_call_666, k_D_call_674, k_D_call_681, k_D_call_689, k_D_call_696, k_D_call_704, k_D_call_707, k_D_call_715, k_D_call_719, k_D_call_720, k_D_call_721, k_D_call_727, o_c, o_il, o_ll, o_al, o_is, o_as, o_ls, o_inc, o_bi, o_bid, o_bl, o_bld, o_sl, o_i2l, o_l2i, o_dup, o_dup2, o_pop, o_pop2, o_if, o_i2, o_l2, swg, o_sw, o_gI, o_gZ, o_gJ, o_gA, o_gR, o_pI, o_pZ, o_pJ, o_pR, o_ia, o_iak, o_zak, o_ja, o_jak, o_is_, o_isk, o_zsk, o_js_, o_jsk, o_len, o_ri, o_rz, o_rl, o_rv, ls1, ls2, lks, lkj, List.getD_cons_zero, List.getD_cons_succ, List.set_cons_zero, List.set_cons_succ, qcat, true_and, and_true, List.map_nil, List.map_cons, List.sum_nil, List.sum_cons, Nat.reduceAdd, Nat.reduceLeDiff, Nat.zero_le, Int.reduceAdd, Int.reduceNeg, Int.reduceEq, or_true, true_or, Decidable.not_not, false_implies, not_false_eq_true, true_implies, not_true_eq_false, Int.reduceLT, Int.reduceLE]
    exact K
  have t1 : ¬ ((6 ≤ o ∧ o ≤ 11) ∨ o = 14 ∨ (o = 17 ∧ cb = 0)) → (o = 5 ∨ o = 12 ∨ o = 13 ∨ o = 16 ∨ o = 17) → WW 160 [] [some (.inr (.inr 901)), some (.inl p), some (.inl mp), some (.inl cb), some (.inr (.inl key)), none, some (.inr (.inr rv)), some (.inl fr), some (.inl to), some (.inl tp), some (.inl at_), some (.inl nx), some (.inl st), some (.inl o), some (.inr (.inl a)), none, none, none, none, none, none] σ := fun h h1 => by
    rw [if_neg h, if_pos h1] at K
    refine s_D_call_160 S Q _ _ _ ?_
    simp only [k_D_call_0, k_D_call_18, k_D_call_24, k_D_call_38, k_D_call_41, k_D_call_52, k_D_call_60, k_D_call_62, k_D_call_90, k_D_call_97, k_D_call_104, k_D_call_111, k_D_call_118, k_D_call_122, k_D_call_126, k_D_call_132, k_D_call_139, k_D_call_146, k_D_call_153, k_D_call_160, k_D_call_164, k_D_call_165, k_D_call_167, k_D_call_174, k_D_call_180, k_D_call_187, k_D_call_194, k_D_call_196, k_D_call_204, k_D_call_216, k_D_call_217, k_D_call_219, k_D_call_225, k_D_call_237, k_D_call_238, k_D_call_240, k_D_call_332, k_D_call_347, k_D_call_362, k_D_call_369, k_D_call_371, k_D_call_390, k_D_call_396, k_D_call_409, k_D_call_416, k_D_call_420, k_D_call_421, k_D_call_425, k_D_call_446, k_D_call_467, k_D_call_482, k_D_call_488, k_D_call_513, k_D_call_521, k_D_call_531, k_D_call_539, k_D_call_547, k_D_call_549, k_D_call_561, k_D_call_566, k_D_call_568, k_D_call_600, k_D_call_602, k_D_call_609, k_D_call_616, k_D_call_618, k_D_call_636, k_D_call_644, k_D_call_651, k_D_call_659, k_D_call_666, k_D_call_674, k_D_call_681, k_D_call_689, k_D_call_696, k_D_call_704, k_D_call_707, k_D_call_715, k_D_call_719, k_D_call_720, k_D_call_721, k_D_call_727, o_c, o_il, o_ll, o_al, o_is, o_as, o_ls, o_inc, o_bi, o_bid, o_bl, o_bld, o_sl, o_i2l, o_l2i, o_dup, o_dup2, o_pop, o_pop2, o_if, o_i2, o_l2, swg, o_sw, o_gI, o_gZ, o_gJ, o_gA, o_gR, o_pI, o_pZ, o_pJ, o_pR, o_ia, o_iak, o_zak, o_ja, o_jak, o_is_, o_isk, o_zsk, o_js_, o_jsk, o_len, o_ri, o_rz, o_rl, o_rv, ls1, ls2, lks, lkj, List.getD_cons_zero, List.getD_cons_succ, List.set_cons_zero, List.set_cons_succ, qcat, true_and, and_true, List.map_nil, List.map_cons, List.sum_nil, List.sum_cons, Nat.reduceAdd, Nat.reduceLeDiff, Nat.zero_le, Int.reduceAdd, Int.reduceNeg, Int.reduceEq, or_true, true_or, Decidable.not_not, false_implies, not_false_eq_true, true_implies, not_true_eq_false, Int.reduceLT, Int.reduceLE]
    exact K
  have t0 : ¬ ((6 ≤ o ∧ o ≤ 11) ∨ o = 14 ∨ (o = 17 ∧ cb = 0)) → WW 126 [] [some (.inr (.inr 901)), some (.inl p), some (.inl mp), some (.inl cb), some (.inr (.inl key)), none, some (.inr (.inr rv)), some (.inl fr), some (.inl to), some (.inl tp), some (.inl at_), some (.inl nx), some (.inl st), some (.inl o), some (.inr (.inl a)), none, none, none, none, none, none] σ := fun h => by
    refine s_D_call_126 S Q _ _ _ ?_
    simp only [k_D_call_0, k_D_call_18, k_D_call_24, k_D_call_38, k_D_call_41, k_D_call_52, k_D_call_60, k_D_call_62, k_D_call_90, k_D_call_97, k_D_call_104, k_D_call_111, k_D_call_118, k_D_call_122, k_D_call_126, k_D_call_132, k_D_call_139, k_D_call_146, k_D_call_153, k_D_call_160, k_D_call_164, k_D_call_165, k_D_call_167, k_D_call_174, k_D_call_180, k_D_call_187, k_D_call_194, k_D_call_196, k_D_call_204, k_D_call_216, k_D_call_217, k_D_call_219, k_D_call_225, k_D_call_237, k_D_call_238, k_D_call_240, k_D_call_332, k_D_call_347, k_D_call_362, k_D_call_369, k_D_call_371, k_D_call_390, k_D_call_396, k_D_call_409, k_D_call_416, k_D_call_420, k_D_call_421, k_D_call_425, k_D_call_446, k_D_call_467, k_D_call_482, k_D_call_488, k_D_call_513, k_D_call_521, k_D_call_531, k_D_call_539, k_D_call_547, k_D_call_549, k_D_call_561, k_D_call_566, k_D_call_568, k_D_call_600, k_D_call_602, k_D_call_609, k_D_call_616, k_D_call_618, k_D_call_636, k_D_call_644, k_D_call_651, k_D_call_659, k_D_call_666, k_D_call_674, k_D_call_681, k_D_call_689, k_D_call_696, k_D_call_704, k_D_call_707, k_D_call_715, k_D_call_719, k_D_call_720, k_D_call_721, k_D_call_727, o_c, o_il, o_ll, o_al, o_is, o_as, o_ls, o_inc, o_bi, o_bid, o_bl, o_bld, o_sl, o_i2l, o_l2i, o_dup, o_dup2, o_pop, o_pop2, o_if, o_i2, o_l2, swg, o_sw, o_gI, o_gZ, o_gJ, o_gA, o_gR, o_pI, o_pZ, o_pJ, o_pR, o_ia, o_iak, o_zak, o_ja, o_jak, o_is_, o_isk, o_zsk, o_js_, o_jsk, o_len, o_ri, o_rz, o_rl, o_rv, ls1, ls2, lks, lkj, List.getD_cons_zero, List.getD_cons_succ, List.set_cons_zero, List.set_cons_succ, qcat, true_and, and_true, List.map_nil, List.map_cons, List.sum_nil, List.sum_cons, Nat.reduceAdd, Nat.reduceLeDiff, Nat.zero_le, Int.reduceAdd, Int.reduceNeg, Int.reduceEq, or_true, true_or, Decidable.not_not, false_implies, not_false_eq_true, true_implies, not_true_eq_false, Int.reduceLT, Int.reduceLE]
    refine ⟨fun e => t1 h (by omega), fun n5 => ⟨fun e => t1 h (by omega), fun n12 => ⟨fun e => t1 h (by omega), fun n13 => ⟨fun e => t1 h (by omega), fun n16 => ⟨fun e => ?_, fun e => t1 h (by omega)⟩⟩⟩⟩⟩
    rw [if_neg h, if_neg (by omega)] at K
    refine s_D_call_164 S Q _ _ _ ?_
    simp only [k_D_call_0, k_D_call_18, k_D_call_24, k_D_call_38, k_D_call_41, k_D_call_52, k_D_call_60, k_D_call_62, k_D_call_90, k_D_call_97, k_D_call_104, k_D_call_111, k_D_call_118, k_D_call_122, k_D_call_126, k_D_call_132, k_D_call_139, k_D_call_146, k_D_call_153, k_D_call_160, k_D_call_164, k_D_call_165, k_D_call_167, k_D_call_174, k_D_call_180, k_D_call_187, k_D_call_194, k_D_call_196, k_D_call_204, k_D_call_216, k_D_call_217, k_D_call_219, k_D_call_225, k_D_call_237, k_D_call_238, k_D_call_240, k_D_call_332, k_D_call_347, k_D_call_362, k_D_call_369, k_D_call_371, k_D_call_390, k_D_call_396, k_D_call_409, k_D_call_416, k_D_call_420, k_D_call_421, k_D_call_425, k_D_call_446, k_D_call_467, k_D_call_482, k_D_call_488, k_D_call_513, k_D_call_521, k_D_call_531, k_D_call_539, k_D_call_547, k_D_call_549, k_D_call_561, k_D_call_566, k_D_call_568, k_D_call_600, k_D_call_602, k_D_call_609, k_D_call_616, k_D_call_618, k_D_call_636, k_D_call_644, k_D_call_651, k_D_call_659, k_D_call_666, k_D_call_674, k_D_call_681, k_D_call_689, k_D_call_696, k_D_call_704, k_D_call_707, k_D_call_715, k_D_call_719, k_D_call_720, k_D_call_721, k_D_call_727, o_c, o_il, o_ll, o_al, o_is, o_as, o_ls, o_inc, o_bi, o_bid, o_bl, o_bld, o_sl, o_i2l, o_l2i, o_dup, o_dup2, o_pop, o_pop2, o_if, o_i2, o_l2, swg, o_sw, o_gI, o_gZ, o_gJ, o_gA, o_gR, o_pI, o_pZ, o_pJ, o_pR, o_ia, o_iak, o_zak, o_ja, o_jak, o_is_, o_isk, o_zsk, o_js_, o_jsk, o_len, o_ri, o_rz, o_rl, o_rv, ls1, ls2, lks, lkj, List.getD_cons_zero, List.getD_cons_succ, List.set_cons_zero, List.set_cons_succ, qcat, true_and, and_true, List.map_nil, List.map_cons, List.sum_nil, List.sum_cons, Nat.reduceAdd, Nat.reduceLeDiff, Nat.zero_le, Int.reduceAdd, Int.reduceNeg, Int.reduceEq, or_true, true_or, Decidable.not_not, false_implies, not_false_eq_true, true_implies, not_true_eq_false, Int.reduceLT, Int.reduceLE]
    exact K
  refine s_D_call_90 S Q _ _ _ ?_
  simp only [k_D_call_0, k_D_call_18, k_D_call_24, k_D_call_38, k_D_call_41, k_D_call_52, k_D_call_60, k_D_call_62, k_D_call_90, k_D_call_97, k_D_call_104, k_D_call_111, k_D_call_118, k_D_call_122, k_D_call_126, k_D_call_132, k_D_call_139, k_D_call_146, k_D_call_153, k_D_call_160, k_D_call_164, k_D_call_165, k_D_call_167, k_D_call_174, k_D_call_180, k_D_call_187, k_D_call_194, k_D_call_196, k_D_call_204, k_D_call_216, k_D_call_217, k_D_call_219, k_D_call_225, k_D_call_237, k_D_call_238, k_D_call_240, k_D_call_332, k_D_call_347, k_D_call_362, k_D_call_369, k_D_call_371, k_D_call_390, k_D_call_396, k_D_call_409, k_D_call_416, k_D_call_420, k_D_call_421, k_D_call_425, k_D_call_446, k_D_call_467, k_D_call_482, k_D_call_488, k_D_call_513, k_D_call_521, k_D_call_531, k_D_call_539, k_D_call_547, k_D_call_549, k_D_call_561, k_D_call_566, k_D_call_568, k_D_call_600, k_D_call_602, k_D_call_609, k_D_call_616, k_D_call_618, k_D_call_636, k_D_call_644, k_D_call_651, k_D_call_659, k_D_call_666, k_D_call_674, k_D_call_681, k_D_call_689, k_D_call_696, k_D_call_704, k_D_call_707, k_D_call_715, k_D_call_719, k_D_call_720, k_D_call_721, k_D_call_727, o_c, o_il, o_ll, o_al, o_is, o_as, o_ls, o_inc, o_bi, o_bid, o_bl, o_bld, o_sl, o_i2l, o_l2i, o_dup, o_dup2, o_pop, o_pop2, o_if, o_i2, o_l2, swg, o_sw, o_gI, o_gZ, o_gJ, o_gA, o_gR, o_pI, o_pZ, o_pJ, o_pR, o_ia, o_iak, o_zak, o_ja, o_jak, o_is_, o_isk, o_zsk, o_js_, o_jsk, o_len, o_ri, o_rz, o_rl, o_rv, ls1, ls2, lks, lkj, List.getD_cons_zero, List.getD_cons_succ, List.set_cons_zero, List.set_cons_succ, qcat, true_and, and_true, List.map_nil, List.map_cons, List.sum_nil, List.sum_cons, Nat.reduceAdd, Nat.reduceLeDiff, Nat.zero_le, Int.reduceAdd, Int.reduceNeg, Int.reduceEq, or_true, true_or, Decidable.not_not, false_implies, not_false_eq_true, true_implies, not_true_eq_false, Int.reduceLT, Int.reduceLE]
  have r1 : ¬ (6 ≤ o ∧ o ≤ 11) → (o = 14 → WW 122 [] [some (.inr (.inr 901)), some (.inl p), some (.inl mp), some (.inl cb), some (.inr (.inl key)), none, some (.inr (.inr rv)), some (.inl fr), some (.inl to), some (.inl tp), some (.inl at_), some (.inl nx), some (.inl st), some (.inl o), some (.inr (.inl a)), none, none, none, none, none, none] σ) := fun _ e => t2 (by omega)
  refine ⟨fun hl => ⟨fun e => t2 (by omega), fun n14 => ⟨fun n17 => t0 (by omega), fun e17 => ⟨fun nc => t0 (by omega), fun ec => t2 (by omega)⟩⟩⟩, fun hl => ⟨fun hle => t2 (by omega), fun hg => ⟨fun e => t2 (by omega), fun n14 => ⟨fun n17 => t0 (by omega), fun e17 => ⟨fun nc => t0 (by omega), fun ec => t2 (by omega)⟩⟩⟩⟩⟩
theorem v_D_call_196 {l : Launch} {ad : Nat → Nat} {D : va_G} {cA : Nat → ClassId} {WW : Nat → qP} {QR : Option qA → qS → Prop} (S : qSnd l rm_D_call ad D cA R_D b_D_call 21 WW) (Q : qRet (some .boolean) b_D_call WW QR) (p mp cb key : Int) (rv : Nat) (fr to tp at_ nx st o a tk : Int) (σ : qS) (hat : 0 ≤ at_ ∧ at_ < 40) (htp : 0 ≤ tp ∧ tp ≤ 12) (K : WW 240 [] (dLs p mp cb key rv fr to tp (at_ + 1) nx st [some (.inl o), some (.inr (.inl a)), none, some (.inl tk), some (.inr (.inl (if 0 < tp then σ 126 (tp - 1) else 0))), none, some (.inr (.inl (if 1 < tp then σ 126 (tp - 2) else 0))), none]) σ) : WW 196 [] (dLs p mp cb key rv fr to tp at_ nx st [some (.inl o), some (.inr (.inl a)), none, some (.inl tk), none, none, none, none]) σ := by
  unfold dLs at K ⊢
  have e1 : w32 (at_ + 1) = at_ + 1 := w32_i _ (by omega) (by omega)
  have nxt : ∀ y, y = (if 0 < tp then σ 126 (tp - 1) else 0) → WW 219 [] [some (.inr (.inr 901)), some (.inl p), some (.inl mp), some (.inl cb), some (.inr (.inl key)), none, some (.inr (.inr rv)), some (.inl fr), some (.inl to), some (.inl tp), some (.inl (at_ + 1)), some (.inl nx), some (.inl st), some (.inl o), some (.inr (.inl a)), none, some (.inl tk), some (.inr (.inl y)), none, none, none] σ := fun y hy => by
    subst hy
    refine s_D_call_219 S Q _ _ _ ?_
    simp only [k_D_call_0, k_D_call_18, k_D_call_24, k_D_call_38, k_D_call_41, k_D_call_52, k_D_call_60, k_D_call_62, k_D_call_90, k_D_call_97, k_D_call_104, k_D_call_111, k_D_call_118, k_D_call_122, k_D_call_126, k_D_call_132, k_D_call_139, k_D_call_146, k_D_call_153, k_D_call_160, k_D_call_164, k_D_call_165, k_D_call_167, k_D_call_174, k_D_call_180, k_D_call_187, k_D_call_194, k_D_call_196, k_D_call_204, k_D_call_216, k_D_call_217, k_D_call_219, k_D_call_225, k_D_call_237, k_D_call_238, k_D_call_240, k_D_call_332, k_D_call_347, k_D_call_362, k_D_call_369, k_D_call_371, k_D_call_390, k_D_call_396, k_D_call_409, k_D_call_416, k_D_call_420, k_D_call_421, k_D_call_425, k_D_call_446, k_D_call_467, k_D_call_482, k_D_call_488, k_D_call_513, k_D_call_521, k_D_call_531, k_D_call_539, k_D_call_547, k_D_call_549, k_D_call_561, k_D_call_566, k_D_call_568, k_D_call_600, k_D_call_602, k_D_call_609, k_D_call_616, k_D_call_618, k_D_call_636, k_D_call_644, k_D_call_651, k_D_call_659, k_D_call_666, k_D_call_674, k_D_call_681, k_D_call_689, k_D_call_696, k_D_call_704, k_D_call_707, k_D_call_715, k_D_call_719, k_D_call_720, k_D_call_721, k_D_call_727, o_c, o_il, o_ll, o_al, o_is, o_as, o_ls, o_inc, o_bi, o_bid, o_bl, o_bld, o_sl, o_i2l, o_l2i, o_dup, o_dup2, o_pop, o_pop2, o_if, o_i2, o_l2, swg, o_sw, o_gI, o_gZ, o_gJ, o_gA, o_gR, o_pI, o_pZ, o_pJ, o_pR, o_ia, o_iak, o_zak, o_ja, o_jak, o_is_, o_isk, o_zsk, o_js_, o_jsk, o_len, o_ri, o_rz, o_rl, o_rv, ls1, ls2, lks, lkj, List.getD_cons_zero, List.getD_cons_succ, List.set_cons_zero, List.set_cons_succ, qcat, true_and, and_true, List.map_nil, List.map_cons, List.sum_nil, List.sum_cons, Nat.reduceAdd, Nat.reduceLeDiff, Nat.zero_le, Int.reduceAdd, Int.reduceNeg, Int.reduceEq, or_true, true_or, Decidable.not_not, false_implies, not_false_eq_true, true_implies, not_true_eq_false, Int.reduceLT, Int.reduceLE]
    refine ⟨fun h => ?_, fun h => ?_⟩
    · rw [if_neg (show ¬ 1 < tp by omega)] at K; exact K
    · have e2 : z_sub tp 2 = tp - 2 := by unfold z_sub; exact w32_i _ (by omega) (by omega)
      rw [e2]
      rw [if_pos (show 1 < tp by omega)] at K
      exact ⟨by omega, K⟩
  refine s_D_call_196 S Q _ _ _ ?_
  simp only [k_D_call_0, k_D_call_18, k_D_call_24, k_D_call_38, k_D_call_41, k_D_call_52, k_D_call_60, k_D_call_62, k_D_call_90, k_D_call_97, k_D_call_104, k_D_call_111, k_D_call_118, k_D_call_122, k_D_call_126, k_D_call_132, k_D_call_139, k_D_call_146, k_D_call_153, k_D_call_160, k_D_call_164, k_D_call_165, k_D_call_167, k_D_call_174, k_D_call_180, k_D_call_187, k_D_call_194, k_D_call_196, k_D_call_204, k_D_call_216, k_D_call_217, k_D_call_219, k_D_call_225, k_D_call_237, k_D_call_238, k_D_call_240, k_D_call_332, k_D_call_347, k_D_call_362, k_D_call_369, k_D_call_371, k_D_call_390, k_D_call_396, k_D_call_409, k_D_call_416, k_D_call_420, k_D_call_421, k_D_call_425, k_D_call_446, k_D_call_467, k_D_call_482, k_D_call_488, k_D_call_513, k_D_call_521, k_D_call_531, k_D_call_539, k_D_call_547, k_D_call_549, k_D_call_561, k_D_call_566, k_D_call_568, k_D_call_600, k_D_call_602, k_D_call_609, k_D_call_616, k_D_call_618, k_D_call_636, k_D_call_644, k_D_call_651, k_D_call_659, k_D_call_666, k_D_call_674, k_D_call_681, k_D_call_689, k_D_call_696, k_D_call_704, k_D_call_707, k_D_call_715, k_D_call_719, k_D_call_720, k_D_call_721, k_D_call_727, o_c, o_il, o_ll, o_al, o_is, o_as, o_ls, o_inc, o_bi, o_bid, o_bl, o_bld, o_sl, o_i2l, o_l2i, o_dup, o_dup2, o_pop, o_pop2, o_if, o_i2, o_l2, swg, o_sw, o_gI, o_gZ, o_gJ, o_gA, o_gR, o_pI, o_pZ, o_pJ, o_pR, o_ia, o_iak, o_zak, o_ja, o_jak, o_is_, o_isk, o_zsk, o_js_, o_jsk, o_len, o_ri, o_rz, o_rl, o_rv, ls1, ls2, lks, lkj, List.getD_cons_zero, List.getD_cons_succ, List.set_cons_zero, List.set_cons_succ, qcat, true_and, and_true, List.map_nil, List.map_cons, List.sum_nil, List.sum_cons, Nat.reduceAdd, Nat.reduceLeDiff, Nat.zero_le, Int.reduceAdd, Int.reduceNeg, Int.reduceEq, or_true, true_or, Decidable.not_not, false_implies, not_false_eq_true, true_implies, not_true_eq_false, Int.reduceLT, Int.reduceLE]
  rw [e1]
  refine ⟨fun h => nxt 0 (by rw [if_neg (by omega)]), fun h => ?_⟩
  have e2 : z_sub tp 1 = tp - 1 := by unfold z_sub; exact w32_i _ (by omega) (by omega)
  rw [e2]
  exact ⟨by omega, nxt _ (by rw [if_pos (by omega)])⟩
theorem v_D_call_721 {l : Launch} {ad : Nat → Nat} {D : va_G} {cA : Nat → ClassId} {WW : Nat → qP} {QR : Option qA → qS → Prop} (S : qSnd l rm_D_call ad D cA R_D b_D_call 21 WW) (Q : qRet (some .boolean) b_D_call WW QR) (p mp cb key : Int) (rv : Nat) (fr to tp at_ nx st : Int) (t1 t2 t3 t4 t5 t6 t7 t8 : Option qA) (σ : qS) (hst : 0 ≤ st ∧ st < 400) (K : WW 41 [] (dLs p mp cb key rv fr to tp at_ nx (st + 1) [none, none, none, none, none, none, none, none]) σ) : WW 721 [] (dLs p mp cb key rv fr to tp at_ nx st [t1, t2, t3, t4, t5, t6, t7, t8]) σ := by
  unfold dLs at K ⊢
  refine S.fg (ls' := [some (.inr (.inr 901)), some (.inl p), some (.inl mp), some (.inl cb), some (.inr (.inl key)), none, some (.inr (.inr rv)), some (.inl fr), some (.inl to), some (.inl tp), some (.inl at_), some (.inl nx), some (.inl st), none, none, none, none, none, none, none, none]) ⟨rfl, rfl, rfl, rfl, rfl, rfl, rfl, rfl, rfl, rfl, rfl, rfl, trivial⟩ ?_
  refine s_D_call_721 S Q _ _ _ ?_
  simp only [k_D_call_0, k_D_call_18, k_D_call_24, k_D_call_38, k_D_call_41, k_D_call_52, k_D_call_60, k_D_call_62, k_D_call_90, k_D_call_97, k_D_call_104, k_D_call_111, k_D_call_118, k_D_call_122, k_D_call_126, k_D_call_132, k_D_call_139, k_D_call_146, k_D_call_153, k_D_call_160, k_D_call_164, k_D_call_165, k_D_call_167, k_D_call_174, k_D_call_180, k_D_call_187, k_D_call_194, k_D_call_196, k_D_call_204, k_D_call_216, k_D_call_217, k_D_call_219, k_D_call_225, k_D_call_237, k_D_call_238, k_D_call_240, k_D_call_332, k_D_call_347, k_D_call_362, k_D_call_369, k_D_call_371, k_D_call_390, k_D_call_396, k_D_call_409, k_D_call_416, k_D_call_420, k_D_call_421, k_D_call_425, k_D_call_446, k_D_call_467, k_D_call_482, k_D_call_488, k_D_call_513, k_D_call_521, k_D_call_531, k_D_call_539, k_D_call_547, k_D_call_549, k_D_call_561, k_D_call_566, k_D_call_568, k_D_call_600, k_D_call_602, k_D_call_609, k_D_call_616, k_D_call_618, k_D_call_636, k_D_call_644, k_D_call_651, k_D_call_659, k_D_call_666, k_D_call_674, k_D_call_681, k_D_call_689, k_D_call_696, k_D_call_704, k_D_call_707, k_D_call_715, k_D_call_719, k_D_call_720, k_D_call_721, k_D_call_727, o_c, o_il, o_ll, o_al, o_is, o_as, o_ls, o_inc, o_bi, o_bid, o_bl, o_bld, o_sl, o_i2l, o_l2i, o_dup, o_dup2, o_pop, o_pop2, o_if, o_i2, o_l2, swg, o_sw, o_gI, o_gZ, o_gJ, o_gA, o_gR, o_pI, o_pZ, o_pJ, o_pR, o_ia, o_iak, o_zak, o_ja, o_jak, o_is_, o_isk, o_zsk, o_js_, o_jsk, o_len, o_ri, o_rz, o_rl, o_rv, ls1, ls2, lks, lkj, List.getD_cons_zero, List.getD_cons_succ, List.set_cons_zero, List.set_cons_succ, qcat, true_and, and_true, List.map_nil, List.map_cons, List.sum_nil, List.sum_cons, Nat.reduceAdd, Nat.reduceLeDiff, Nat.zero_le, Int.reduceAdd, Int.reduceNeg, Int.reduceEq, or_true, true_or, Decidable.not_not, false_implies, not_false_eq_true, true_implies, not_true_eq_false, Int.reduceLT, Int.reduceLE]
  rw [w32_i _ (by omega) (by omega)]
  exact K
def DR (σ : qS) (l : List Int) (c : Int → Int) (em : List Pr) : Prop := l.length ≤ 12 ∧ stk (σ 126) l ∧ (∀ i, 0 ≤ i → i < 4 → σ 127 i = c i) ∧ EmD σ em
theorem DR_push {σ : qS} {l : List Int} {c : Int → Int} {em : List Pr} (v : Int) (h : DR σ l c em) (hl : l.length < 12) : DR (su σ 126 l.length v) (v :: l) c em := by
  obtain ⟨h1, h2, h3, h4⟩ := h
  refine ⟨by simp; omega, ⟨su_s, stk_up (n := l.length) (Int.le_refl _) (fun i hi => by rw [su_e, if_neg (by omega)]) h2⟩, fun i h0 h1 => by rw [su_k (by decide)]; exact h3 i h0 h1, ?_⟩
  unfold EmD; rw [su_k (by decide), su_k (by decide), su_k (by decide)]; exact h4
theorem DR_pop {σ : qS} {v : Int} {l : List Int} {c : Int → Int} {em : List Pr} (h : DR σ (v :: l) c em) : DR σ l c em ∧ σ 126 l.length = v := ⟨⟨by have := h.1; simp at this; omega, h.2.1.2, h.2.2⟩, h.2.1.1⟩

