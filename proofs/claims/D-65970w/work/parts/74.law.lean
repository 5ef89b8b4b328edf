/-! THE CLAIM OUT OF ONE WALK OF THE LAW'S BODY. Your part is whole_start (and what it stands on); all else here is the same for every law, but numbers. -/
def R_law : String := "ShuffleMillLaw"
def lw_P (b : Addr) (xs : List Int32) (args : Array Value) (s : State) : Prop := args = #[.ref b] ∧ s.IntsAt b xs ∧ xs.length ≤ 24576 ∧ (Jvm.Cond.and given_1 narrow_1).before args s = true
def lw_Q (_ : Array Value) (s : State) (o : Outcome) (t : State) : Prop := o = .returned (some (.int 1)) ∧ Framed s o t [] 608192 7228522
def lw_Z (below : List Frame) (a : Array Value) (s : State) : State → Prop := fun t => ∃ o, t.status = .running ∧ Ended t below o ∧ lw_Q a s o t
/-- the law's own end, with 1 on the stack, nothing written that was there before, its room as the claim has it -/
theorem lw_ret {p : Program} {l : Launch} {e : Env} {s : State} {m : MethodId} {below : List Frame} {meth : Method} {c : Code} {b : Nat} (hx : p.tables.exec = Jvm.exec) (hb : c.code = code) (hr : meth.sig.returnType = ret) (hlocks : meth.locks = false) {pc : Nat} {H : Heap} {ls : Array Slot} (hdg : decode code pc = .ok (.ireturn, 1)) : W p l e room_1 s m #[Value.ref b] below meth c H [] 608192 7228522 (lw_Z below #[Value.ref b] s) (F0 m pc ls [.int 1]) := by
  intro T hT X
  obtain ⟨fs, hret, hrun, hended, hW, hframe⟩ := X.leave (v := some (.int 1)) (hlocks := hlocks) (fun h => by rw [hr] at h; cases h)
  have hmeth' : T.vm.method? m = some meth := X.method'
  refine ⟨T.setFrames fs, ?_, .returned (some (.int 1)), hrun, hended, rfl, ⟨_, rfl⟩, hW, hframe⟩
  jvm_step X.here [X.here.top, hx, hb, hdg, hmeth', hr, ret, narrow_b1]
  (try refine ⟨rfl, ?_⟩); (try refine ⟨rfl, ?_⟩)
  first | (intro acts; rw [hret _ acts rfl rfl rfl]) | rw [hret _ _ rfl rfl rfl]
  exact Steps.refl _
/-- what holds at the law's entry: the machine, the code, the tables' words (any of lw_tbl by 'hts w (by decide +kernel)'), the script of L ints xs at the cell b, what the Statement gives of the start (any of its parts by flat_of_before) -/
def lw_At (p : Program) (s : State) (m : MethodId) (meth : Method) (c : Code) (b L : Nat) (xs : Nat → Int32) : Prop :=
  p.tables.exec = Jvm.exec ∧ c.code = code ∧ meth.sig.returnType = ret ∧ c.maxLocals = 8 ∧ s.vm.findClass R_law = some m.cls ∧ (∀ w ∈ lw_tbl, w.before #[Value.ref b] s = true) ∧ va_X b L xs s s.heap ∧ b < s.heap.size ∧ meth.locks = false ∧ (Jvm.Cond.and given_1 narrow_1).before #[Value.ref b] s = true
theorem am_args : ∀ w ∈ amS ++ amR ++ amC ++ amN ++ amD, ∀ (a1 a2 : Array Value) (U : State), w.before a1 U = w.before a2 U := by
  intro w hw a1 a2 U
  simp only [amS, amR, amC, amN, amD, List.cons_append, List.nil_append, List.mem_cons, List.not_mem_nil, or_false] at hw
  rcases hw with rfl | rfl | rfl | rfl | rfl | rfl | rfl | rfl | rfl | rfl | rfl | rfl | rfl | rfl | rfl | rfl | rfl | rfl | rfl | rfl | rfl | rfl | rfl <;> rfl
theorem law_am {b : Nat} {s : State} (hts : ∀ w ∈ lw_tbl, w.before #[Value.ref b] s = true) (hgv : (Jvm.Cond.and given_1 narrow_1).before #[Value.ref b] s = true) : am s := by
  intro w hw args
  rw [am_args w hw args #[Value.ref b] s]
  have hs := flat_of_before _ hgv
  have key : ∀ w ∈ amS ++ amR ++ amC ++ amN ++ amD, w ∈ lw_tbl ∨ w ∈ flatC (Jvm.Cond.and given_1 narrow_1) := by decide +kernel
  rcases key w hw with h | h
  · exact hts w h
  · exact hs w h
theorem law_loop {l : Launch} {ad : Nat → Nat} {D : va_G} {cA : Nat → ClassId} {WWn : Nat → Nat → qP} {QR : Option qA → qS → Prop} {xs : Nat → Int32} {L : Nat} (hS : ∀ n, n ≤ 4100 → qSnd l rm_L_law ad D cA R_L b_L_law 8 (WWn n)) (hQ : ∀ n, n ≤ 4100 → qRet (some .boolean) b_L_law (WWn n) QR) (hSc : ∀ n, n ≤ 4100 → qScr xs L b_L_law (WWn n)) (hLc : ∀ n, n ≤ 4099 → qLcl l rm_L_law ad D cA R_L b_L_law (WWn n) (WWn (n + 1))) (hW : ∀ n, n ≤ 4099 → ∀ pc st ls σ, WWn (n + 1) pc st ls σ → WWn n pc st ls σ) (INV : Nat → qS → Prop) (hI : lawOK INV) (hL : L ≤ 24576) (hR : ∀ σ, QR (some (.inl 1)) σ) :
    ∀ (m n : Nat) (i : Int) (σ : qS), m = 4096 - n → n ≤ 4096 → i = 6 * n → INV n σ → WWn n 23 [] [some (.inr (.inr 150)), some (.inr (.inr 900)), some (.inr (.inr 901)), some (.inr (.inr 140)), some (.inl i), none, none, none] σ := by
  intro m
  induction m with
  | zero =>
    intro n i σ hm hn hi hV
    refine s_L_law_23 (hS n (by omega)) (hQ n (by omega)) (hSc n (by omega)) (hLc n (by omega)) _ _ _ ?_
    have zL : z_sub (L : Int) 6 = L - 6 := by unfold z_sub; exact w32_i _ (by omega) (by omega)
    simp only [k_L_law_23, k_L_law_1077, o_slen, o_sld, o_c, o_il, o_ll, o_al, o_is, o_as, o_ls, o_inc, o_bi, o_bid, o_bl, o_bld, o_sl, o_i2l, o_l2i, o_dup, o_dup2, o_pop, o_pop2, o_if, o_i2, o_l2, swg, o_sw, o_gI, o_gZ, o_gJ, o_gA, o_gR, o_pI, o_pZ, o_pJ, o_pR, o_ia, o_iak, o_zak, o_ja, o_jak, o_is_, o_isk, o_zsk, o_js_, o_jsk, o_len, o_ri, o_rz, o_rl, o_rv, ls1, ls2, lks, lkj, List.getD_cons_zero, List.getD_cons_succ, List.set_cons_zero, List.set_cons_succ, qcat, true_and, and_true, List.map_nil, List.map_cons, List.sum_nil, List.sum_cons, Nat.reduceAdd, Nat.reduceLeDiff, Nat.zero_le, Int.reduceAdd, Int.reduceNeg, Int.reduceEq, or_true, true_or, Decidable.not_not, false_implies, not_false_eq_true, true_implies, not_true_eq_false, Int.reduceLT, Int.reduceLE]
    rw [zL]
    exact ⟨fun _ => hR σ, fun h => by omega⟩
  | succ m ih =>
    intro n i σ hm hn hi hV
    by_cases hc : (L : Int) - 6 < i
    · refine s_L_law_23 (hS n (by omega)) (hQ n (by omega)) (hSc n (by omega)) (hLc n (by omega)) _ _ _ ?_
      have zL : z_sub (L : Int) 6 = L - 6 := by unfold z_sub; exact w32_i _ (by omega) (by omega)
      simp only [k_L_law_23, k_L_law_1077, o_slen, o_sld, o_c, o_il, o_ll, o_al, o_is, o_as, o_ls, o_inc, o_bi, o_bid, o_bl, o_bld, o_sl, o_i2l, o_l2i, o_dup, o_dup2, o_pop, o_pop2, o_if, o_i2, o_l2, swg, o_sw, o_gI, o_gZ, o_gJ, o_gA, o_gR, o_pI, o_pZ, o_pJ, o_pR, o_ia, o_iak, o_zak, o_ja, o_jak, o_is_, o_isk, o_zsk, o_js_, o_jsk, o_len, o_ri, o_rz, o_rl, o_rv, ls1, ls2, lks, lkj, List.getD_cons_zero, List.getD_cons_succ, List.set_cons_zero, List.set_cons_succ, qcat, true_and, and_true, List.map_nil, List.map_cons, List.sum_nil, List.sum_cons, Nat.reduceAdd, Nat.reduceLeDiff, Nat.zero_le, Int.reduceAdd, Int.reduceNeg, Int.reduceEq, or_true, true_or, Decidable.not_not, false_implies, not_false_eq_true, true_implies, not_true_eq_false, Int.reduceLT, Int.reduceLE]
      rw [zL]
      exact ⟨fun _ => hR σ, fun h => absurd hc h⟩
    · exact law_turn (hS n (by omega)) (hQ n (by omega)) (hSc n (by omega)) (hLc n (by omega)) (hS (n + 1) (by omega)) (hQ (n + 1) (by omega)) (hSc (n + 1) (by omega)) (hLc (n + 1) (by omega)) (hW n (by omega)) INV hI n (by omega) i σ hV (by omega) (fun σ2 h2 => ih (n + 1) (i + 6) σ2 (by omega) (by omega) (by omega) h2)
theorem fs_V {ty : Nat → FieldType} {N : Nat} : ∀ j, j < N → defaultValue (ty j) = vp_V ((List.range N).map (fun j => defaultValue (ty j))) j := by
  intro j hj
  simp [vp_V, hj]
theorem cs_M : csl it_M = 46033 := by decide +kernel
theorem cs_D : csl it_D = 28120 := by decide +kernel
theorem σz_ok : qoS σz := by
  intro k i
  unfold σz qor
  by_cases h : k = 23
  · subst h; rw [if_neg (by decide), if_neg (by decide), if_pos (by decide)]; trivial
  · simp only [if_neg h]
    split
    · unfold r64; omega
    · split
      · first | exact Or.inl rfl | exact Or.inl trivial
      · split
        · trivial
        · unfold r32; omega
theorem whole_of (INV : Nat → qS → Prop) (hI : lawOK INV) (h0 : INV 0 σz) {p : Program} {e : Env} {s : State} {m : MethodId} {below : List Frame} {meth : Method} {c : Code} (l : Launch) (htr : ∀ e, l.admits e → e.platform.stackTraces = false) {b L : Nat} {xs : Nat → Int32} (hL : L ≤ 24576) (C0 : lw_At p s m meth c b L xs) : W p l e room_1 s m #[Value.ref b] below meth c s.heap [] 0 0 (lw_Z below #[Value.ref b] s) (entryFrame m ([Value.ref b] : List Value).toArray 8) := by
  obtain ⟨hx, hb, hr, hml, hown, hts, hX, hbl, hlocks, hgv⟩ := C0
  have ham := law_am hts hgv
  have htg : ∀ w ∈ lw_g, w.before #[Value.ref b] s = true := fun w hw => hts w (List.mem_filter.mp hw).1
  have harr : ∀ t, t < 3 → Cond.arrayClass (ctT t) ∈ lw_g := fun t ht => by
    have h3 : t = 0 ∨ t = 1 ∨ t = 2 := by omega
    rcases h3 with rfl | rfl | rfl
    · exact lw_at 326 (by decide +kernel) rfl
    · exact lw_at 325 (by decide +kernel) rfl
    · exact lw_at 327 (by decide +kernel) rfl
  obtain ⟨D, cA, hK⟩ := law_K htg (lw_at 71 (by decide +kernel) rfl) (lw_at 784 (by decide +kernel) rfl) harr
  have hown' : s.vm.findClass R_L = some m.cls := hown
  have hl := lv_entry ([.ref b]) (n := 8) (Nat.le_of_ble_eq_true rfl)
  rw [lg_entry_eq]
  generalize (lg_sl ([.ref b]) ++ List.replicate (8 - (lg_sl ([.ref b])).length) Slot.unset).toArray = ls at hl ⊢
  have hl : lv_has ls 8 [(0, .ref b)] := hl
  refine law_obj (A := fun q => s.heap.size ≤ q) (ws := []) (cA := cA) (D := D) (fs := fsM) (items := it_M) (y := y_M_init) (bytes := b_M_init) (rm := rm_M_init) (ci := 0) (C := R_M) (T := F_M) (N := 82) (ty0 := t_M) (own := R_L) (i1 := 8) (i2 := 69) (cc := b_L_law) (nL := 8) hx hb hml hl.1 hown' htg hK (fun k q hk => by cases hk) ⟨fun i j x y hi => (by cases hi), fun k q hk => (by cases hk)⟩ va_S.rf (fun q h => h) rfl hg_M t_M_ok fs_V (lw_at 70 (by decide +kernel) rfl) (lw_at 71 (by decide +kernel) rfl) (lw_at 59 (by decide +kernel) rfl) (lw_at 72 (by decide +kernel) rfl) (lw_at 73 (by decide +kernel) rfl) (lw_at 74 (by decide +kernel) rfl) rfl rfl ⟨by decide, by decide, by decide +kernel⟩ (fun a sz => c_M_init l D cA a sz fsM rfl) ⟨rfl, rfl⟩ (by decide) (by decide) (by rw [cs_M]; decide) (by decide) d_L_law_0 d_L_law_3 d_L_law_4 (fun a0 qm H1 locs1 hqm hP1 hD1 hS1 => ?_)
  refine lv_astore_n (i := 1) hx hb d_L_law_7 rfl hl (by decide) rfl (fun ls1 hl1 => ?_)
  refine law_obj (A := fun q => s.heap.size ≤ q) (cA := cA) (D := D) (fs := fsD) (items := it_D) (y := y_D_init) (bytes := b_D_init) (rm := rm_D_init) (ci := 1) (C := R_D) (T := F_D) (N := 32) (ty0 := t_D) (own := R_L) (i1 := 70) (i2 := 72) (cc := b_L_law) (nL := 8) hx hb hml hl1.1 hown' htg hK hP1 hD1 hS1 (fun q h => h) rfl hg_D t_D_ok fs_V (lw_at 783 (by decide +kernel) rfl) (lw_at 784 (by decide +kernel) rfl) (lw_at 60 (by decide +kernel) rfl) (lw_at 785 (by decide +kernel) rfl) (lw_at 786 (by decide +kernel) rfl) (lw_at 787 (by decide +kernel) rfl) rfl rfl ⟨by decide, by decide, by decide +kernel⟩ (fun a sz => c_D_init l D cA a sz fsD rfl) ⟨rfl, rfl⟩ (by decide) (by decide) (by rw [cs_M, cs_D]; decide) (by decide) d_L_law_8 d_L_law_11 d_L_law_12 (fun a1 qd H2 locs2 hqd hP2 hD2 hS2 => ?_)
  refine lv_astore_n (i := 2) hx hb d_L_law_15 rfl hl1 (by decide) rfl (fun ls2 hl2 => ?_)
  refine lv_iconst (v := 1) hx hb d_L_law_16 rfl ?_
  refine va_newaK (n := 1) (N := 1) hx hb (by show (Cond.arrayClass .long).before _ _ = true; exact htg _ (harr 1 (by decide))) rfl d_L_law_17 rfl (by decide) (by decide) (by decide) (by rw [show it_M.length = 62 by decide, show it_D.length = 25 by decide]; decide) (by rw [cs_M, cs_D]; decide) rfl (fun H3 cB e1 z1 o1 hAr hNm => ?_)
  have hcB : cB = cA 1 := by
    have h1 : s.vm.findClass ("[" ++ (FieldType.long).toString) = some (cA 1) := (hK.2 1 _ rfl).2
    have h2 : s.vm.findClass ("[" ++ (FieldType.long).toString) = some cB := hNm
    rw [h2] at h1
    exact Option.some.inj h1
  subst hcB
  have hP3 : va_P D qcl (wsL cA a0 a1 H2.size qm qd) H3 := (hP2.kept (fun k y hy => o1 y.1 ((hP2 k y hy).lt))).app (fun k y hy => by
    have hz : k < 1 := (List.getElem?_eq_some_iff.mp hy).1
    rw [show k = 0 by omega] at hy
    cases hy
    show H3[H2.size]? = some (vp_cell _ _)
    rw [ct0_cell]
    exact e1)
  have hD3 : va_D (fun q => s.heap.size ≤ q) (wsL cA a0 a1 H2.size qm qd) := hD2.push hP2 rfl hS2.1
  have hS3 : va_S (fun q => s.heap.size ≤ q) s.heap H3 locs2 := ⟨Nat.le_trans hS2.1 (by omega), fun y h1 h2 => (o1 y (Nat.lt_of_lt_of_le h1 hS2.1)).trans (hS2.2.1 y h1 h2), hS2.2.2⟩
  obtain ⟨hPq, hinj, hAd⟩ := law_P (b := b) hqm hqd hP3 hD3
  generalize hao : H2.size = ao at *
  refine lv_astore_n (i := 3) hx hb d_L_law_19 rfl hl2 (by decide) rfl (fun ls3 hl3 => ?_)
  refine lv_iconst (v := 0) hx hb d_L_law_20 rfl ?_
  refine lv_istore (i := 4) hx hb d_L_law_21 hl3 (by decide) rfl (fun ls4 hl4 => ?_)
  have X : qX p s m #[Value.ref b] meth c b_L_law 8 R_L (adL a0 a1 ao b qm qd) D cA (fun q => s.heap.size ≤ q) := ⟨hx, hb, hml, hown', htg, hK, hinj, hAd, fun q h => h, hlocks⟩
  have hnA : ¬ s.heap.size ≤ b := by omega
  have hns : ∀ q, s.heap.size ≤ q → ∀ cell, s.heap[q]? = some cell → cell.vm.isStatics = false := fun q hq cell hc => by
    have := (Array.getElem?_eq_some_iff.mp hc).1
    omega
  have c1 : it_M.length = 62 := by decide
  have c2 : it_D.length = 25 := by decide
  obtain ⟨C0, hC0, hC1⟩ : ∃ C0, 0 + 1 + it_M.length + 1 + it_D.length + 1 = C0 ∧ C0 = 90 := ⟨_, rfl, by rw [c1, c2]⟩
  obtain ⟨S0, hS0, hS1⟩ : ∃ S0, 0 + 82 + csl it_M + 32 + csl it_D + 1 = S0 ∧ S0 ≤ 80000 := ⟨_, rfl, by rw [cs_M, cs_D]; decide⟩
  rw [hC0, hS0]
  clear hC0 hS0 c1 c2
  obtain ⟨cf, hcf⟩ : ∃ cf : Nat → Nat, ∀ n, cf n = C0 + n := ⟨fun n => C0 + n, fun _ => rfl⟩
  obtain ⟨sf, hsf⟩ : ∃ sf : Nat → Nat, ∀ n, sf n = S0 + 6 * n := ⟨fun n => S0 + 6 * n, fun _ => rfl⟩
  have ecf : C0 = cf 0 := by rw [hcf]; omega
  have esf : S0 = sf 0 := by rw [hsf]; omega
  rw [ecf, esf]
  refine law_loop (l := l) (ad := adL a0 a1 ao b qm qd) (D := D) (cA := cA) (xs := xs) (L := L) (QR := fun r _ => r = some (.inl 1))
    (WWn := fun n => qWW p l e room_1 s m #[Value.ref b] below meth c 8 (adL a0 a1 ao b qm qd) D cA (fun q => s.heap.size ≤ q) (cf n) (sf n) (lw_Z below #[Value.ref b] s))
    (fun n hn => q_snd X ⟨by rw [hcf]; show _ ≤ 608192; omega, by rw [hsf]; show _ ≤ 7228522; omega⟩)
    (fun n hn => ⟨fun h => (by cases h), fun _ pc d => ?_, fun h => (by cases h), fun h => (by cases h)⟩)
    (fun n hn => ⟨fun pc K d h => q_slen X hX hbl hnA rfl (by omega) d h, fun pc K d h => q_sld X hX hbl hnA rfl d h⟩)
    (fun n hn i k maxL pc y bytes rt hh rm pre post hB hrm hR hC d => ?_)
    (fun n hn pc st ls σ h o1 o2 o3 H locs la hP hS hl T hT Xs => h o1 o2 o3 H locs la hP hS hl T hT (stand_widen Xs (by rw [hcf, hcf]; omega) (by rw [hsf, hsf]; omega)))
    INV hI hL (fun _ => rfl) 4096 0 0 σz rfl (by omega) rfl h0 (fun v hv => by cases hv) (fun i v hv => ?_) σz_ok H3 locs2 ls4 hPq hS3 ⟨hl4.1, by decide, hl4.2.1, fun i v hv => ?_⟩
  · intro st ls σ k o1 o2 o3 H locs la hP hS hl T hT Xs
    unfold o_rz at k
    split at k
    next z =>
      have hz : z = 1 := by
        have := k
        first | exact Sum.inl.inj (Option.some.inj this) | exact Sum.inl.inj (Option.some.inj this.2) | exact Sum.inl.inj (Option.some.inj (this (by assumption)))
      subst hz
      exact va_forget (fun q hq => hS.2.2 q hq) (lw_ret hx hb hr hlocks d) T hT (stand_widen Xs (by rw [hcf]; omega) (by rw [hsf]; omega))
    next => exact k.elim
  · have h1 := q_lc (cells := cf n) (slots := sf n) (p := p) (e := e) (R := room_1) (below := below) (Q := lw_Z below #[Value.ref b] s) X htr ham hns ⟨by rw [hcf]; show _ ≤ 608192; omega, by rw [hsf]; show _ ≤ 7228522; omega⟩ hB hrm hR hC d
    have e1 : cf (n + 1) = cf n + 1 := by rw [hcf, hcf]; omega
    have e2 : sf (n + 1) = sf n + 6 := by rw [hsf, hsf]; omega
    show qle (o_cl k pre post (qWW p l e room_1 s m #[Value.ref b] below meth c 8 (adL a0 a1 ao b qm qd) D cA (fun q => s.heap.size ≤ q) (cf (n + 1)) (sf (n + 1)) (lw_Z below #[Value.ref b] s) (pc + 3))) _ pc
    rw [e1, e2]
    exact h1
  · match i, hv with
    | 0, hv => cases hv; trivial
    | 1, hv => cases hv; trivial
    | 2, hv => cases hv; trivial
    | 3, hv => cases hv; trivial
    | 4, hv => cases hv; show r32 0; unfold r32; omega
    | 5, hv => cases hv
    | 6, hv => cases hv
    | 7, hv => cases hv
    | k + 8, hv => cases hv
  · match i, hv with
    | 0, hv => cases hv; exact lv_at hl4 4 rfl
    | 1, hv => cases hv; exact lv_at hl4 3 rfl
    | 2, hv => cases hv; exact lv_at hl4 2 rfl
    | 3, hv => cases hv; exact lv_at hl4 1 rfl
    | 4, hv => cases hv; exact lv_at hl4 0 rfl
    | 5, hv => cases hv
    | 6, hv => cases hv
    | 7, hv => cases hv
    | k + 8, hv => cases hv

