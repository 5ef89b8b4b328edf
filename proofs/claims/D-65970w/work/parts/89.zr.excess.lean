def kF (e v : Int) (x : Ms) : Bool := decide (xw x 1 = e ∧ xw x 0 = 5 ∧ xw x 5 = v)
def kP (e v : Int) (x : Ms) : Bool := decide (xw x 1 = e ∧ xw x 0 = 6 ∧ x.1 = v)
def kL (e v : Int) (L : List Ms) : Nat := L.countP (kF e v) + L.countP (kP e v)
def kv (σ : qS) (v : Int) : Nat := kL (σ 31 0) v (ln σ)
theorem kL_app (e v : Int) (A B : List Ms) : kL e v (A ++ B) = kL e v A + kL e v B := by unfold kL; rw [List.countP_append, List.countP_append]; omega
theorem kL_tl (e v : Int) (L : List Ms) : kL e v (tl95 L) ≤ kL e v L := by
  have h1 := cp_tl (kF e v) L
  have h2 := cp_tl (kP e v) L
  unfold kL; omega
theorem kL_er (e v : Int) (L : List Ms) (i : Nat) (x : Ms) (h : L[i]? = some x) : kL e v (L.eraseIdx i) + ((if kF e v x = true then 1 else 0) + (if kP e v x = true then 1 else 0)) = kL e v L := by
  have h1 := cp_er (kF e v) L i x h
  have h2 := cp_er (kP e v) L i x h
  unfold kL; omega
theorem kL_1 (e v : Int) (x : Ms) : kL e v [x] = (if kF e v x = true then 1 else 0) + (if kP e v x = true then 1 else 0) := by
  unfold kL; rw [List.countP_cons, List.countP_cons, List.countP_nil, List.countP_nil]; omega
theorem kF_f {e v : Int} {x : Ms} (h : xw x 0 ≠ 5) : kF e v x = false := by unfold kF; exact decide_eq_false (fun z => h z.2.1)
theorem kP_f {e v : Int} {x : Ms} (h : xw x 0 ≠ 6) : kP e v x = false := by unfold kP; exact decide_eq_false (fun z => h z.2.1)
theorem kL_0 {e v : Int} {x : Ms} (h1 : xw x 0 ≠ 5) (h2 : xw x 0 ≠ 6) : kL e v [x] = 0 := by rw [kL_1, kF_f h1, kP_f h2]; rfl
theorem RD_kv {w : Int} {σ σ' : qS} (h : RD w σ σ') : (∀ v, kv σ' v ≤ kv σ v) ∧ (38 ≤ σ 62 w → σ' 62 w = σ 62 w ∧ ((σ' 64 w = σ 64 w ∧ σ' 65 w = σ 65 w) ∨ kv σ' w + 1 ≤ kv σ w)) := by
  obtain ⟨-, -, hk, c⟩ := h
  have he : σ' 31 = σ 31 := hk _ (by decide)
  have sm : same w σ σ' → 38 ≤ σ 62 w → σ' 62 w = σ 62 w ∧ ((σ' 64 w = σ 64 w ∧ σ' 65 w = σ 65 w) ∨ kv σ' w + 1 ≤ kv σ w) := fun s _ => ⟨s.1, Or.inl ⟨s.2.1, s.2.2.1⟩⟩
  rcases c with ⟨-, c2, c3⟩ | ⟨i, x, c1, c2, c⟩
  · exact ⟨fun v => by unfold kv; rw [c2, he]; exact Nat.le_refl _, sm c3⟩
  · have er : ∀ v, ln σ' = (ln σ).eraseIdx i → kv σ' v ≤ kv σ v := fun v e => by
      have := kL_er (σ 31 0) v _ i x c2
      unfold kv; rw [e, he]; omega
    rcases c with ⟨-, d1, d2⟩ | ⟨-, -, d2, d3⟩ | ⟨d0, d1, d2, a, kv', d3⟩ | ⟨d0, d6, d1, d2⟩
    · exact ⟨fun v => er v d1, sm d2⟩
    · refine ⟨fun v => er v d2, ?_⟩
      rcases d3 with ⟨t0, -⟩ | ⟨-, d3⟩
      · intro e; omega
      · exact sm d3
    · refine ⟨fun v => ?_, sm d2⟩
      have h1 := kL_er (σ 31 0) v _ i x c2
      have h2 := kL_tl (σ 31 0) v ((ln σ).eraseIdx i)
      have h3 : kL (σ 31 0) v [((xw x 5, [6, σ 31 0, xw x 2, xw x 4, a, xw x 3], kv') : Ms)] ≤ (if kF (σ 31 0) v x = true then 1 else 0) := by
        have n5 : kF (σ 31 0) v ((xw x 5, [6, σ 31 0, xw x 2, xw x 4, a, xw x 3], kv') : Ms) = false := kF_f (by decide : ¬ (6 : Int) = 5)
        rw [kL_1, n5]
        by_cases c5 : xw x 5 = v
        · have : kF (σ 31 0) v x = true := by unfold kF; exact decide_eq_true ⟨d0, d1, c5⟩
          rw [if_pos this, if_neg (by decide)]
          split <;> omega
        · have : kP (σ 31 0) v ((xw x 5, [6, σ 31 0, xw x 2, xw x 4, a, xw x 3], kv') : Ms) = false := by
            unfold kP; exact decide_eq_false (fun z => c5 z.2.2)
          rw [this]
          simp
      unfold kv
      rw [d3, he, kL_app]
      omega
    · refine ⟨fun v => er v d1, fun e => ?_⟩
      rcases d2 with ⟨-, d2⟩ | ⟨f, d2, -⟩
      · exact sm d2 e
      · refine ⟨d2, Or.inr ?_⟩
        obtain ⟨i0, i1, -⟩ := List.findIdx?_eq_some_iff_getElem.mp c1
        have x1 : x.1 = w := by
          have := List.getElem?_eq_getElem i0
          rw [c2] at this
          rw [← Option.some.inj this] at i1
          simpa using i1
        have h1 := kL_er (σ 31 0) w _ i x c2
        have h2 : kP (σ 31 0) w x = true := by unfold kP; exact decide_eq_true ⟨d0, d6, x1⟩
        rw [if_pos h2] at h1
        unfold kv
        rw [d1, he]
        omega
theorem ACT_kv {w : Int} {σ σ' : qS} (h : ACT w σ σ') : (∀ v, v ≠ w → kv σ' v ≤ kv σ v) ∧ (kv σ' w ≤ kv σ w ∨ (kv σ' w ≤ kv σ w + 1 ∧ 38 ≤ σ 62 w ∧ σ' 62 w = σ 62 w ∧ (σ 65 w = 0 ∨ σ 65 w = 13))) := by
  obtain ⟨-, -, hk, c⟩ := h
  have he : σ' 31 = σ 31 := hk _ (by decide)
  have al : (∀ v, kv σ' v ≤ kv σ v) → (∀ v, v ≠ w → kv σ' v ≤ kv σ v) ∧ (kv σ' w ≤ kv σ w ∨ (kv σ' w ≤ kv σ w + 1 ∧ 38 ≤ σ 62 w ∧ σ' 62 w = σ 62 w ∧ (σ 65 w = 0 ∨ σ 65 w = 13))) := fun e => ⟨fun v _ => e v, Or.inl (e w)⟩
  have nl : ln σ' = ln σ → ∀ v, kv σ' v ≤ kv σ v := fun e v => by unfold kv; rw [e, he]; exact Nat.le_refl _
  have tl : ∀ {to ty a b c d}, ty ≠ 5 → ty ≠ 6 → TL to ty a b c d σ σ' → ∀ v, kv σ' v ≤ kv σ v := fun {to ty a b c d} n5 n6 t v => by
    obtain ⟨q, t⟩ := t
    have h1 := kL_tl (σ 31 0) v (ln σ)
    have h2 : kL (σ 31 0) v [((to, [ty, σ 31 0, a, b, c, d], q) : Ms)] = 0 := kL_0 n5 n6
    unfold kv
    rw [t, he, kL_app, h2]
    omega
  rcases c with ⟨-, -, -, -, c⟩ | ⟨-, c⟩ | ⟨c0, c⟩
  · rcases c with ⟨-, c⟩ | ⟨-, c⟩
    · exact al (tl (by decide) (by decide) c)
    · exact al (nl c)
  · rcases c with ⟨-, -, -, a, c⟩ | ⟨-, -, -, ⟨a, c⟩, -⟩ | ⟨-, -, -, c⟩ | ⟨-, -, -, -, -, c⟩
    · exact al (tl (by decide) (by decide) c)
    · exact al (tl (by decide) (by decide) c)
    · exact al (tl (by decide) (by decide) c)
    · exact al (nl c)
  · rcases c with ⟨-, -, -, c⟩ | ⟨-, -, -, -, -, c⟩ | ⟨-, -, -, -, -, c, -⟩ | ⟨-, -, -, c6, -, c1, -, -, -, c⟩ | ⟨-, -, -, -, c⟩
    · exact al (tl (by decide) (by decide) c)
    · exact al (nl c)
    · exact al (nl c)
    · have key : ∀ v (q : List Pr), kL (σ 31 0) v [((σ 33 (σ 64 w), [5, σ 31 0, σ 64 w, σ 62 w - 38, ps σ w, w], q) : Ms)] ≤ (if v = w then 1 else 0) := fun v q => by
        have n6 : kP (σ 31 0) v ((σ 33 (σ 64 w), [5, σ 31 0, σ 64 w, σ 62 w - 38, ps σ w, w], q) : Ms) = false := kP_f (by decide : ¬ (5 : Int) = 6)
        rw [kL_1, n6]
        by_cases e : v = w
        · rw [if_pos e, if_neg (by decide : ¬ (false = true))]; split <;> omega
        · have : kF (σ 31 0) v ((σ 33 (σ 64 w), [5, σ 31 0, σ 64 w, σ 62 w - 38, ps σ w, w], q) : Ms) = false := by
            unfold kF; exact decide_eq_false (fun z => e z.2.2.symm)
          rw [this]; simp
      have fin : (∀ v, kv σ' v ≤ kv σ v + (if v = w then 1 else 0)) → (∀ v, v ≠ w → kv σ' v ≤ kv σ v) ∧ (kv σ' w ≤ kv σ w ∨ (kv σ' w ≤ kv σ w + 1 ∧ 38 ≤ σ 62 w ∧ σ' 62 w = σ 62 w ∧ (σ 65 w = 0 ∨ σ 65 w = 13))) := fun e => by
        refine ⟨fun v hv => ?_, Or.inr ⟨?_, c0, c1, c6⟩⟩
        · have := e v; rw [if_neg hv] at this; omega
        · have := e w; rw [if_pos rfl] at this; omega
      rcases c with ⟨-, -, q, c⟩ | ⟨-, -, q, q', c⟩
      · refine fin (fun v => ?_)
        have h1 := kL_tl (σ 31 0) v (ln σ)
        have h2 := key v q
        unfold kv
        rw [c, he, kL_app]
        omega
      · refine fin (fun v => ?_)
        have h1 := kL_tl (σ 31 0) v (ln σ)
        have h2 := key v q
        have h3 := kL_tl (σ 31 0) v (tl95 (ln σ) ++ [((σ 33 (σ 64 w), [5, σ 31 0, σ 64 w, σ 62 w - 38, ps σ w, w], q) : Ms)])
        have h4 : kL (σ 31 0) v [((6, [7, σ 31 0, σ 64 w, σ 33 (σ 64 w), 0, 0], q') : Ms)] = 0 := kL_0 (by decide : ¬ (7 : Int) = 5) (by decide : ¬ (7 : Int) = 6)
        rw [kL_app] at h3
        unfold kv
        rw [c, he, kL_app, h4]
        omega
    · rcases c with ⟨-, -, c⟩ | ⟨-, c⟩
      · exact al (tl (by decide) (by decide) c)
      · exact al (tl (by decide) (by decide) c)
def rd1 (σ : qS) (v : Int) : Int := if 38 ≤ σ 62 v then 1 else 0
def xv (σ : qS) (v : Int) : Int := kv σ v - rd1 σ v
def GR (σ : qS) (w : Int) : Prop := 38 ≤ σ 62 w → 1 ≤ σ 65 w ∧ σ 64 w < spl σ ∧ σ 40 (σ 62 w - 38) ≠ σ 31 0
theorem WTK_GR {w : Int} {σ σ' : qS} (hw : 0 ≤ w ∧ w < 6) (h : WTK w σ σ') : GR σ' w := by
  obtain ⟨σ1, σ2, σ3, r1, r2, r3, a, ⟨j1, j2, j3, j4⟩, -, -, a3, -⟩ := h
  have hsp := spl_b j3.1
  obtain ⟨-, -, hk, c⟩ := a
  have fz : fgo w σ' → GR σ' w := fun f e => by have := f.1; omega
  have he : σ' 31 = σ3 31 := hk _ (by decide)
  rcases c with ⟨-, -, c, -⟩ | ⟨c0, c⟩ | ⟨c0, c⟩
  · intro e; omega
  · rcases c with ⟨-, -, f, -⟩ | ⟨-, f, -⟩ | ⟨-, -, f, -⟩ | ⟨-, -, c, -⟩
    · exact fz f
    · exact fz f
    · exact fz f
    · intro e; omega
  · have hr := (rd_P2 j3 hw a3 c0).1
    have ha := hr.2.2.1
    rcases c with ⟨-, -, f, -⟩ | ⟨-, -, -, -, f, -⟩ | ⟨u0, u1, -, u3, u4, -, c1, c2, -, -, c5⟩ | ⟨u0, u1, -, -, u4, c1, c2, -, c5, -⟩ | ⟨-, -, f, -⟩
    · exact fz f
    · exact fz f
    · refine fun _ => ⟨by omega, by rw [c2, (spl_ac hk).1]; exact u1, by rw [c1, u4.2, he]; exact u0⟩
    · refine fun _ => ⟨by omega, by rw [c2, (spl_ac hk).1]; exact u1, by rw [c1, u4.2, he]; exact u0⟩
    · exact fz f
theorem xv_t {w : Int} {σ σ' : qS} (hJ : JI False (-1) σ) (hw : 0 ≤ w ∧ w < 6) (hg : GR σ w) (h : WTK w σ σ') : (∀ v, v ≠ w → xv σ' v ≤ xv σ v) ∧ (xv σ' w ≤ xv σ w ∨ (xv σ' w ≤ xv σ w + 1 ∧ 38 ≤ σ 62 w ∧ ((σ' 62 w = σ 62 w ∧ σ 65 w = 13) ∨ (σ' 62 w = -1 ∧ σ 33 (σ 64 w) = -1)))) := by
  have ho := (WTK_o h).1
  have hst := WTK_st h
  obtain ⟨σ1, σ2, σ3, r1, r2, r3, a, -⟩ := h
  obtain ⟨k1, p1⟩ := RD_kv r1
  obtain ⟨k2, p2⟩ := RD_kv r2
  obtain ⟨k3, p3⟩ := RD_kv r3
  obtain ⟨k4, p4⟩ := ACT_kv a
  have kk : ∀ k ∈ [33, 40, 31, 32, 29, 10, 11, 2, 13], σ3 k = σ k := fun k m => by
    have m1 : k ∈ rdK := (by decide : ∀ k ∈ [33, 40, 31, 32, 29, 10, 11, 2, 13], k ∈ rdK) k m
    rw [r3.2.2.1 k m1, r2.2.2.1 k m1, r1.2.2.1 k m1]
  refine ⟨fun v hv => ?_, ?_⟩
  · have e1 := k1 v
    have e2 := k2 v
    have e3 := k3 v
    have e4 := k4 v hv
    have e5 : rd1 σ' v = rd1 σ v := by unfold rd1; rw [ho.1 v hv 62 (by decide)]
    unfold xv; omega
  · have e1 := k1 w
    have e2 := k2 w
    have e3 := k3 w
    have rb : 0 ≤ rd1 σ w ∧ rd1 σ w ≤ 1 := by unfold rd1; split <;> omega
    have rb' : 0 ≤ rd1 σ' w ∧ rd1 σ' w ≤ 1 := by unfold rd1; split <;> omega
    by_cases c38 : 38 ≤ σ 62 w
    · have r1e : rd1 σ w = 1 := by unfold rd1; exact if_pos c38
      have key : σ3 62 w = σ 62 w ∧ ((σ3 64 w = σ 64 w ∧ σ3 65 w = σ 65 w) ∨ kv σ3 w + 1 ≤ kv σ w) := by
        obtain ⟨q1, q2⟩ := p1 c38
        obtain ⟨q3, q4⟩ := p2 (by omega)
        obtain ⟨q5, q6⟩ := p3 (by omega)
        refine ⟨by omega, ?_⟩
        rcases q2 with q2 | q2
        · rcases q4 with q4 | q4
          · rcases q6 with q6 | q6
            · exact Or.inl ⟨by omega, by omega⟩
            · exact Or.inr (by omega)
          · exact Or.inr (by omega)
        · exact Or.inr (by omega)
      obtain ⟨t3, q⟩ := key
      rcases q with ⟨q1, q2⟩ | q
      · obtain ⟨g1, g2, g3⟩ := hg c38
        have sp3 : spl σ3 = spl σ := (st_c (fun k m => kk k ((by decide : ∀ k ∈ stC, k ∈ [33, 40, 31, 32, 29, 10, 11, 2, 13]) k m))).1
        have hsp := spl_b hJ.1
        rcases p4 with p4 | ⟨p4, -, t4, p5⟩
        · by_cases c9 : 38 ≤ σ' 62 w
          · have : rd1 σ' w = 1 := by unfold rd1; exact if_pos c9
            exact Or.inl (by unfold xv; omega)
          · refine Or.inr ⟨by unfold xv; omega, c38, Or.inr ?_⟩
            obtain ⟨-, -, -, c⟩ := a
            rcases c with ⟨c, -⟩ | ⟨c0, -⟩ | ⟨c0, c⟩
            · omega
            · omega
            · rcases c with ⟨u0, -⟩ | ⟨-, -, u, -, f, -⟩ | ⟨-, -, -, -, -, -, c1, -⟩ | ⟨-, -, -, -, -, c1, -⟩ | ⟨-, u, -⟩
              · exfalso
                rw [t3, kk 40 (by decide), kk 31 (by decide)] at u0
                exact g3 u0
              · exact ⟨f.1, by rw [q1, kk 33 (by decide)] at u; exact u⟩
              · omega
              · omega
              · omega
        · have : rd1 σ' w = 1 := by unfold rd1; exact if_pos (by omega)
          refine Or.inr ⟨by unfold xv; omega, c38, Or.inl ⟨by omega, ?_⟩⟩
          omega
      · refine Or.inl ?_
        rcases p4 with p4 | ⟨p4, -, t4, -⟩
        · unfold xv; omega
        · have : rd1 σ' w = 1 := by unfold rd1; exact if_pos (by omega)
          unfold xv; omega
    · have r1e : rd1 σ w = 0 := by unfold rd1; exact if_neg c38
      refine Or.inl ?_
      rcases p4 with p4 | ⟨p4, p5, t4, -⟩
      · unfold xv; omega
      · have : rd1 σ' w = 1 := by unfold rd1; exact if_pos (by omega)
        unfold xv; omega

