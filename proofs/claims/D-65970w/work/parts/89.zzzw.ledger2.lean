def idq (τ : Nat → qS) (t : Nat) : Nat := if t % 7 < 6 then (if 38 ≤ τ (t + 1) 62 ((t % 7 : Nat) : Int) then 0 else 1) else 0
noncomputable def lgd (τ : Nat → qS) (t : Nat) : Nat := lgc τ t + idq τ t
noncomputable def ldw (τ : Nat → qS) (w r0 : Nat) : Nat → Nat
  | 0 => 0
  | n + 1 => ldw τ w r0 n + lgd τ (7 * (r0 + n) + w)
theorem lgd_t {L : Nat} {τ : Nat → qS} (h : RNN L τ) {w : Nat} (hw : w < 6) {t : Nat} (h1 : 7 ≤ t) (h2 : t < 7 * L) (ht : t % 7 = w) : lgd τ t + pag (τ (t + 1)) (w : Int) ≤ 1 + pag (τ t) (w : Int) := by
  have a := lgc_t h hw h1 h2 ht
  unfold lgd idq
  rw [if_pos (by omega), ht]
  by_cases c : 38 ≤ τ (t + 1) 62 (w : Int)
  · rw [if_pos c]; omega
  · rw [if_neg c]
    have z : pag (τ (t + 1)) (w : Int) = 0 := by unfold pag; exact if_neg c
    have g : gq τ t = 0 := by
      unfold gq
      rw [if_pos (by omega), ht]
      unfold fe
      exact if_neg (fun e => c e.1)
    have g2 := gsq_b τ t
    have l0 : lgc τ t = 0 := by unfold lgc ffq; omega
    omega
theorem ldw_b {L : Nat} {τ : Nat → qS} (h : RNN L τ) {w : Nat} (hw : w < 6) {r0 : Nat} (hr : 1 ≤ r0) : ∀ n, r0 + n < L → ldw τ w r0 n + pag (τ (7 * (r0 + n) + w)) (w : Int) ≤ n + pag (τ (7 * r0 + w)) (w : Int)
  | 0, _ => by simp [ldw]
  | n + 1, hn => by
    have ih := ldw_b h hw hr n (by omega)
    have a := lgd_t h hw (t := 7 * (r0 + n) + w) (by omega) (by omega) (by omega)
    have b := pag_k h hw (t := 7 * (r0 + n) + w) (by omega) (by omega)
    rw [show 7 * (r0 + (n + 1)) + w = 7 * (r0 + n) + w + 7 by omega]
    simp only [ldw]
    omega
theorem smq_d {L : Nat} {τ : Nat → qS} (h : RNN L τ) {r0 : Nat} (hr : 1 ≤ r0) : ∀ n, r0 + n < L → smq (lgd τ) (7 * r0) (7 * n) ≤ ldw τ 0 r0 n + ldw τ 1 r0 n + ldw τ 2 r0 n + ldw τ 3 r0 n + ldw τ 4 r0 n + ldw τ 5 r0 n
  | 0, _ => by simp [smq, ldw]
  | n + 1, hn => by
    have ih := smq_d h hr n (by omega)
    have k6 := q_6 τ (t := 7 * r0 + (7 * n + 6)) (by omega)
    have z6 : lgd τ (7 * r0 + (7 * n + 6)) = 0 := by
      have i0 : idq τ (7 * r0 + (7 * n + 6)) = 0 := by unfold idq; exact if_neg (by omega)
      unfold lgd lgc
      omega
    rw [show 7 * (n + 1) = 7 * n + 6 + 1 by omega]
    simp only [smq, ldw]
    rw [show 7 * r0 + (7 * n + 5) = 7 * (r0 + n) + 5 by omega, show 7 * r0 + (7 * n + 4) = 7 * (r0 + n) + 4 by omega, show 7 * r0 + (7 * n + 3) = 7 * (r0 + n) + 3 by omega, show 7 * r0 + (7 * n + 2) = 7 * (r0 + n) + 2 by omega, show 7 * r0 + (7 * n + 1) = 7 * (r0 + n) + 1 by omega, show 7 * r0 + 7 * n = 7 * (r0 + n) + 0 by omega]
    omega
theorem LEDG2 {L : Nat} {τ : Nat → qS} (h : RNN L τ) {r0 n : Nat} (hr : 1 ≤ r0) (hn : r0 + n < L) : smq (ffq τ) (7 * r0) (7 * n) + smq (gsq τ) (7 * r0) (7 * n) + smq (fun t => 13 * gtq τ t) (7 * r0) (7 * n) + smq (idq τ) (7 * r0) (7 * n) ≤ 6 * n + 72 := by
  have a := smq_d h hr n hn
  have c : ∀ w, w < 6 → ldw τ w r0 n ≤ n + 12 := fun w hw => by
    have b := ldw_b h hw hr n hn
    have p := pag_b h hw (t := 7 * r0 + w) (by omega)
    omega
  have c0 := c 0 (by omega)
  have c1 := c 1 (by omega)
  have c2 := c 2 (by omega)
  have c3 := c 3 (by omega)
  have c4 := c 4 (by omega)
  have c5 := c 5 (by omega)
  have e := smq_add (f := fun t => ffq τ t + gsq τ t) (g := fun t => 13 * gtq τ t) (s := 7 * r0) (7 * n)
  have e' := smq_add (f := ffq τ) (g := gsq τ) (s := 7 * r0) (7 * n)
  have e0 : smq (lgc τ) (7 * r0) (7 * n) = smq (fun t => ffq τ t + gsq τ t + 13 * gtq τ t) (7 * r0) (7 * n) := rfl
  have e1 := smq_add (f := lgc τ) (g := idq τ) (s := 7 * r0) (7 * n)
  have e2 : smq (lgd τ) (7 * r0) (7 * n) = smq (fun t => lgc τ t + idq τ t) (7 * r0) (7 * n) := rfl
  omega
theorem smq_13 {f : Nat → Nat} {s : Nat} : ∀ k, smq (fun t => 13 * f t) s k = 13 * smq f s k
  | 0 => rfl
  | k + 1 => by
    have ih := smq_13 (f := f) (s := s) k
    simp only [smq]
    omega
theorem LKR3 {L : Nat} {τ : Nat → qS} (h : RNN L τ) {a2 a5 a6 : Nat → Nat} (hr : RCq L τ a2 a5 a6) {r0 n : Nat} (h0 : 32 ≤ r0) (hn : r0 + n < L) {d : Nat → Nat} (hd : ∀ t, 7 * r0 ≤ t → t < 7 * r0 + 7 * n → d t ≤ 1) (hf : ∀ t, 7 * r0 ≤ t → t < 7 * r0 + 7 * n → d t = 1 → t % 7 < 6 ∧ 3 ≤ cn ((t % 7 : Nat) : Int) (ln (τ t))) : smq (fun t => 3 * d t) (7 * r0) (7 * n) + 11 * smq (gtq τ) (7 * r0) (7 * n) + smq (idq τ) (7 * r0) (7 * n) ≤ 6 * n + smq (gsq τ) (7 * r0) (7 * n) + smq (fun t => d t * ffq τ t) (7 * r0) (7 * n) + smq (fun t => d t * a2 t) (7 * r0) (7 * n) + 262 := by
  have a := TDR h hr (s := 7 * r0) (by omega) (k := 7 * n) (by omega) hd hf
  have b := LEDG2 h (r0 := r0) (n := n) (by omega) hn
  rw [smq_13] at b
  omega

