set_option maxRecDepth 100000
/-! the component: tokens -/
def st_str (a : Int) : List Int := am_str (am_si a)
theorem st_len_str (a : Int) : st_len a = ((st_str a).length : Int) := rfl
theorem st_at_str (a : Int) (i : Nat) : st_at a (i : Int) = (st_str a).getD i 0 := by unfold st_at st_str; rw [Int.toNat_natCast]
def tk_tx (b : Int → Int) (p m : Nat) : List Int := (List.range m).map (fun i => b ((p + i : Nat) : Int))
theorem tk_tx_len {b : Int → Int} {p m : Nat} : (tk_tx b p m).length = m := by unfold tk_tx; rw [List.length_map, List.length_range]
theorem tk_tx_get {b : Int → Int} {p m i : Nat} (h : i < m) : (tk_tx b p m).getD i 0 = b ((p + i : Nat) : Int) := by
  unfold tk_tx
  rw [List.getD_eq_getElem?_getD, List.getElem?_map, List.getElem?_range h]
  rfl
theorem l_eq_getD {A B : List Int} (hl : A.length = B.length) (h : ∀ i, i < A.length → A.getD i 0 = B.getD i 0) : A = B := by
  apply List.ext_getElem hl
  intro i h1 h2
  have := h i h1
  rw [List.getD_eq_getElem?_getD, List.getD_eq_getElem?_getD, List.getElem?_eq_getElem h1, List.getElem?_eq_getElem h2] at this
  exact this
/-- words that are taken -/
def tkn (w : List Int) : Prop := ∃ k : Nat, k + w.length + 1 < 204 ∧ (st_str (-12)).getD k 0 = 32 ∧ (st_str (-12)).getD (k + w.length + 1) 0 = 32 ∧ ∀ i, i < w.length → (st_str (-12)).getD (k + 1 + i) 0 = w.getD i 0
theorem st_12 : (st_str (-12)).length = 204 := by decide +kernel
theorem st_148 : st_str (-148) = st_str (-12) := by decide +kernel
def tkA (c : cs_S) (t : Int) : Prop := c_r c t = 1004 ∧ (c_v c 160 t 0 = t + 1 ∧ c_r c (t + 1) = 660 ∧ c_l c (t + 1) = 2000) ∧ (c_v c 162 t 0 = t + 2 ∧ c_r c (t + 2) = 662 ∧ c_l c (t + 2) = 2001) ∧ (c_v c 163 t 0 = t + 3 ∧ c_r c (t + 3) = 663 ∧ c_l c (t + 3) = 2001) ∧ (c_v c 164 t 0 = t + 4 ∧ c_r c (t + 4) = 664 ∧ c_l c (t + 4) = 2001) ∧ (c_v c 165 t 0 = t + 5 ∧ c_r c (t + 5) = 665 ∧ c_l c (t + 5) = 2001) ∧ (c_v c 166 t 0 = t + 6 ∧ c_r c (t + 6) = 666 ∧ c_l c (t + 6) = 2001)
def tkB (c : cs_S) (t : Int) (b : Int → Int) (n : Nat) : Prop := tkA c t ∧ c_v c 161 t 0 = n ∧ n ≤ 2000 ∧ (∀ i : Nat, i < n → c_v c 660 (t + 1) i = b i) ∧ ∀ i : Nat, i < n → -128 ≤ b i ∧ b i ≤ 127
/-- what is written while tokens are told apart -/
def tw (t : Int) (q : Nat) (a : Int) : Prop := (q = 662 ∧ a = t + 2) ∨ (q = 663 ∧ a = t + 3) ∨ (q = 664 ∧ a = t + 4) ∨ (q = 665 ∧ a = t + 5) ∨ (q = 666 ∧ a = t + 6)
def tw2 (t : Int) (q : Nat) (a : Int) : Prop := tw t q a ∨ (q = 660 ∧ a = t + 1) ∨ (q = 161 ∧ a = t)
section
variable {c c' : cs_S} {t : Int} {b : Int → Int} {d n p k m : Nat} {Q : Int → cs_S → Prop} {x : Int} {W : Nat → Int → Prop}
theorem k_let (h1 : lx_L x → Q 1 c) (h0 : ¬ lx_L x → Q 0 c) : ktok_isLetter d x c Q := by
  unfold lx_L at h1 h0
  exact u106_e ⟨fun _ => u106_1 (u106_2 (h0 (by omega))), fun _ => ⟨fun _ => u106_1 (u106_2 (h0 (by omega))), fun _ => u106_2 (h1 (by omega))⟩⟩
theorem k_dig (h1 : lx_D x → Q 1 c) (h0 : ¬ lx_D x → Q 0 c) : ktok_isDigit d x c Q := by
  unfold lx_D at h1 h0
  exact u107_e ⟨fun _ => u107_1 (u107_2 (h0 (by omega))), fun _ => ⟨fun _ => u107_1 (u107_2 (h0 (by omega))), fun _ => u107_2 (h1 (by omega))⟩⟩
theorem tkA.sm (h : tkA c t) (s : c_sm W c c') (hw : ∀ q a, W q a → q ≠ 160 ∧ q ≠ 162 ∧ q ≠ 163 ∧ q ≠ 164 ∧ q ≠ 165 ∧ q ≠ 166) : tkA c' t := by
  obtain ⟨h0, ⟨a1, a2, a3⟩, ⟨b1, b2, b3⟩, ⟨d1, d2, d3⟩, ⟨e1, e2, e3⟩, ⟨f1, f2, f3⟩, ⟨g1, g2, g3⟩⟩ := h
  refine ⟨by rw [s.r]; exact h0, ⟨?_, by rw [s.r]; exact a2, by rw [s.l]; exact a3⟩, ⟨?_, by rw [s.r]; exact b2, by rw [s.l]; exact b3⟩, ⟨?_, by rw [s.r]; exact d2, by rw [s.l]; exact d3⟩, ⟨?_, by rw [s.r]; exact e2, by rw [s.l]; exact e3⟩, ⟨?_, by rw [s.r]; exact f2, by rw [s.l]; exact f3⟩, ⟨?_, by rw [s.r]; exact g2, by rw [s.l]; exact g3⟩⟩
  · rw [s.v (fun w => (hw _ _ w).1 rfl)]; exact a1
  · rw [s.v (fun w => (hw _ _ w).2.1 rfl)]; exact b1
  · rw [s.v (fun w => (hw _ _ w).2.2.1 rfl)]; exact d1
  · rw [s.v (fun w => (hw _ _ w).2.2.2.1 rfl)]; exact e1
  · rw [s.v (fun w => (hw _ _ w).2.2.2.2.1 rfl)]; exact f1
  · rw [s.v (fun w => (hw _ _ w).2.2.2.2.2 rfl)]; exact g1
theorem tkB.sm (h : tkB c t b n) (s : c_sm W c c') (hw : ∀ q a, W q a → q ≠ 160 ∧ q ≠ 162 ∧ q ≠ 163 ∧ q ≠ 164 ∧ q ≠ 165 ∧ q ≠ 166 ∧ q ≠ 161 ∧ q ≠ 660) : tkB c' t b n := by
  obtain ⟨h0, h1, h2, h3, h4⟩ := h
  refine ⟨h0.sm s (fun q a w => by have := hw q a w; omega), by rw [s.v (fun w => (hw _ _ w).2.2.2.2.2.2.1 rfl)]; exact h1, h2, fun i hi => by rw [s.v (fun w => (hw _ _ w).2.2.2.2.2.2.2 rfl)]; exact h3 i hi, h4⟩
theorem tw_no (q : Nat) (a : Int) (h : tw t q a) : q ≠ 160 ∧ q ≠ 162 ∧ q ≠ 163 ∧ q ≠ 164 ∧ q ≠ 165 ∧ q ≠ 166 ∧ q ≠ 161 ∧ q ≠ 660 := by unfold tw at h; omega
theorem k_peek (h : tkB c t b n) (h1 : p < n → Q (b p) c) (h0 : n ≤ p → Q (-1) c) : ktok_peek d t p c Q := by
  obtain ⟨⟨r0, ⟨a1, a2, a3⟩, -⟩, hs, h2, hb, hr⟩ := h
  refine u105_e ⟨r0, fun c1 => u105_2 (h0 (by omega)), fun c1 => ⟨r0, ?_⟩⟩
  rw [a1, a2, a3]
  have hp : p < n := by omega
  refine ⟨rfl, by omega, by omega, u105_2 ?_⟩
  rw [hb p hp]
  exact h1 hp
theorem k_isTaken (h : tkB c t b n) (hp : p + m ≤ n) (hm : m ≤ 12) (h1 : tkn (tk_tx b p m) → Q 1 c) (h0 : ¬ tkn (tk_tx b p m) → Q 0 c) : ktok_isTaken (d + 1) t p m c Q := by
  obtain ⟨⟨r0, ⟨a1, a2, a3⟩, -⟩, hs, h2, hb, hr⟩ := h
  have hst : st_is (-12) := by unfold st_is; omega
  have hlen : st_len (-12) = 204 := by rw [st_len_str, st_12]; rfl
  refine u108_e ?_
  have main : ∀ (r k : Nat) (x4 x5 : Int), k + r = 204 → 1 ≤ k → (∀ j : Nat, 1 ≤ j → j < k → ¬ (j + m < 204 ∧ (st_str (-12)).getD (j - 1) 0 = 32 ∧ (st_str (-12)).getD (j + m) 0 = 32 ∧ ∀ i, i < m → (st_str (-12)).getD (j + i) 0 = b ((p + i : Nat) : Int))) → cw (d + 1) 108 (am_blk 108 1) [t, p, m, k, x4, x5] [] c Q := by
    intro r
    induction r with
    | zero =>
      intro k x4 x5 hk hk1 hno
      refine u108_1 ⟨hst, fun _ => h0 ?_, fun c1 => absurd (by rw [hlen, am_w_in (by omega) (by omega)]; omega) c1⟩
      rintro ⟨j, j1, j2, j3, j4⟩
      rw [tk_tx_len] at j1 j3 j4
      refine hno (j + 1) (by omega) (by omega) ⟨by omega, by rw [Nat.add_sub_cancel]; exact j2, by rw [show j + 1 + m = j + m + 1 by omega]; exact j3, fun i hi => ?_⟩
      rw [j4 i hi, tk_tx_get hi]
    | succ r ih =>
      intro k x4 x5 hk hk1 hno
      have ewk : am_w ((k : Int) + m) = ((k + m : Nat) : Int) := by rw [am_w_in (by omega) (by omega)]; omega
      have ewk1 : am_w ((k : Int) - 1) = ((k - 1 : Nat) : Int) := by rw [am_w_in (by omega) (by omega)]; omega
      by_cases cend : 204 ≤ k + m
      · refine u108_1 ⟨hst, fun _ => h0 ?_, fun c1 => absurd (by rw [hlen, ewk]; omega) c1⟩
        rintro ⟨j, j1, j2, j3, j4⟩
        rw [tk_tx_len] at j1 j3 j4
        refine hno (j + 1) (by omega) (by omega) ⟨by omega, by rw [Nat.add_sub_cancel]; exact j2, by rw [show j + 1 + m = j + m + 1 by omega]; exact j3, fun i hi => ?_⟩
        rw [j4 i hi, tk_tx_get hi]
      have next : ∀ (x5 : Int), ¬ (k + m < 204 ∧ (st_str (-12)).getD (k - 1) 0 = 32 ∧ (st_str (-12)).getD (k + m) 0 = 32 ∧ ∀ i, i < m → (st_str (-12)).getD (k + i) 0 = b ((p + i : Nat) : Int)) → cw (d + 1) 108 (am_blk 108 7) [t, p, m, k, 0, x5] [] c Q := by
        intro x5 hn
        refine u108_7 ⟨fun _ => ?_, fun c1 => absurd rfl c1⟩
        rw [am_w_s (by omega)]
        refine ih (k + 1) _ _ (by omega) (by omega) (fun j hj1 hj2 => ?_)
        by_cases cj : j = k
        · rw [cj]; exact hn
        · exact hno j hj1 (by omega)
      have nob : ¬ (k + m < 204 ∧ (st_str (-12)).getD (k - 1) 0 = 32 ∧ (st_str (-12)).getD (k + m) 0 = 32 ∧ ∀ i, i < m → (st_str (-12)).getD (k + i) 0 = b ((p + i : Nat) : Int)) → cw (d + 1) 108 (am_blk 108 2) [t, p, m, k, x4, x5] [] c Q := by
        intro hn
        refine u108_2 (u108_3 (u108_4 ⟨fun _ => next _ hn, fun _ => ⟨fun _ => next _ hn, fun c1 => absurd rfl c1⟩⟩))
      refine u108_1 ⟨hst, fun c1 => absurd c1 (by rw [hlen, ewk]; omega), fun _ => ⟨hst, by rw [ewk1]; omega, by rw [ewk1, hlen]; omega, ?_⟩⟩
      rw [ewk1, st_at_str]
      refine ⟨fun c1 => nob (fun h => c1 h.2.1), fun c1 => ⟨hst, by rw [ewk]; omega, by rw [ewk, hlen]; omega, ?_⟩⟩
      rw [ewk, st_at_str]
      refine ⟨fun c2 => nob (fun h => c2 h.2.2.1), fun c2 => u108_3 ?_⟩
      have q1 := Classical.not_not.mp c1
      have q2 := Classical.not_not.mp c2
      have inner : ∀ (r i : Nat), i + r = m → (∀ i', i' < i → (st_str (-12)).getD (k + i') 0 = b ((p + i' : Nat) : Int)) → cw (d + 1) 108 (am_blk 108 4) [t, p, m, k, 1, i] [] c Q := by
        intro r
        induction r with
        | zero =>
          intro i hi hall
          refine u108_4 ⟨fun _ => u108_7 ⟨fun c3 => absurd c3 (by omega), fun _ => h1 ?_⟩, fun c3 => absurd (by omega) c3⟩
          refine ⟨k - 1, by rw [tk_tx_len]; omega, q1, by rw [tk_tx_len, show k - 1 + m + 1 = k + m by omega]; exact q2, fun i' hi' => ?_⟩
          rw [tk_tx_len] at hi'
          rw [tk_tx_get hi', show k - 1 + 1 + i' = k + i' by omega]
          exact hall i' (by omega)
        | succ r ihr =>
          intro i hi hall
          have ew1 : am_w ((k : Int) + i) = ((k + i : Nat) : Int) := by rw [am_w_in (by omega) (by omega)]; omega
          have ew2 : am_w ((p : Int) + i) = ((p + i : Nat) : Int) := by rw [am_w_in (by omega) (by omega)]; omega
          refine u108_4 ⟨fun c3 => absurd c3 (by omega), fun _ => ⟨fun c3 => absurd c3 (by omega), fun _ => ⟨hst, by rw [ew1]; omega, by rw [ew1, hlen]; omega, r0, ?_⟩⟩⟩
          rw [a1, a2, a3, ew1, ew2, hb (p + i) (by omega), st_at_str]
          refine ⟨rfl, by omega, by omega, fun c3 => u108_6 ?_, fun c3 => u108_6 ?_⟩
          · rw [am_w_s (by omega)]
            refine u108_4 ⟨fun _ => next _ (fun h => c3 (h.2.2.2 i (by omega))), fun _ => ⟨fun _ => next _ (fun h => c3 (h.2.2.2 i (by omega))), fun c4 => absurd rfl c4⟩⟩
          · rw [am_w_s (by omega)]
            refine ihr (i + 1) (by omega) (fun i' hi' => ?_)
            by_cases ci : i' = i
            · rw [ci]; exact Classical.not_not.mp c3
            · exact hall i' (by omega)
      exact inner m 0 (by omega) (fun i' hi' => absurd hi' (by omega))
  exact main 203 1 _ _ (by omega) (by omega) (fun j h1 h2 => absurd h2 (by omega))
/-- kinds of tokens -/
def tk_kd (s : Int) : Int := if s = 0 then 0 else if s = 1 then 1 else if s = 2 then 2 else if s = 3 then 4 else 3
def tkR (c : cs_S) (t : Int) (b : Int → Int) (n k : Nat) (p : Nat) : Prop := c_v c 662 (t + 2) k = tk_kd (lx_tok b n p).1 ∧ c_v c 663 (t + 3) k = p ∧ c_v c 664 (t + 4) k = (lx_tok b n p).2.1 ∧ ((lx_tok b n p).1 = 2 → c_v c 665 (t + 5) k = (lx_tok b n p).2.2) ∧ ((lx_tok b n p).1 = 1 → (c_v c 666 (t + 6) k = 0 ∨ c_v c 666 (t + 6) k = 1) ∧ (c_v c 666 (t + 6) k = 0 ↔ ¬ tkn (tk_tx b p ((lx_tok b n p).2.1 - p))))
/-- nothing but the k-th changes -/
def tkX (k : Nat) (c c' : cs_S) : Prop := ∀ (q : Nat) (a j : Int), j ≠ (k : Int) → c_v c' q a j = c_v c q a j
theorem tkX.rf (c : cs_S) : tkX k c c := fun _ _ _ _ => rfl
theorem tkX.tr {c2 : cs_S} (h1 : tkX k c c') (h2 : tkX k c' c2) : tkX k c c2 := fun q a j h => (h2 q a j h).trans (h1 q a j h)
theorem tkX.u (q : Nat) (a v : Int) : tkX k c (c_u c q a k v) := fun _ _ _ h => c_u_j h _ _ _
theorem st_idx_S {y : Int} (h0 : 0 < y) (h1 : y ≤ 127) : (¬ st_idx (-10) y < 0) ↔ lx_S y := by
  have : ∀ z : Fin 128, (¬ st_idx (-10) (z.val : Int) < 0) ↔ lx_S (z.val : Int) := by decide +kernel
  have := this ⟨y.toNat, by omega⟩
  simp only [Int.toNat_of_nonneg (show 0 ≤ y by omega)] at this
  exact this
theorem am_i2c_b (h : ∀ y : Int, -128 ≤ y → y ≤ 127 → 0 ≤ am_i2c y ∧ am_i2c y ≤ 65535 ∧ (0 ≤ y → am_i2c y = y)) : True := trivial
theorem am_i2c_r {y : Int} (h0 : -128 ≤ y) (h1 : y ≤ 127) : 0 ≤ am_i2c y ∧ am_i2c y ≤ 65535 ∧ (0 ≤ y → am_i2c y = y) := by
  have : ∀ z : Fin 256, 0 ≤ am_i2c ((z.val : Int) - 128) ∧ am_i2c ((z.val : Int) - 128) ≤ 65535 ∧ (0 ≤ (z.val : Int) - 128 → am_i2c ((z.val : Int) - 128) = (z.val : Int) - 128) := by decide +kernel
  have := this ⟨(y + 128).toNat, by omega⟩
  have e : (((y + 128).toNat : Nat) : Int) - 128 = y := by omega
  simp only [e] at this
  exact this
theorem k_one (h : tkB c t b n) (hp : p ≤ n) (hk : k ≤ 2000) (kk : ∀ c', c_sm (tw t) c c' → tkX k c c' → tkR c' t b n k p → Q ((lx_tok b n p).2.1) c') : ktok_one (d + 2) t k p c Q := by
  have hA := h.1
  obtain ⟨r0, ⟨a1, a2, a3⟩, ⟨b1, b2, b3⟩, ⟨d1, d2, d3⟩, ⟨e1, e2, e3⟩, ⟨f1, f2, f3⟩, ⟨g1, g2, g3⟩⟩ := id hA
  have h2 := h.2.2.1
  have hbr := h.2.2.2.2
  have sh : ∀ {c1 : cs_S}, c_sm (tw t) c c1 → tkB c1 t b n := fun s => h.sm s (fun q a w => tw_no q a w)
  -- the end of the act
  have b23 : ∀ (c1 : cs_S) (x4 x5 x6 x7 x8 : Int), c_sm (tw t) c c1 → tkX k c c1 → tkR c1 t b n k p → cw (d + 2) 104 (am_blk 104 23) [t, k, p, (lx_tok b n p).2.1, x4, x5, x6, x7, x8] [] c1 Q := fun c1 x4 x5 x6 x7 x8 s X R => u104_23 (kk c1 s X R)
  have b22 : ∀ (c1 : cs_S) (x4 x5 x6 x7 x8 : Int), c_sm (tw t) c c1 → tkX k c c1 → c_v c1 662 (t + 2) k = tk_kd (lx_tok b n p).1 → c_v c1 663 (t + 3) k = p → ((lx_tok b n p).1 = 2 → c_v c1 665 (t + 5) k = (lx_tok b n p).2.2) → ((lx_tok b n p).1 = 1 → p + ((lx_tok b n p).2.1 - p) = (lx_tok b n p).2.1 ∧ (lx_tok b n p).2.1 ≤ n ∧ (lx_tok b n p).2.1 - p ≤ 12) → (lx_tok b n p).2.1 ≤ n → p ≤ (lx_tok b n p).2.1 → cw (d + 2) 104 (am_blk 104 22) [t, k, p, (lx_tok b n p).2.1, x4, x5, x6, x7, x8] [] c1 Q := by
    intro c1 x4 x5 x6 x7 x8 s X h662 h663 h665 hw hen hpe
    obtain ⟨R0, ⟨A1, A2, A3⟩, ⟨B1, B2, B3⟩, ⟨D1, D2, D3⟩, ⟨E1, E2, E3⟩, ⟨F1, F2, F3⟩, ⟨G1, G2, G3⟩⟩ := (sh s).1
    refine u104_22 ⟨R0, ?_⟩
    rw [E1, E2, E3]
    refine ⟨rfl, by omega, by omega, fun c2 ec2 => ?_⟩
    have s2 : c_sm (tw t) c c2 := s.tr (by rw [ec2]; exact c_sm.u c1 (by unfold tw; omega) _ _)
    have X2 : tkX k c c2 := X.tr (by rw [ec2]; exact tkX.u _ _ _)
    obtain ⟨R0', ⟨A1', A2', A3'⟩, ⟨B1', B2', B3'⟩, ⟨D1', D2', D3'⟩, ⟨E1', E2', E3'⟩, ⟨F1', F2', F3'⟩, ⟨G1', G2', G3'⟩⟩ := (sh s2).1
    have k2 : c_v c2 662 (t + 2) k = tk_kd (lx_tok b n p).1 := by rw [ec2, c_u_q (by omega)]; exact h662
    have fr2 : c_v c2 663 (t + 3) k = p := by rw [ec2, c_u_q (by omega)]; exact h663
    have to2 : c_v c2 664 (t + 4) k = (lx_tok b n p).2.1 := by rw [ec2, c_u_eq]
    have nu2 : (lx_tok b n p).1 = 2 → c_v c2 665 (t + 5) k = (lx_tok b n p).2.2 := fun e => by rw [ec2, c_u_q (by omega)]; exact h665 e
    refine ⟨R0', ?_⟩
    rw [B1', B2', B3', k2]
    refine ⟨rfl, by omega, by omega, fun c1' => b23 c2 _ _ _ _ _ s2 X2 ⟨k2, fr2, to2, nu2, fun e => absurd (by rw [e]; rfl) c1'⟩, fun c1' => ?_⟩
    have hs1 : (lx_tok b n p).1 = 1 := by
      have := Classical.not_not.mp c1'
      unfold tk_kd at this
      split at this
      · omega
      · split at this
        · assumption
        · split at this
          · omega
          · split at this <;> omega
    obtain ⟨hw1, hw2, hw3⟩ := hw hs1
    refine ⟨R0', R0', ?_⟩
    rw [show am_w (((lx_tok b n p).2.1 : Int) - (p : Int)) = (((lx_tok b n p).2.1 - p : Nat) : Int) by rw [am_w_in (by omega) (by omega)]; omega]
    have fin : ∀ z : Int, (z = 0 ∨ z = 1) → (z = 0 ↔ ¬ tkn (tk_tx b p ((lx_tok b n p).2.1 - p))) → c_r c2 (c_v c2 166 t 0) = 666 ∧ 0 ≤ (k : Int) ∧ (k : Int) < c_l c2 (c_v c2 166 t 0) ∧ ∀ c3, c3 = c_u c2 666 (c_v c2 166 t 0) k (am_i2b z) → cw (d + 2) 104 (am_blk 104 23) [t, k, p, (lx_tok b n p).2.1, x4, x5, x6, x7, x8] [] c3 Q := by
      intro z hz hzt
      rw [G1', G2', G3']
      refine ⟨rfl, by omega, by omega, fun c3 ec3 => ?_⟩
      rw [am_i2bz hz] at ec3
      refine b23 c3 _ _ _ _ _ (s2.tr (by rw [ec3]; exact c_sm.u c2 (by unfold tw; omega) _ _)) (X2.tr (by rw [ec3]; exact tkX.u _ _ _)) ⟨by rw [ec3, c_u_q (by omega)]; exact k2, by rw [ec3, c_u_q (by omega)]; exact fr2, by rw [ec3, c_u_q (by omega)]; exact to2, fun e => by rw [ec3, c_u_q (by omega)]; exact nu2 e, fun _ => ?_⟩
      rw [ec3, c_u_eq]
      exact ⟨hz, hzt⟩
    refine k_isTaken (sh s2) (by omega) hw3 (fun ht => fin 1 (Or.inr rfl) ⟨fun q => absurd q (by omega), fun q => absurd ht q⟩) (fun ht => fin 0 (Or.inl rfl) ⟨fun _ => ht, fun _ => rfl⟩)
  refine u104_e ⟨r0, ?_⟩
  rw [d1, d2, d3]
  refine ⟨rfl, by omega, by omega, fun c1 ec1 => ?_⟩
  have s1 : c_sm (tw t) c c1 := by rw [ec1]; exact c_sm.u c (by unfold tw; omega) _ _
  have X1 : tkX k c c1 := by rw [ec1]; exact tkX.u _ _ _
  have hB1 := sh s1
  have from1 : c_v c1 663 (t + 3) k = p := by rw [ec1, c_u_eq]
  obtain ⟨R0, ⟨A1, A2, A3⟩, ⟨B1, B2, B3⟩, ⟨D1, D2, D3⟩, ⟨E1, E2, E3⟩, ⟨F1, F2, F3⟩, ⟨G1, G2, G3⟩⟩ := hB1.1
  have sz1 := hB1.2.1
  -- where the kind is written
  have kd : ∀ (q : Nat) (c2 : cs_S) (e : Nat) (z : Int) (x4 x5 x6 x7 x8 : Int), (q = 6 ∨ q = 16) → c_sm (tw t) c c2 → tkX k c c2 → c_v c2 663 (t + 3) k = p → (lx_tok b n p).2.1 = e → tk_kd (lx_tok b n p).1 = z → ((lx_tok b n p).1 = 2 → c_v c2 665 (t + 5) k = (lx_tok b n p).2.2) → ((lx_tok b n p).1 = 1 → e - p ≤ 12) → e ≤ n → p ≤ e → (cw (d + 2) 104 (am_blk 104 6) [t, k, p, e, x4, x5, x6, x7, x8] [z, k, t + 2] c2 Q ∧ cw (d + 2) 104 (am_blk 104 16) [t, k, p, e, x4, x5, x6, x7, x8] [z, k, t + 2] c2 Q) := by
    intro q c2 e z x4 x5 x6 x7 x8 hq s2 X2 fr2 he hz hnu hw hen hpe
    obtain ⟨R0', ⟨A1', A2', A3'⟩, ⟨B1', B2', B3'⟩, -⟩ := (sh s2).1
    have fin : ∀ c3, c3 = c_u c2 662 (t + 2) k z → cw (d + 2) 104 (am_blk 104 22) [t, k, p, e, x4, x5, x6, x7, x8] [] c3 Q := by
      intro c3 ec3
      rw [← he]
      exact b22 c3 _ _ _ _ _ (s2.tr (by rw [ec3]; exact c_sm.u c2 (by unfold tw; omega) _ _)) (X2.tr (by rw [ec3]; exact tkX.u _ _ _)) (by rw [ec3, c_u_eq, hz]) (by rw [ec3, c_u_q (by omega)]; exact fr2) (fun e2 => by rw [ec3, c_u_q (by omega)]; exact hnu e2) (fun e1 => ⟨by omega, by omega, by rw [he]; exact hw e1⟩) (by omega) (by omega)
    exact ⟨u104_6 ⟨B2', by omega, by rw [B3']; omega, fin⟩, u104_16 ⟨B2', by omega, by rw [B3']; omega, fin⟩⟩
  have fin0 : n ≤ p → Q = Q → c_r c1 t = 1004 ∧ c_r c1 (c_v c1 162 t 0) = 662 ∧ 0 ≤ (k : Int) ∧ (k : Int) < c_l c1 (c_v c1 162 t 0) ∧ ∀ c5, c5 = c_u c1 662 (c_v c1 162 t 0) k 0 → cw (d + 2) 104 (am_blk 104 22) [t, k, p, p, -1, 0, 0, 0, 0] [] c5 Q := by
    intro hnp _
    have etok := lx_tok_end (b := b) hnp
    rw [B1, B2, B3]
    refine ⟨R0, rfl, by omega, by omega, fun c5 ec5 => ?_⟩
    have e2 : (lx_tok b n p).2.1 = p := by rw [etok]
    have e1 : (lx_tok b n p).1 = 0 := by rw [etok]
    have := b22 c5 (-1) 0 0 0 0 (s1.tr (by rw [ec5]; exact c_sm.u c1 (by unfold tw; omega) _ _)) (X1.tr (by rw [ec5]; exact tkX.u _ _ _)) (by rw [ec5, c_u_eq, e1]; rfl) (by rw [ec5, c_u_q (by omega)]; exact from1) (fun q => by omega) (fun q => by omega) (by omega) (by omega)
    rw [e2] at this
    exact this
  refine ⟨R0, k_peek hB1 (fun hpn => ?_) (fun hnp => ⟨R0, fun c1' => absurd (by omega) c1', fun _ => fin0 hnp rfl⟩)⟩
  refine ⟨R0, fun _ => ?_, fun c1' => absurd (by omega) c1'⟩
  refine k_let (fun hl => ⟨fun c1' => absurd c1' (by omega), fun _ => ?_⟩) (fun hl => ⟨fun _ => ?_, fun c1' => absurd rfl c1'⟩)
  · -- a word
    have etok := lx_tok_w (b := b) hpn hl
    have ee : (lx_tok b n p).2.1 = lx_end b n lx_W p := by rw [etok]
    have es : (lx_tok b n p).1 = if 12 < lx_end b n lx_W p - p then 3 else 1 := by rw [etok]
    have loop : ∀ (r e : Nat) (x5 x6 x7 x8 : Int), r = n - e → p ≤ e → e ≤ n → lx_end b n lx_W e = lx_end b n lx_W p → cw (d + 2) 104 (am_blk 104 2) [t, k, p, e, b p, x5, x6, x7, x8] [] c1 Q := by
      intro r
      induction r with
      | zero =>
        intro e x5 x6 x7 x8 hr hpe hen hee
        have hno : ¬ (e < n ∧ lx_W (b e)) := by omega
        rw [lx_end_no hno] at hee
        refine u104_2 ⟨R0, k_peek hB1 (fun q => absurd q (by omega)) (fun _ => k_let (fun q => absurd q (by unfold lx_L; omega)) (fun _ => ⟨fun q => absurd rfl q, fun _ => ⟨R0, k_peek hB1 (fun q => absurd q (by omega)) (fun _ => k_dig (fun q => absurd q (by unfold lx_D; omega)) (fun _ => ⟨fun _ => ⟨R0, ?_⟩, fun q => absurd rfl q⟩))⟩⟩))⟩
        rw [am_w_in (by omega) (by omega), B1]
        refine ⟨fun q => (kd 6 c1 e 4 _ _ _ _ _ (Or.inl rfl) s1 X1 from1 (by omega) (by rw [es, if_pos (by omega)]; rfl) (fun q2 => ?_) (fun q2 => ?_) hen hpe).1, fun q => (kd 6 c1 e 1 _ _ _ _ _ (Or.inl rfl) s1 X1 from1 (by omega) (by rw [es, if_neg (by omega)]; rfl) (fun q2 => ?_) (fun q2 => by omega) hen hpe).1⟩
        · rw [es, if_pos (by omega)] at q2; omega
        · rw [es, if_pos (by omega)] at q2; omega
        · rw [es, if_neg (by omega)] at q2; omega
      | succ r ihr =>
        intro e x5 x6 x7 x8 hr hpe hen hee
        have hen1 : e < n := by omega
        have nx : lx_W (b e) → cw (d + 2) 104 (am_blk 104 3) [t, k, p, e, b p, x5, x6, x7, x8] [] c1 Q := by
          intro hw
          refine u104_3 ?_
          rw [am_w_s (by omega)]
          exact ihr (e + 1) _ _ _ _ (by omega) (by omega) (by omega) (by rw [← hee, lx_end_go hen1 hw])
        refine u104_2 ⟨R0, k_peek hB1 (fun _ => k_let (fun hl1 => ⟨fun _ => nx (Or.inl hl1), fun q => absurd (by omega : (1 : Int) ≠ 0) q⟩) (fun hl1 => ⟨fun q => absurd rfl q, fun _ => ⟨R0, k_peek hB1 (fun _ => k_dig (fun hd1 => ⟨fun q => absurd q (by omega), fun _ => nx (Or.inr hd1)⟩) (fun hd1 => ⟨fun _ => ⟨R0, ?_⟩, fun q => absurd rfl q⟩)) (fun q => absurd q (by omega))⟩⟩)) (fun q => absurd q (by omega))⟩
        have hno : ¬ (e < n ∧ lx_W (b e)) := fun h => by rcases h.2 with q | q; exact hl1 q; exact hd1 q
        rw [lx_end_no hno] at hee
        rw [am_w_in (by omega) (by omega), B1]
        refine ⟨fun q => (kd 6 c1 e 4 _ _ _ _ _ (Or.inl rfl) s1 X1 from1 (by omega) (by rw [es, if_pos (by omega)]; rfl) (fun q2 => ?_) (fun q2 => ?_) hen hpe).1, fun q => (kd 6 c1 e 1 _ _ _ _ _ (Or.inl rfl) s1 X1 from1 (by omega) (by rw [es, if_neg (by omega)]; rfl) (fun q2 => ?_) (fun q2 => by omega) hen hpe).1⟩
        · rw [es, if_pos (by omega)] at q2; omega
        · rw [es, if_pos (by omega)] at q2; omega
        · rw [es, if_neg (by omega)] at q2; omega
    exact loop (n - p) p _ _ _ _ rfl (Nat.le_refl p) hp rfl
  · refine k_dig (fun hd => ⟨fun c1' => absurd c1' (by omega), fun _ => ?_⟩) (fun hd => ⟨fun _ => ?_, fun c1' => absurd rfl c1'⟩)
    · -- a number
      have etok := lx_tok_n (b := b) hpn hd
      have ee : (lx_tok b n p).2.1 = lx_end b n lx_D p := by rw [etok]
      have es : (lx_tok b n p).1 = if (lx_nm b n p true 0).1 = false ∨ (lx_end b n lx_D p < n ∧ lx_L (b (lx_end b n lx_D p))) then 3 else 2 := by rw [etok]
      have ev : (lx_tok b n p).2.2 = (lx_nm b n p true 0).2 := by rw [etok]
      have fin : ∀ (e : Nat) (g : Bool) (v : Int) (x5 x7 x8 : Int), e = lx_end b n lx_D p → e ≤ n → p ≤ e → lx_nm b n p true 0 = (g, v) → x5 = (if g = true then 1 else 0) → c_r c1 t = 1004 ∧ c_r c1 (c_v c1 165 t 0) = 665 ∧ 0 ≤ (k : Int) ∧ (k : Int) < c_l c1 (c_v c1 165 t 0) ∧ ∀ c3, c3 = c_u c1 665 (c_v c1 165 t 0) k v → c_r c3 t = 1004 ∧ (x5 = 0 → cw (d + 2) 104 (am_blk 104 15) [t, k, p, e, b p, x5, v, x7, x8] [(k : Int), (c_v c3 162 t 0)] c3 Q) ∧ (¬ (x5 = 0) → c_r c3 t = 1004 ∧ ktok_peek (d + 1) t e c3 (fun v3 c4 => ktok_isLetter (d + 1) v3 c4 (fun v4 c5 => (v4 ≠ 0 → cw (d + 2) 104 (am_blk 104 15) [t, k, p, e, b p, x5, v, x7, x8] [(k : Int), (c_v c3 162 t 0)] c5 Q) ∧ (¬ (v4 ≠ 0) → cw (d + 2) 104 (am_blk 104 16) [t, k, p, e, b p, x5, v, x7, x8] [2, (k : Int), (c_v c3 162 t 0)] c5 Q)))) := by
        intro e g v x5 x7 x8 he hen hpe hnm hx5
        rw [F1, F2, F3]
        refine ⟨R0, rfl, by omega, by omega, fun c3 ec3 => ?_⟩
        have s3 : c_sm (tw t) c c3 := s1.tr (by rw [ec3]; exact c_sm.u c1 (by unfold tw; omega) _ _)
        have X3 : tkX k c c3 := X1.tr (by rw [ec3]; exact tkX.u _ _ _)
        have hB3 := sh s3
        obtain ⟨R3, ⟨A1', A2', A3'⟩, ⟨B1', B2', B3'⟩, -⟩ := hB3.1
        have fr3 : c_v c3 663 (t + 3) k = p := by rw [ec3, c_u_q (by omega)]; exact from1
        have nu3 : c_v c3 665 (t + 5) k = (lx_tok b n p).2.2 := by rw [ec3, c_u_eq, ev, hnm]
        rw [hnm, ← he] at es
        have go : ∀ z : Int, tk_kd (lx_tok b n p).1 = z → (lx_tok b n p).1 ≠ 1 → cw (d + 2) 104 (am_blk 104 16) [t, k, p, e, b p, x5, v, x7, x8] [z, (k : Int), t + 2] c3 Q := fun z hz hz1 => (kd 16 c3 e z _ _ _ _ _ (Or.inr rfl) s3 X3 fr3 (by omega) hz (fun _ => nu3) (fun q => absurd q hz1) hen hpe).2
        rw [B1']
        cases g with
        | false =>
          rw [if_pos (Or.inl rfl)] at es
          exact ⟨R3, fun _ => u104_15 (go 4 (by rw [es]; rfl) (by omega)), fun q => absurd hx5 q⟩
        | true =>
          refine ⟨R3, fun q => absurd (hx5.symm.trans q) (by decide), fun _ => ⟨R3, k_peek hB3 (fun q => k_let (fun hl1 => ⟨fun _ => ?_, fun q => absurd (by omega : (1 : Int) ≠ 0) q⟩) (fun hl1 => ⟨fun q => absurd rfl q, fun _ => ?_⟩)) (fun q => k_let (fun hl1 => absurd hl1 (by unfold lx_L; omega)) (fun hl1 => ⟨fun q => absurd rfl q, fun _ => ?_⟩))⟩⟩
          · rw [if_pos (Or.inr ⟨q, hl1⟩)] at es
            exact u104_15 (go 4 (by rw [es]; rfl) (by omega))
          · rw [if_neg (fun h => by rcases h with h | h; cases h; exact hl1 h.2)] at es
            exact go 2 (by rw [es]; rfl) (by omega)
          · rw [if_neg (fun h => by rcases h with h | h; cases h; omega)] at es
            exact go 2 (by rw [es]; rfl) (by omega)
      have loop : ∀ (r e : Nat) (g : Bool) (v : Int) (x5 x7 x8 : Int), r = n - e → p ≤ e → e ≤ n → lx_end b n lx_D e = lx_end b n lx_D p → lx_nm b n e g v = lx_nm b n p true 0 → 0 ≤ v → v ≤ 9223372036854775807 → x5 = (if g = true then 1 else 0) → cw (d + 2) 104 (am_blk 104 8) [t, k, p, e, b p, x5, v, x7, x8] [] c1 Q := by
        intro r
        induction r with
        | zero =>
          intro e g v x5 x7 x8 hr hpe hen hee hnm hv0 hv1 hx5
          have hno : ¬ (e < n ∧ lx_D (b e)) := by omega
          rw [lx_end_no hno] at hee
          rw [lx_nm_no hno] at hnm
          exact u104_8 ⟨R0, k_peek hB1 (fun q => absurd q (by omega)) (fun _ => k_dig (fun q => absurd q (by unfold lx_D; omega)) (fun _ => ⟨fun _ => fin e g v x5 _ _ hee hen hpe hnm.symm hx5, fun q => absurd rfl q⟩))⟩
        | succ r ihr =>
          intro e g v x5 x7 x8 hr hpe hen hee hnm hv0 hv1 hx5
          have hen1 : e < n := by omega
          refine u104_8 ⟨R0, k_peek hB1 (fun _ => k_dig (fun hd1 => ⟨fun q => absurd q (by omega), fun _ => ⟨R0, k_peek hB1 (fun _ => ?_) (fun q => absurd q (by omega))⟩⟩) (fun hd1 => ⟨fun _ => ?_, fun q => absurd rfl q⟩)) (fun q => absurd q (by omega))⟩
          · obtain ⟨l1, l2, -⟩ := lc_iff v 922337203685477580
            have hbe := hbr e hen1
            rw [show am_w (b e - 48) = b e - 48 from am_w_in (by omega) (by omega)]
            have hD := hd1
            unfold lx_D at hD
            have yes : (v < 922337203685477580 ∨ (v = 922337203685477580 ∧ b e - 48 ≤ 7)) → cw (d + 2) 104 (am_blk 104 9) [t, k, p, e, b p, x5, v, x7, b e - 48] [x5] c1 Q := by
              intro hg
              refine u104_9 (u104_11 ?_)
              cases g with
              | true =>
                have e5 : am_and x5 1 = 1 := by rw [hx5]; rfl
                rw [e5]
                refine ⟨fun q => absurd q (by omega), fun _ => u104_13 ?_⟩
                rw [am_x_in (x := 10 * v) (by omega) (by omega), am_x_in (by omega) (by omega), am_w_s (by omega)]
                exact ihr (e + 1) true (10 * v + (b e - 48)) _ _ _ (by omega) (by omega) (by omega) (by rw [← hee, lx_end_go hen1 hd1]) (by rw [← hnm, lx_nm_yes hen1 hd1 ⟨rfl, hg⟩]) (by omega) (by omega) rfl
              | false =>
                have e5 : am_and x5 1 = 0 := by rw [hx5]; rfl
                rw [e5]
                refine ⟨fun _ => u104_13 ?_, fun q => absurd rfl q⟩
                rw [am_w_s (by omega)]
                exact ihr (e + 1) false v _ _ _ (by omega) (by omega) (by omega) (by rw [← hee, lx_end_go hen1 hd1]) (by rw [← hnm, lx_nm_bad hen1 hd1 (fun h => by cases h.1)]) hv0 hv1 rfl
            have no : ¬ (v < 922337203685477580 ∨ (v = 922337203685477580 ∧ b e - 48 ≤ 7)) → cw (d + 2) 104 (am_blk 104 10) [t, k, p, e, b p, x5, v, x7, b e - 48] [x5] c1 Q := by
              intro hg
              refine u104_10 (u104_11 ?_)
              have e5 : am_and x5 0 = 0 := by
                cases g <;> rw [hx5] <;> rfl
              rw [e5]
              refine ⟨fun _ => u104_13 ?_, fun q => absurd rfl q⟩
              rw [am_w_s (by omega)]
              exact ihr (e + 1) false v _ _ _ (by omega) (by omega) (by omega) (by rw [← hee, lx_end_go hen1 hd1]) (by rw [← hnm, lx_nm_bad hen1 hd1 (fun h => hg h.2)]) hv0 hv1 rfl
            refine ⟨fun q => yes (Or.inl (l2.mp q)), fun q => ⟨fun q2 => no (fun h => ?_), fun q2 => ⟨fun q3 => no (fun h => ?_), fun q3 => yes (Or.inr ⟨l1.mp (Classical.not_not.mp q2), by omega⟩)⟩⟩⟩
            · rcases h with h | h
              · exact q (l2.mpr h)
              · exact q2 (l1.mpr h.1)
            · rcases h with h | h
              · exact q (l2.mpr h)
              · omega
          · have hno : ¬ (e < n ∧ lx_D (b e)) := fun h => hd1 h.2
            rw [lx_end_no hno] at hee
            rw [lx_nm_no hno] at hnm
            exact fin e g v x5 _ _ hee hen hpe hnm.symm hx5
      exact loop (n - p) p true 0 _ _ _ rfl (Nat.le_refl p) hp rfl rfl (by omega) (by omega) rfl
    · -- a sign
      have hbp := hbr p hpn
      obtain ⟨i1, i2, i3⟩ := am_i2c_r hbp.1 hbp.2
      have hst : st_is (-10) := by unfold st_is; omega
      have b19 : ∀ z : Int, (z = if lx_S (b p) then 3 else 4) → cw (d + 2) 104 (am_blk 104 19) [t, k, p, ((p + 1 : Nat) : Int), b p, 0, 0, 0, 0] [z, (k : Int), t + 2] c1 Q := by
        intro z hz
        refine u104_19 ⟨B2, by omega, by rw [B3]; omega, fun c3 ec3 => ?_⟩
        have s3 : c_sm (tw t) c c3 := s1.tr (by rw [ec3]; exact c_sm.u c1 (by unfold tw; omega) _ _)
        have X3 : tkX k c c3 := X1.tr (by rw [ec3]; exact tkX.u _ _ _)
        have hB3 := sh s3
        have R3 := hB3.1.1
        have fr3 : c_v c3 663 (t + 3) k = p := by rw [ec3, c_u_q (by omega)]; exact from1
        have kd3 : c_v c3 662 (t + 2) k = z := by rw [ec3, c_u_eq]
        have hle := (lx_tok_go (b := b) hpn)
        -- one sign
        have one : ¬ lx_two (b p) (if p + 1 < n then b (p + 1 : Nat) else 0) ≠ 0 → cw (d + 2) 104 (am_blk 104 22) [t, k, p, ((p + 1 : Nat) : Int), b p, 0, 0, 0, 0] [] c3 Q := by
          intro ht
          have etok := lx_tok_1 (b := b) hpn hl hd ht
          have ee : (lx_tok b n p).2.1 = p + 1 := by rw [etok]
          have es : (lx_tok b n p).1 = if lx_S (b p) then b p else 3 := by rw [etok]
          have hk3 : tk_kd (lx_tok b n p).1 = z := by
            rw [es, hz]
            by_cases cS : lx_S (b p)
            · rw [if_pos cS, if_pos cS]
              unfold lx_S at cS
              unfold tk_kd
              rw [if_neg (by omega), if_neg (by omega), if_neg (by omega), if_neg (by omega)]
            · rw [if_neg cS, if_neg cS]; rfl
          have hn12 : (lx_tok b n p).1 ≠ 1 ∧ (lx_tok b n p).1 ≠ 2 := by
            rw [es]; split
            · rename_i cS; unfold lx_S at cS; omega
            · omega
          have := b22 c3 (b p) 0 0 0 0 s3 X3 (by rw [kd3, hk3]) fr3 (fun q => absurd q hn12.2) (fun q => absurd q hn12.1) hle.2.1 (by omega)
          rw [ee] at this
          exact this
        have two : lx_two (b p) (if p + 1 < n then b (p + 1 : Nat) else 0) ≠ 0 → cw (d + 2) 104 (am_blk 104 21) [t, k, p, ((p + 1 : Nat) : Int), b p, 0, 0, 0, 0] [] c3 Q := by
          intro ht
          have etok := lx_tok_2 (b := b) hpn hl hd ht
          have ee : (lx_tok b n p).2.1 = p + 2 := by rw [etok]
          have es : (lx_tok b n p).1 = lx_two (b p) (if p + 1 < n then b (p + 1 : Nat) else 0) := by rw [etok]
          have h4 : 400 ≤ (lx_tok b n p).1 := by
            rw [es]
            clear es etok
            revert ht
            generalize (if p + 1 < n then b ((p + 1 : Nat) : Int) else 0) = dd
            intro ht
            unfold lx_two at ht ⊢
            split
            · omega
            · split
              · omega
              · split
                · omega
                · rename_i q1 q2 q3; rw [if_neg q1, if_neg q2, if_neg q3] at ht; exact absurd rfl ht
          have hS : lx_S (b p) := by have := (lx_two_c ht).1; unfold lx_S; omega
          rw [if_pos hS] at hz
          have hk3 : tk_kd (lx_tok b n p).1 = z := by
            rw [hz]; unfold tk_kd
            rw [if_neg (by omega), if_neg (by omega), if_neg (by omega), if_neg (by omega)]
          refine u104_21 ?_
          have := b22 c3 (b p) 0 0 0 0 s3 X3 (by rw [kd3, hk3]) fr3 (fun q => absurd q (by omega)) (fun q => absurd q (by omega)) hle.2.1 (by omega)
          rw [ee] at this
          rw [am_w_s (by omega)]
          exact this
        -- the byte behind
        have b20 : (b p = 60 → ¬ (p + 1 < n ∧ (b (p + 1 : Nat) = 62 ∨ b (p + 1 : Nat) = 61))) → cw (d + 2) 104 (am_blk 104 20) [t, k, p, ((p + 1 : Nat) : Int), b p, 0, 0, 0, 0] [] c3 Q := by
          intro h60
          refine u104_20 ⟨fun q => one ?_, fun q => ⟨R3, k_peek hB3 (fun q1 => ⟨fun q2 => one ?_, fun q2 => two ?_⟩) (fun q1 => ⟨fun _ => one ?_, fun q2 => absurd (by omega) q2⟩)⟩⟩
          · unfold lx_two
            rw [if_neg ?_, if_neg ?_, if_neg (fun h => q h.1)]
            · exact fun h => h rfl
            · intro h
              by_cases cn : p + 1 < n
              · rw [if_pos cn] at h; exact h60 h.1 ⟨cn, Or.inr h.2⟩
              · rw [if_neg cn] at h; omega
            · intro h
              by_cases cn : p + 1 < n
              · rw [if_pos cn] at h; exact h60 h.1 ⟨cn, Or.inl h.2⟩
              · rw [if_neg cn] at h; omega
          · have q := Classical.not_not.mp q
            unfold lx_two
            rw [if_pos q1, if_neg (by omega), if_neg (by omega), if_neg (fun h => q2 h.2)]
            exact fun h => h rfl
          · have q := Classical.not_not.mp q
            have q2 := Classical.not_not.mp q2
            unfold lx_two
            rw [if_pos q1, if_neg (by omega), if_neg (by omega), if_pos ⟨q, q2⟩]
            omega
          · have q := Classical.not_not.mp q
            unfold lx_two
            rw [if_neg (by omega), if_neg (by omega), if_neg (by omega)]
            exact fun h => h rfl
        refine ⟨fun q => b20 (fun h => absurd h q), fun q => ⟨R3, k_peek hB3 (fun q1 => ⟨fun q2 => two ?_, fun q2 => ⟨R3, k_peek hB3 (fun _ => ⟨fun q3 => two ?_, fun q3 => b20 (fun _ h => by rcases h.2 with h | h; exact q2 h; exact q3 h)⟩) (fun q3 => absurd q3 (by omega))⟩⟩) (fun q1 => ⟨fun q2 => absurd q2 (by omega), fun _ => ⟨R3, k_peek hB3 (fun q3 => absurd q3 (by omega)) (fun _ => ⟨fun q2 => absurd q2 (by omega), fun _ => b20 (fun _ h => by omega)⟩)⟩⟩)⟩⟩
        · have q := Classical.not_not.mp q
          unfold lx_two
          rw [if_pos q1, if_pos ⟨q, q2⟩]
          omega
        · have q := Classical.not_not.mp q
          unfold lx_two
          rw [if_pos q1, if_neg (fun h => q2 h.2), if_pos ⟨q, q3⟩]
          omega
      rw [am_w_s (by omega), B1]
      refine ⟨R0, hst, i1, i2, fun q => u104_18 (b19 4 ?_), fun q => ⟨fun q2 => u104_18 (b19 4 ?_), fun q2 => b19 3 ?_⟩⟩
      · rw [if_neg ?_]
        intro hS
        have h0 : 0 < b p := by unfold lx_S at hS; omega
        rw [i3 (by omega)] at q
        exact absurd q ((st_idx_S h0 hbp.2).mpr hS)
      · rw [if_neg (by unfold lx_S; omega)]
      · rw [i3 (by omega)] at q
        rw [if_pos ((st_idx_S (by omega) hbp.2).mp q)]
end
