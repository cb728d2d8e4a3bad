set_option maxRecDepth 100000
/-! the component: a text's tokens -/
def tkC (c : cs_S) (t : Int) (b : Int → Int) (n K : Nat) : Prop := tkB c t b n ∧ tk_K b n K ∧ ∀ k : Nat, k ≤ K → tkR c t b n k (tk_p b n k)
section
variable {c c' : cs_S} {t : Int} {b : Int → Int} {d n p k q K m : Nat} {Q : Int → cs_S → Prop} {x y : Int} {W : Nat → Int → Prop}
theorem tkR.fr (h : tkR c t b n k p) (e : ∀ q a, c_v c' q a k = c_v c q a k) : tkR c' t b n k p := by
  unfold tkR at h ⊢
  rw [e, e, e, e, e]
  exact h
theorem k_tread (hA : tkA c t) (hx : c_r c x = 500) (hl : c_l c x = 2000) (hn : n ≤ 2000) (hb : ∀ i : Nat, i < n → c_v c 500 x i = b i) (hr : ∀ i : Nat, i < n → -128 ≤ b i ∧ b i ≤ 127) (kk : ∀ c' K, c_sm (tw2 t) c c' → tkC c' t b n K → Q 0 c') : ktok_read (d + 3) t x n c Q := by
  obtain ⟨r0, ⟨a1, a2, a3⟩, -⟩ := id hA
  refine u103_e ⟨r0, hx, ?_⟩
  rw [a1, a2, a3, hl]
  refine ⟨rfl, by omega, by omega, by omega, by omega, by omega, fun c1 e1 => ?_⟩
  have s1 : c_sm (tw2 t) c c1 := by rw [e1]; exact c_sm.c c (by unfold tw2; omega) _ _ _ _
  have R1 : c_r c1 t = 1004 := by rw [s1.r]; exact r0
  refine ⟨R1, fun c2 e2 => ?_⟩
  have s2 : c_sm (tw2 t) c c2 := s1.tr (by rw [e2]; exact c_sm.u c1 (by unfold tw2; omega) _ _)
  have hA2 : tkA c2 t := hA.sm s2 (fun q a w => by unfold tw2 tw at w; omega)
  have hB2 : tkB c2 t b n := by
    refine ⟨hA2, by rw [e2, c_u_eq], hn, fun i hi => ?_, hr⟩
    rw [e2, c_u_q (by omega), e1]
    show (if _ then _ else _) = _
    rw [if_pos ⟨rfl, rfl, by omega, by omega⟩, ← hb i hi]
    show c_v c 500 x (0 + ((i : Int) - 0)) = _
    rw [show (0 : Int) + ((i : Int) - 0) = i by omega]
  have main : ∀ (r k at_ : Nat) (c3 : cs_S), k + r = n → c_sm (tw2 t) c c3 → tkB c3 t b n → at_ ≤ n → lx_end b n lx_B at_ = tk_p b n k → (∀ j < k, tk_s b n j ≠ 0 ∧ tk_s b n j ≠ 3) → (∀ j < k, tkR c3 t b n j (tk_p b n j)) → cw (d + 3) 103 (am_blk 103 2) [t, x, n, at_, k, 1] [] c3 Q := by
    intro r
    induction r with
    | zero =>
      intro k at_ c3 hk s3 hB3 hat hp hno hR
      -- at the end
      have hkn : k = n := by omega
      have hlt : ∀ j < k, tk_p b n j < n := fun j hj => by
        have h1 := (hno j hj).1
        have h2 := tk_p_n (b := b) (n := n) j
        by_cases cc : tk_p b n j = n
        · exact absurd (tk_s0.mpr cc) h1
        · omega
      have hge := tk_p_ge (b := b) (n := n) k hlt
      have hpn := tk_p_n (b := b) (n := n) k
      have hs0 : tk_s b n k = 0 := tk_s0.mpr (by omega)
      have R3 := hB3.1.1
      obtain ⟨-, ⟨A1, A2, A3⟩, -⟩ := id hB3.1
      have skip : ∀ (r a : Nat), r = n - a → a ≤ n → lx_end b n lx_B a = tk_p b n k → cw (d + 3) 103 (am_blk 103 2) [t, x, n, a, k, 1] [] c3 Q := by
        intro r
        induction r with
        | zero =>
          intro a hra han hpa
          refine u103_2 ⟨fun _ => u103_4 ⟨R3, ?_⟩, fun w => absurd (by omega) w⟩
          have ea : a = tk_p b n k := by rw [← hpa, lx_end_no (by omega)]
          rw [ea]
          refine k_one hB3 hpn (by omega) (fun c4 s4 X4 R4 => ?_)
          have hB4 := hB3.sm s4 (fun q a w => tw_no q a w)
          obtain ⟨R0, -, ⟨B1, B2, B3⟩, -⟩ := id hB4.1
          rw [B1, B2, B3]
          have hkd : c_v c4 662 (t + 2) k = 0 := by rw [R4.1]; show tk_kd (tk_s b n k) = 0; rw [hs0]; rfl
          refine ⟨R0, rfl, by omega, by omega, fun _ => u103_5 (u103_6 (u103_1 ⟨fun _ => ?_, fun w => absurd rfl w⟩)), fun w => absurd hkd w⟩
          refine kk c4 k (s3.tr (s4.mono (fun q a w => Or.inl w))) ⟨hB4, ⟨hno, Or.inl hs0⟩, fun j hj => ?_⟩
          by_cases cj : j = k
          · rw [cj]; exact R4
          · exact (hR j (by omega)).fr (fun q a => X4 q a j (by omega))
        | succ r ihr =>
          intro a hra han hpa
          have hb' : lx_B (b a) := by
            by_cases cb : lx_B (b a)
            · exact cb
            · rw [lx_end_no (fun h => cb h.2)] at hpa; omega
          have nx : cw (d + 3) 103 (am_blk 103 3) [t, x, n, a, k, 1] [] c3 Q := by
            refine u103_3 ?_
            rw [am_w_s (by omega)]
            exact ihr (a + 1) (by omega) (by omega) (by rw [← hpa, lx_end_go (by omega) hb'])
          refine u103_2 ⟨fun w => absurd w (by omega), fun _ => ⟨R3, ?_⟩⟩
          rw [A1, A2, A3, hB3.2.2.2.1 a (by omega)]
          unfold lx_B at hb'
          refine ⟨rfl, by omega, by omega, fun _ => nx, fun w1 => ⟨R3, rfl, by omega, by omega, fun _ => nx, fun w2 => ⟨R3, rfl, by omega, by omega, fun _ => nx, fun w3 => ⟨R3, rfl, by omega, by omega, fun w4 => absurd hb' (by omega), fun _ => nx⟩⟩⟩⟩
      exact skip (n - at_) at_ rfl hat hp
    | succ r ih =>
      intro k at_ c3 hk s3 hB3 hat hp hno hR
      have hpn := tk_p_n (b := b) (n := n) k
      have R3 := hB3.1.1
      obtain ⟨-, ⟨A1, A2, A3⟩, -⟩ := id hB3.1
      have stop : ∀ a : Nat, a = tk_p b n k → cw (d + 3) 103 (am_blk 103 4) [t, x, n, a, k, 1] [] c3 Q := by
        intro a ea
        subst ea
        refine u103_4 ⟨R3, k_one hB3 hpn (by omega) (fun c4 s4 X4 R4 => ?_)⟩
        have hB4 := hB3.sm s4 (fun q a w => tw_no q a w)
        have s34 : c_sm (tw2 t) c c4 := s3.tr (s4.mono (fun q a w => Or.inl w))
        have hR4 : ∀ j : Nat, j ≤ k → tkR c4 t b n j (tk_p b n j) := fun j hj => by
          by_cases cj : j = k
          · rw [cj]; exact R4
          · exact (hR j (by omega)).fr (fun q a => X4 q a j (by omega))
        obtain ⟨R0, -, ⟨B1, B2, B3⟩, -⟩ := id hB4.1
        rw [B1, B2, B3, R4.1]
        show c_r c4 t = _ ∧ _ ∧ _ ∧ _ ∧ (tk_kd (tk_s b n k) = 0 → _) ∧ (¬ (tk_kd (tk_s b n k) = 0) → _ ∧ _ ∧ _ ∧ _ ∧ (tk_kd (tk_s b n k) = 4 → _) ∧ (¬ (tk_kd (tk_s b n k) = 4) → _))
        have fin : (tk_s b n k = 0 ∨ tk_s b n k = 3) → cw (d + 3) 103 (am_blk 103 5) [t, x, n, ((lx_tok b n (tk_p b n k)).2.1 : Nat), k, 1] [] c4 Q := fun hs => u103_5 (u103_6 (u103_1 ⟨fun _ => kk c4 k s34 ⟨hB4, ⟨hno, hs⟩, hR4⟩, fun w => absurd rfl w⟩))
        refine ⟨R0, rfl, by omega, by omega, fun w => fin (Or.inl (tk_kd_0.mp w)), fun w => ⟨R0, rfl, by omega, by omega, fun w2 => fin (Or.inr ?_), fun w2 => u103_6 (u103_1 ⟨fun w3 => absurd w3 (by omega), fun _ => ?_⟩)⟩⟩
        · unfold tk_kd at w2
          split at w2
          · omega
          · split at w2
            · omega
            · split at w2
              · omega
              · split at w2
                · assumption
                · omega
        · have hs0 : tk_s b n k ≠ 0 := fun h => w (tk_kd_0.mpr h)
          have hs3 : tk_s b n k ≠ 3 := fun h => w2 (by rw [h]; rfl)
          have hlt : tk_p b n k < n := by
            by_cases cc : tk_p b n k = n
            · exact absurd (tk_s0.mpr cc) hs0
            · omega
          rw [am_w_s (by omega)]
          refine ih (k + 1) _ c4 (by omega) s34 hB4 (tk_e_le hlt).2.1 rfl (fun j hj => ?_) (fun j hj => hR4 j (by omega))
          by_cases cj : j = k
          · rw [cj]; exact ⟨hs0, hs3⟩
          · exact hno j (by omega)
      have skip : ∀ (r a : Nat), r = n - a → a ≤ n → lx_end b n lx_B a = tk_p b n k → cw (d + 3) 103 (am_blk 103 2) [t, x, n, a, k, 1] [] c3 Q := by
        intro r
        induction r with
        | zero =>
          intro a hra han hpa
          exact u103_2 ⟨fun _ => stop a (by rw [← hpa, lx_end_no (by omega)]), fun w => absurd (by omega) w⟩
        | succ r ihr =>
          intro a hra han hpa
          have nx : lx_B (b a) → cw (d + 3) 103 (am_blk 103 3) [t, x, n, a, k, 1] [] c3 Q := by
            intro hb'
            refine u103_3 ?_
            rw [am_w_s (by omega)]
            exact ihr (a + 1) (by omega) (by omega) (by rw [← hpa, lx_end_go (by omega) hb'])
          refine u103_2 ⟨fun w => absurd w (by omega), fun _ => ⟨R3, ?_⟩⟩
          rw [A1, A2, A3, hB3.2.2.2.1 a (by omega)]
          refine ⟨rfl, by omega, by omega, fun w1 => nx (Or.inl w1), fun w1 => ⟨R3, rfl, by omega, by omega, fun w2 => nx (Or.inr (Or.inl w2)), fun w2 => ⟨R3, rfl, by omega, by omega, fun w3 => nx (Or.inr (Or.inr (Or.inl w3))), fun w3 => ⟨R3, rfl, by omega, by omega, fun w4 => stop a ?_, fun w4 => nx (Or.inr (Or.inr (Or.inr (Classical.not_not.mp w4))))⟩⟩⟩⟩
          rw [← hpa, lx_end_no (fun h => by have := h.2; unfold lx_B at this; omega)]
      exact skip (n - at_) at_ rfl hat hp
  refine u103_1 ⟨fun w => absurd w (by omega), fun _ => ?_⟩
  exact main n 0 0 c2 (by omega) s2 hB2 (by omega) rfl (fun j hj => absurd hj (by omega)) (fun j hj => absurd hj (by omega))
/-! asking tokens -/
theorem tkC.sm (h : tkC c t b n K) (s : c_sm W c c') (hw : ∀ q a, W q a → q < 160 ∨ (166 < q ∧ q < 660) ∨ 666 < q) : tkC c' t b n K := by
  refine ⟨h.1.sm s (fun q a w => by have := hw q a w; omega), h.2.1, fun k hk => ?_⟩
  obtain ⟨h1, h2, h3, h4, h5⟩ := h.2.2 k hk
  unfold tkR
  rw [s.v (fun w => by have := hw _ _ w; omega), s.v (fun w => by have := hw _ _ w; omega), s.v (fun w => by have := hw _ _ w; omega), s.v (fun w => by have := hw _ _ w; omega), s.v (fun w => by have := hw _ _ w; omega)]
  exact ⟨h1, h2, h3, h4, h5⟩
theorem tkC.le (h : tkC c t b n K) : K ≤ n ∧ n ≤ 2000 := ⟨h.2.1.le, h.1.2.2.1⟩
theorem k_tnum (h : tkC c t b n K) (hk : k ≤ K) (h1 : tk_s b n k = 2 → Q 1 c) (h0 : tk_s b n k ≠ 2 → Q 0 c) : ktok_isNumber d t k c Q := by
  have hl := h.le
  obtain ⟨R0, -, ⟨B1, B2, B3⟩, -⟩ := id h.1.1
  have e : c_v c 662 (t + 2) k = tk_kd (tk_s b n k) := (h.2.2 k hk).1
  refine u111_e ⟨R0, ?_⟩
  rw [B1, B2, B3, e]
  exact ⟨rfl, by omega, by omega, fun w => u111_2 (h0 (fun q => w (tk_kd_2.mpr q))), fun w => u111_2 (h1 (tk_kd_2.mp (Classical.not_not.mp w)))⟩
theorem k_tend (h : tkC c t b n K) (hk : k ≤ K) (h1 : tk_s b n k = 0 → Q 1 c) (h0 : tk_s b n k ≠ 0 → Q 0 c) : ktok_isEnd d t k c Q := by
  have hl := h.le
  obtain ⟨R0, -, ⟨B1, B2, B3⟩, -⟩ := id h.1.1
  have e : c_v c 662 (t + 2) k = tk_kd (tk_s b n k) := (h.2.2 k hk).1
  refine u116_e ⟨R0, ?_⟩
  rw [B1, B2, B3, e]
  exact ⟨rfl, by omega, by omega, fun w => u116_2 (h0 (fun q => w (tk_kd_0.mpr q))), fun w => u116_2 (h1 (tk_kd_0.mp (Classical.not_not.mp w)))⟩
theorem k_tname (h : tkC c t b n K) (hk : k ≤ K) (h1 : tk_nm b n k → Q 1 c) (h0 : ¬ tk_nm b n k → Q 0 c) : ktok_isName d t k c Q := by
  have hl := h.le
  obtain ⟨R0, -, ⟨B1, B2, B3⟩, -, -, -, ⟨G1, G2, G3⟩⟩ := id h.1.1
  obtain ⟨e1, e2, e3, e4, e5⟩ := h.2.2 k hk
  have e1 : c_v c 662 (t + 2) k = tk_kd (tk_s b n k) := e1
  have e5 : tk_s b n k = 1 → (c_v c 666 (t + 6) k = 0 ∨ c_v c 666 (t + 6) k = 1) ∧ (c_v c 666 (t + 6) k = 0 ↔ ¬ tkn (tk_w b n k)) := e5
  refine u112_e ⟨R0, ?_⟩
  rw [B1, B2, B3, e1, G1, G2, G3]
  refine ⟨rfl, by omega, by omega, fun w => u112_1 (u112_2 (h0 (fun q => w (tk_kd_1.mpr q.1)))), fun w => ⟨R0, rfl, by omega, by omega, fun w2 => u112_1 (u112_2 (h0 (fun q => w2 ((e5 q.1).2.mpr q.2)))), fun w2 => u112_2 (h1 ?_)⟩⟩
  have hs := tk_kd_1.mp (Classical.not_not.mp w)
  exact ⟨hs, (e5 hs).2.mp (Classical.not_not.mp w2)⟩
theorem k_tplace (h : tkC c t b n K) (hk : k ≤ K) (kk : Q (tk_p b n k) c) : ktok_place d t k c Q := by
  have hl := h.le
  obtain ⟨R0, -, -, ⟨D1, D2, D3⟩, -⟩ := id h.1.1
  refine u110_e ⟨R0, ?_⟩
  rw [D1, D2, D3, (h.2.2 k hk).2.1]
  exact ⟨rfl, by omega, by omega, kk⟩
theorem k_tnumber (h : tkC c t b n K) (hk : k ≤ K) (hs : tk_s b n k = 2) (kk : Q (tk_v b n k) c) : ktok_number d t k c Q := by
  have hl := h.le
  obtain ⟨R0, -, -, -, -, ⟨F1, F2, F3⟩, -⟩ := id h.1.1
  refine u113_e ⟨R0, ?_⟩
  rw [F1, F2, F3, (h.2.2 k hk).2.2.2.1 hs]
  exact ⟨rfl, by omega, by omega, kk⟩
theorem tk_pe (b : Int → Int) (n k : Nat) : tk_p b n k ≤ tk_e b n k ∧ tk_e b n k ≤ n := by
  by_cases hc : tk_p b n k < n
  · have := tk_e_le hc; omega
  · have h1 := tk_p_n (b := b) (n := n) k
    unfold tk_e
    rw [lx_tok_end (by omega)]
    exact ⟨Nat.le_refl _, h1⟩
theorem tk_w_len (b : Int → Int) (n k : Nat) : (tk_w b n k).length = tk_e b n k - tk_p b n k := tk_tx_len
theorem k_tlen (h : tkC c t b n K) (hk : k ≤ K) (kk : Q ((tk_w b n k).length : Int) c) : ktok_length d t k c Q := by
  have hl := h.le
  obtain ⟨R0, -, -, ⟨D1, D2, D3⟩, ⟨E1, E2, E3⟩, -⟩ := id h.1.1
  have e3 : c_v c 664 (t + 4) k = tk_e b n k := (h.2.2 k hk).2.2.1
  have := tk_pe b n k
  rw [tk_w_len] at kk
  refine u114_e ⟨R0, ?_⟩
  rw [D1, D2, D3, E1, E2, E3, e3, (h.2.2 k hk).2.1, am_w_in (by omega) (by omega)]
  refine ⟨rfl, by omega, by omega, R0, rfl, by omega, by omega, ?_⟩
  rw [show (tk_e b n k : Int) - (tk_p b n k : Int) = ((tk_e b n k - tk_p b n k : Nat) : Int) by omega]
  exact kk
theorem k_tletter {i : Nat} (h : tkC c t b n K) (hk : k ≤ K) (hi : i < (tk_w b n k).length) (kk : Q ((tk_w b n k).getD i 0) c) : ktok_letter d t k i c Q := by
  have hl := h.le
  obtain ⟨R0, ⟨A1, A2, A3⟩, -, ⟨D1, D2, D3⟩, -⟩ := id h.1.1
  have := tk_pe b n k
  rw [tk_w_len] at hi
  unfold tk_w at kk
  rw [tk_tx_get hi] at kk
  refine u115_e ⟨R0, R0, ?_⟩
  rw [D1, D2, D3, A1, A2, A3, (h.2.2 k hk).2.1, am_w_in (by omega) (by omega)]
  refine ⟨rfl, by omega, by omega, rfl, by omega, by omega, ?_⟩
  rw [show (tk_p b n k : Int) + (i : Int) = ((tk_p b n k + i : Nat) : Int) by omega, h.1.2.2.2.1 _ (by omega)]
  exact kk
theorem k_talike (h : tkC c t b n K) (hk : k ≤ K) (hq : q ≤ K) (h1 : tk_w b n k = tk_w b n q → Q 1 c) (h0 : tk_w b n k ≠ tk_w b n q → Q 0 c) : ktok_alike d t k q c Q := by
  have hl := h.le
  obtain ⟨R0, ⟨A1, A2, A3⟩, -, ⟨D1, D2, D3⟩, ⟨E1, E2, E3⟩, -⟩ := id h.1.1
  have e3 : c_v c 664 (t + 4) k = tk_e b n k := (h.2.2 k hk).2.2.1
  have e3q : c_v c 664 (t + 4) q = tk_e b n q := (h.2.2 q hq).2.2.1
  have pk := tk_pe b n k
  have pq := tk_pe b n q
  have lk := tk_w_len b n k
  have lq := tk_w_len b n q
  refine u117_e ⟨R0, ?_⟩
  rw [D1, D2, D3, E1, E2, E3, e3, e3q, (h.2.2 k hk).2.1, (h.2.2 q hq).2.1, am_w_in (by omega) (by omega), am_w_in (by omega) (by omega)]
  refine ⟨rfl, by omega, by omega, R0, rfl, by omega, by omega, R0, rfl, by omega, by omega, R0, rfl, by omega, by omega, fun w => ?_, fun w => h0 (fun e => w ?_)⟩
  · have hlen : tk_e b n k - tk_p b n k = tk_e b n q - tk_p b n q := by omega
    rw [show (tk_e b n k : Int) - (tk_p b n k : Int) = ((tk_e b n k - tk_p b n k : Nat) : Int) by omega]
    have loop : ∀ (r i : Nat), i + r = tk_e b n k - tk_p b n k → (∀ j < i, (tk_w b n k).getD j 0 = (tk_w b n q).getD j 0) → cw d 117 (am_blk 117 2) [t, k, q, ((tk_e b n k - tk_p b n k : Nat) : Int), i] [] c Q := by
      intro r
      induction r with
      | zero =>
        intro i hi hall
        refine u117_2 ⟨fun _ => h1 (l_eq_getD (by omega) (fun j hj => hall j (by omega))), fun w => absurd (by omega) w⟩
      | succ r ih =>
        intro i hi hall
        refine u117_2 ⟨fun w => absurd w (by omega), fun _ => ⟨R0, R0, ?_⟩⟩
        have ew1 : am_w ((tk_p b n k : Int) + (i : Int)) = ((tk_p b n k + i : Nat) : Int) := by rw [am_w_in (by omega) (by omega)]; omega
        have ew2 : am_w ((tk_p b n q : Int) + (i : Int)) = ((tk_p b n q + i : Nat) : Int) := by rw [am_w_in (by omega) (by omega)]; omega
        rw [D1, D2, D3, A1, A2, A3, (h.2.2 k hk).2.1, (h.2.2 q hq).2.1, ew1, ew2, h.1.2.2.2.1 _ (by omega), h.1.2.2.2.1 _ (by omega)]
        have g1 : (tk_w b n k).getD i 0 = b ((tk_p b n k + i : Nat) : Int) := tk_tx_get (by omega)
        have g2 : (tk_w b n q).getD i 0 = b ((tk_p b n q + i : Nat) : Int) := tk_tx_get (by omega)
        refine ⟨rfl, by omega, by omega, rfl, by omega, by omega, R0, R0, rfl, by omega, by omega, rfl, by omega, by omega, fun w2 => ?_, fun w2 => h0 (fun e => w2 ?_)⟩
        · rw [am_w_s (by omega)]
          refine ih (i + 1) (by omega) (fun j hj => ?_)
          by_cases cj : j = i
          · rw [cj, g1, g2]; exact w2
          · exact hall j (by omega)
        · rw [← g1, ← g2, e]
    exact loop (tk_e b n k - tk_p b n k) 0 (by omega) (fun j hj => absurd hj (by omega))
  · have := congrArg List.length e
    rw [lk, lq] at this
    omega
theorem k_tis (h : tkC c t b n K) (hk : k ≤ K) (hy : st_is y) (h1 : tk_is b n k (st_str y) → Q 1 c) (h0 : ¬ tk_is b n k (st_str y) → Q 0 c) : ktok_is (d + 1) t k y c Q := by
  have hl := h.le
  obtain ⟨R0, ⟨A1, A2, A3⟩, ⟨B1, B2, B3⟩, ⟨D1, D2, D3⟩, ⟨E1, E2, E3⟩, -⟩ := id h.1.1
  have e1 : c_v c 662 (t + 2) k = tk_kd (tk_s b n k) := (h.2.2 k hk).1
  have e3 : c_v c 664 (t + 4) k = tk_e b n k := (h.2.2 k hk).2.2.1
  have e2 : c_v c 663 (t + 3) k = tk_p b n k := (h.2.2 k hk).2.1
  have pk := tk_pe b n k
  have lk := tk_w_len b n k
  have txt : (tk_kd (tk_s b n k) = 1 ∨ tk_kd (tk_s b n k) = 3) → cw (d + 1) 109 (am_blk 109 1) [t, k, y, 0] [] c Q := by
    intro hkd
    refine u109_1 ⟨R0, ?_⟩
    rw [D1, D2, D3, E1, E2, E3, e3, e2, am_w_in (by omega) (by omega), st_len_str]
    refine ⟨rfl, by omega, by omega, R0, rfl, by omega, by omega, hy, fun w => ?_, fun w => u109_2 (h0 (fun e => w ?_))⟩
    · have hlen : (st_str y).length = tk_e b n k - tk_p b n k := by omega
      have loop : ∀ (r i : Nat), i + r = tk_e b n k - tk_p b n k → (∀ j < i, (tk_w b n k).getD j 0 = (st_str y).getD j 0) → cw (d + 1) 109 (am_blk 109 4) [t, k, y, i] [] c Q := by
        intro r
        induction r with
        | zero =>
          intro i hi hall
          refine u109_4 ⟨hy, fun _ => h1 ⟨hkd, l_eq_getD (by omega) (fun j hj => hall j (by omega))⟩, fun w => absurd (by rw [st_len_str]; omega) w⟩
        | succ r ih =>
          intro i hi hall
          refine u109_4 ⟨hy, fun w => absurd w (by rw [st_len_str]; omega), fun _ => ⟨R0, R0, ?_⟩⟩
          have ew1 : am_w ((tk_p b n k : Int) + (i : Int)) = ((tk_p b n k + i : Nat) : Int) := by rw [am_w_in (by omega) (by omega)]; omega
          rw [D1, D2, D3, A1, A2, A3, e2, ew1, h.1.2.2.2.1 _ (by omega), st_at_str]
          have g1 : (tk_w b n k).getD i 0 = b ((tk_p b n k + i : Nat) : Int) := tk_tx_get (by omega)
          refine ⟨rfl, by omega, by omega, rfl, by omega, by omega, hy, by omega, by rw [st_len_str]; omega, fun w2 => ?_, fun w2 => h0 (fun e => w2 ?_)⟩
          · rw [am_w_s (by omega)]
            refine ih (i + 1) (by omega) (fun j hj => ?_)
            by_cases cj : j = i
            · rw [cj, g1]; exact w2
            · exact hall j (by omega)
          · rw [← g1, e.2]
      exact loop (tk_e b n k - tk_p b n k) 0 (by omega) (fun j hj => absurd hj (by omega))
    · have := congrArg List.length e.2
      rw [lk] at this
      omega
  refine u109_e ⟨R0, ?_⟩
  rw [B1, B2, B3, e1]
  exact ⟨rfl, by omega, by omega, fun w => txt (Or.inl w), fun w => ⟨R0, rfl, by omega, by omega, fun w2 => u109_2 (h0 (fun e => by rcases e.1 with q | q; exact w q; exact w2 q)), fun w2 => txt (Or.inr (Classical.not_not.mp w2))⟩⟩
end
