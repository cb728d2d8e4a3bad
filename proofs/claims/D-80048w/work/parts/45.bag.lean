set_option maxRecDepth 100000
theorem am_idv2 {a : Int} (h0 : 0 ≤ a) (h1 : a ≤ 2147483647) : am_idv a 2 = a / 2 := by
  unfold am_idv
  rw [Int32.toInt_div, am_i32 ⟨by omega, h1⟩]
  have e2 : (Int32.ofInt 2).toInt = 2 := by decide
  rw [e2, Int.tdiv_eq_ediv_of_nonneg h0]
  have : 0 ≤ a / 2 ∧ a / 2 ≤ 2147483647 := by omega
  rw [Int.bmod_eq_of_le] <;> omega
/-! bags -/
abbrev bw_L : Type := List (Int × rwt × Int)
def bw_B (c : cs_S) (b : Int) (E : bw_L) (o : Int → Int) : Prop :=
  c_r c b = 1006 ∧ c_v c 240 b 0 = 7 ∧ c_r c (c_v c 241 b 0) = 741 ∧ c_r c (c_v c 242 b 0) = 742 ∧ c_l c (c_v c 242 b 0) = c_l c (c_v c 241 b 0) ∧ (∃ j : Nat, c_l c (c_v c 241 b 0) = 8 * 2 ^ j)
  ∧ c_v c 243 b 0 = (E.length : Int) ∧ (E.length : Int) ≤ c_l c (c_v c 241 b 0)
  ∧ (∀ (k : Nat) (e : Int × rwt × Int), E[k]? = some e → c_v c 741 (c_v c 241 b 0) k = e.1 ∧ c_v c 742 (c_v c 242 b 0) k = e.2.2)
  ∧ (E.map (·.1)).Nodup ∧ ∀ e ∈ E, rw_is c e.1 e.2.1 ∧ o e.1 = b
def bw_ln (c : cs_S) (b : Int) : Int := c_l c (c_v c 241 b 0)
section
variable {W : Nat → Int → Prop} {c c' : cs_S} {b r : Int} {E : bw_L} {o o' : Int → Int} {l : rwt} {d w : Nat} {Q : Int → cs_S → Prop}
theorem bw_B.up (h : bw_B c b E o) (u : c_up W c c') (w0 : ¬ W 240 b) (w1 : ¬ W 241 b) (w2 : ¬ W 242 b) (w3 : ¬ W 243 b) (w4 : ¬ W 741 (c_v c 241 b 0)) (w5 : ¬ W 742 (c_v c 242 b 0)) (w6 : ∀ e ∈ E, ¬ W 40 e.1 ∧ ¬ W 41 e.1 ∧ ¬ W 42 e.1 ∧ ¬ W 540 (e.1 + 1)) (ho : ∀ e ∈ E, o' e.1 = b) : bw_B c' b E o' ∧ c_v c' 241 b 0 = c_v c 241 b 0 ∧ c_v c' 242 b 0 = c_v c 242 b 0 ∧ bw_ln c' b = bw_ln c b := by
  obtain ⟨h1, h2, h3, h4, h5, h6, h7, h8, h9, h10, h11⟩ := h
  have eb : c_r c b ≠ 0 := by rw [h1]; decide
  have ea : c_r c (c_v c 241 b 0) ≠ 0 := by rw [h3]; decide
  have et : c_r c (c_v c 242 b 0) ≠ 0 := by rw [h4]; decide
  have va := u.v eb w1 0
  have vt := u.v eb w2 0
  refine ⟨⟨u.r h1 (by decide), ?_, ?_, ?_, ?_, ?_, ?_, ?_, ?_, h10, fun e he => ⟨(h11 e he).1.up u (w6 e he).1 (w6 e he).2.1 (w6 e he).2.2.1 (w6 e he).2.2.2, ho e he⟩⟩, va, vt, ?_⟩
  · rw [u.v eb w0]; exact h2
  · rw [va]; exact u.r h3 (by decide)
  · rw [vt]; exact u.r h4 (by decide)
  · rw [va, vt, u.l ea, u.l et]; exact h5
  · rw [va, u.l ea]; exact h6
  · rw [u.v eb w3]; exact h7
  · rw [va, u.l ea]; exact h8
  · intro k e hk; rw [va, vt, u.v ea w4, u.v et w5]; exact h9 k e hk
  · unfold bw_ln; rw [va, u.l ea]
theorem bw_B.get (h : bw_B c b E o) {k : Nat} {e : Int × rwt × Int} (hk : E[k]? = some e) : rw_is c e.1 e.2.1 ∧ o e.1 = b ∧ c_v c 741 (c_v c 241 b 0) k = e.1 ∧ c_v c 742 (c_v c 242 b 0) k = e.2.2 :=
  have := h.2.2.2.2.2.2.2.2.2.2 e (List.mem_of_getElem? hk)
  ⟨this.1, this.2, (h.2.2.2.2.2.2.2.2.1 k e hk).1, (h.2.2.2.2.2.2.2.2.1 k e hk).2⟩
theorem bw_B.len (h : bw_B c b E o) : (E.length : Int) ≤ bw_ln c b := h.2.2.2.2.2.2.2.1
/-- reading a bag -/
theorem k_bsize (h : bw_B c b E o) (kk : Q (E.length : Int) c) : kbag_size d b c Q := by
  refine u130_e ⟨h.1, ?_⟩
  rw [h.2.2.2.2.2.2.1]; exact kk
theorem k_brow (h : bw_B c b E o) {k : Nat} {e : Int × rwt × Int} (hk : E[k]? = some e) (kk : Q e.1 c) : kbag_row d b (k : Int) c Q := by
  have hlt := (List.getElem?_eq_some_iff.mp hk).1
  have := h.len
  unfold bw_ln at this
  refine u131_e ⟨h.1, h.2.2.1, by omega, by omega, ?_⟩
  rw [(h.get hk).2.2.1]; exact kk
theorem k_btimes (h : bw_B c b E o) {k : Nat} {e : Int × rwt × Int} (hk : E[k]? = some e) (kk : Q e.2.2 c) : kbag_times d b (k : Int) c Q := by
  have hlt := (List.getElem?_eq_some_iff.mp hk).1
  have := h.len
  unfold bw_ln at this
  refine u132_e ⟨h.1, h.2.2.2.1, by omega, by rw [h.2.2.2.2.1]; omega, ?_⟩
  rw [(h.get hk).2.2.2]; exact kk
/-- the place of a row -/
def b_at (E : bw_L) (l : rwt) (k : Nat) : Prop := k ≤ E.length ∧ (∀ (j : Nat) (e : Int × rwt × Int), E[j]? = some e → j < k → r_cmp e.2.1 l < 0) ∧ ∀ (j : Nat) (e : Int × rwt × Int), E[j]? = some e → k ≤ j → ¬ r_cmp e.2.1 l < 0
theorem b_ok_lt (hs : b_ok w (E.map (·.2))) {i j : Nat} {x y : Int × rwt × Int} (hi : E[i]? = some x) (hj : E[j]? = some y) (h : i < j) : r_cmp x.2.1 y.2.1 < 0 := by
  have := hs.2
  rw [List.pairwise_map, List.pairwise_iff_getElem] at this
  obtain ⟨hi1, hi2⟩ := List.getElem?_eq_some_iff.mp hi
  obtain ⟨hj1, hj2⟩ := List.getElem?_eq_some_iff.mp hj
  have := this i j hi1 hj1 h
  rw [hi2, hj2] at this
  exact this
theorem b_ok_w (hs : b_ok w (E.map (·.2))) {i : Nat} {x : Int × rwt × Int} (hi : E[i]? = some x) : x.2.1.length = w ∧ x.2.2 ≠ 0 := hs.1 x.2 (List.mem_map.mpr ⟨x, List.mem_of_getElem? hi, rfl⟩)
theorem k_find1 (hb : bw_B c b E o) (hs : b_ok w (E.map (·.2))) (hr : rw_is c r l) (hl : l.length = w) (hE : (E.length : Int) ≤ 400000) (kk : ∀ k, b_at E l k → Q (k : Int) c) : ∀ (n lo hi : Nat) (z : Int), hi ≤ lo + n → lo ≤ hi → hi ≤ E.length → (∀ (j : Nat) (e : Int × rwt × Int), E[j]? = some e → j < lo → r_cmp e.2.1 l < 0) → (∀ (j : Nat) (e : Int × rwt × Int), E[j]? = some e → hi ≤ j → ¬ r_cmp e.2.1 l < 0) → cw (d + 3) 134 (am_blk 134 1) [b, r, (lo : Int), (hi : Int), z] [] c Q := by
  intro n
  induction n with
  | zero =>
    intro lo hi z h1 h2 h3 h4 h5
    have e : hi = lo := by omega
    subst e
    exact u134_1 ⟨fun _ => kk hi ⟨h3, h4, h5⟩, fun w => absurd (by omega) w⟩
  | succ n ih =>
    intro lo hi z h1 h2 h3 h4 h5
    refine u134_1 ⟨fun w => ?_, fun w => ?_⟩
    · have e : hi = lo := by omega
      subst e
      exact kk hi ⟨h3, h4, h5⟩
    · have em : am_idv (am_w ((lo : Int) + (hi : Int))) 2 = (((lo + hi) / 2 : Nat) : Int) := by
        rw [am_w_in (by omega) (by omega), am_idv2 (by omega) (by omega)]; omega
      rw [em]
      have hm : (lo + hi) / 2 < E.length := by omega
      have hg := List.getElem?_eq_getElem hm
      obtain ⟨g1, g2, g3, g4⟩ := hb.get hg
      have hw := b_ok_w hs hg
      have hln := hb.len
      unfold bw_ln at hln
      refine ⟨by decide, hb.1, hb.2.2.1, by omega, by omega, ?_⟩
      rw [g3]
      refine ⟨g1.1.1, k_compareTo g1 hr (by omega) ⟨fun v0 => u134_3 ?_, fun v0 => u134_3 ?_⟩⟩
      · refine ih lo _ _ (by omega) (by omega) (by omega) h4 (fun j e he hj => ?_)
        by_cases ej : j = (lo + hi) / 2
        · subst ej; rw [hg] at he; cases he; omega
        · have := b_ok_lt hs hg he (by omega)
          intro w2
          have hw2 := b_ok_w hs he
          have := r_cmp_tr (by omega) (by omega) this w2
          omega
      · have e1 : am_w ((((lo + hi) / 2 : Nat) : Int) + 1) = (((lo + hi) / 2 + 1 : Nat) : Int) := by rw [am_w_in (by omega) (by omega)]; omega
        rw [e1]
        refine ih _ hi _ (by omega) (by omega) h3 (fun j e he hj => ?_) h5
        by_cases ej : j = (lo + hi) / 2
        · subst ej; rw [hg] at he; cases he; omega
        · have := b_ok_lt hs he hg (by omega)
          have hw2 := b_ok_w hs he
          exact r_cmp_tr (by omega) (by omega) this (by omega)
theorem k_find (hb : bw_B c b E o) (hs : b_ok w (E.map (·.2))) (hr : rw_is c r l) (hl : l.length = w) (hE : (E.length : Int) ≤ 400000) (kk : ∀ k, b_at E l k → Q (k : Int) c) : kbag_find (d + 3) b r c Q := by
  refine u134_e ⟨hb.1, ?_⟩
  rw [hb.2.2.2.2.2.2.1]
  exact k_find1 hb hs hr hl hE kk E.length 0 E.length 0 (by omega) (by omega) (by omega) (fun j e _ h => by omega) (fun j e he h => by have := (List.getElem?_eq_some_iff.mp he).1; omega)
/-- a row at its place: there or not -/
theorem b_at_in (hs : b_ok w (E.map (·.2))) (hl : l.length = w) {k : Nat} (h : b_at E l k) {e : Int × rwt × Int} (he : E[k]? = some e) : (r_cmp e.2.1 l = 0 ↔ e.2.1 = l) ∧ (r_cmp e.2.1 l ≠ 0 → ∀ (j : Nat) (x : Int × rwt × Int), E[j]? = some x → k ≤ j → r_cmp l x.2.1 < 0) := by
  have hw := b_ok_w hs he
  refine ⟨r_cmp_0 (by omega), fun hne j x hx hj => ?_⟩
  have h0 := h.2.2 k e he (Nat.le_refl _)
  have h1 : r_cmp l e.2.1 < 0 := by rw [r_cmp_sw e.2.1 l]; omega
  by_cases ej : j = k
  · subst ej; rw [he] at hx; cases hx; exact h1
  · have := b_ok_lt hs he hx (by omega)
    have hw2 := b_ok_w hs hx
    exact r_cmp_tr (by omega) (by omega) h1 this
theorem b_at_no {k : Nat} (h : b_at E l k) (hs : b_ok w (E.map (·.2))) (hno : ∀ e, E[k]? = some e → e.2.1 ≠ l) : b_s (r_ind l) (E.map (·.2)) = 0 := by
  refine b_s_none (fun e he => ?_)
  obtain ⟨x, hx, rfl⟩ := List.mem_map.mp he
  obtain ⟨j, hj⟩ := List.mem_iff_getElem?.mp hx
  intro el
  have e0 := r_cmp_rf l
  by_cases c1 : j < k
  · have := h.2.1 j x hj c1; rw [el] at this; omega
  · by_cases c2 : j = k
    · subst c2; exact hno x hj el
    · have hk : k < E.length := by have := (List.getElem?_eq_some_iff.mp hj).1; omega
      have := b_ok_lt hs (List.getElem?_eq_getElem hk) hj (by omega)
      rw [el] at this
      have := h.2.2 k _ (List.getElem?_eq_getElem hk) (Nat.le_refl _)
      omega
theorem k_timesOf (hb : bw_B c b E o) (hs : b_ok w (E.map (·.2))) (hr : rw_is c r l) (hl : l.length = w) (hE : (E.length : Int) ≤ 400000) (kk : Q (b_s (r_ind l) (E.map (·.2))) c) : kbag_timesOf (d + 4) b r c Q := by
  refine u138_e ⟨hb.1, k_find hb hs hr hl hE (fun k hk => ⟨hb.1, fun hle => ?_, fun hlt => ?_⟩)⟩
  · refine u138_1 (u138_2 ?_)
    rw [hb.2.2.2.2.2.2.1] at hle
    rw [b_at_no hk hs (fun e he => by have := (List.getElem?_eq_some_iff.mp he).1; omega)] at kk
    exact kk
  · rw [hb.2.2.2.2.2.2.1] at hlt
    have hk1 : k < E.length := by omega
    have hg := List.getElem?_eq_getElem hk1
    obtain ⟨g1, g2, g3, g4⟩ := hb.get hg
    have hw := b_ok_w hs hg
    have hln := hb.len
    unfold bw_ln at hln
    refine ⟨hb.1, hb.2.2.1, by omega, by omega, ?_⟩
    rw [g3]
    obtain ⟨a1, a2⟩ := b_at_in hs hl hk hg
    refine ⟨g1.1.1, k_compareTo g1 hr (by omega) ⟨fun hne => u138_1 (u138_2 ?_), fun heq => ⟨hb.1, hb.2.2.2.1, by omega, by rw [hb.2.2.2.2.1]; omega, ?_⟩⟩⟩
    · rw [b_at_no hk hs (fun e he => by rw [hg] at he; cases he; exact fun w => hne (a1.mpr w))] at kk
      exact kk
    · rw [g4]
      refine u138_2 ?_
      have el := a1.mp (by omega)
      have : b_s (r_ind l) (E.map (·.2)) = E[k].2.2 := b_s_mem hs (List.mem_map.mpr ⟨E[k], List.getElem_mem hk1, by rw [← el]⟩)
      rw [this] at kk
      exact kk
end
