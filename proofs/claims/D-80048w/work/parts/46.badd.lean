set_option maxRecDepth 100000
/-! all bags and the pool together; room -/
abbrev bw_C : Type := List Int × (Int → Int) × (Int → Int) × Int × Int × Int
def bw_T (C : bw_C) (E : Int → bw_L) (P : List Int) : Int := (P.length : Int) + b_sum (fun b => ((E b).length : Int)) C.1
def bw_room (C : bw_C) (c : cs_S) (E : Int → bw_L) (P : List Int) : Prop :=
  (∀ b ∈ C.1, ((E b).length : Int) ≤ C.2.1 b ∧ C.2.1 b ≤ C.2.2.1 b ∧ (∃ j : Nat, C.2.2.1 b = 8 * 2 ^ j) ∧ C.2.2.1 b ≤ 400000 ∧ bw_ln c b ≤ C.2.2.1 b) ∧ b_sum C.2.1 C.1 ≤ C.2.2.2.1 ∧ C.2.2.2.1 < 400000
  ∧ bw_T C E P ≤ C.2.2.2.1 ∧ c_m c = C.2.2.2.2.1 + 27 * bw_T C E P + 4 * b_sum (bw_ln c) C.1 + 2 * bw_pl c ∧ c_n c ≤ C.2.2.2.2.2 + 2 * bw_T C E P + b_sum (bw_ln c) C.1 + bw_pl c
def BI (C : bw_C) (c : cs_S) (E : Int → bw_L) (P : List Int) (o : Int → Int) : Prop :=
  bw_P c P o ∧ (∀ b ∈ C.1, bw_B c b (E b) o) ∧ (∀ b ∈ C.1, ∀ b' ∈ C.1, b ≠ b' → c_v c 241 b 0 ≠ c_v c 241 b' 0 ∧ c_v c 242 b 0 ≠ c_v c 242 b' 0) ∧ (∀ x, o x ≠ -1 → 0 ≤ x ∧ x < c_n c) ∧ C.1.Nodup ∧ bw_room C c E P
/-- what bags' acts write: their own places, and rows that somebody has -/
def bw_w (o : Int → Int) (q : Nat) (a : Int) : Prop := q = 80 ∨ q = 81 ∨ q = 580 ∨ q = 241 ∨ q = 242 ∨ q = 243 ∨ q = 741 ∨ q = 742 ∨ ((q = 41 ∨ q = 42) ∧ o a ≠ -1) ∨ (q = 540 ∧ o (a - 1) ≠ -1)
def bx (c : cs_S) (o : Int → Int) (c' : cs_S) (o' : Int → Int) : Prop := c_up (bw_w o) c c' ∧ ∀ x, x < c_n c → o x = -1 → o' x = -1
section
variable {C : bw_C} {c c' c2 : cs_S} {b r x : Int} {E : Int → bw_L} {P : List Int} {o o' o2 : Int → Int} {l : rwt} {d w : Nat} {n : Int} {Q : Int → cs_S → Prop}
theorem bx.rf (c : cs_S) (o : Int → Int) : bx c o c o := ⟨c_up.rf _ c, fun _ _ h => h⟩
theorem bx.tr (h1 : bx c o c' o') (h2 : bx c' o' c2 o2) : bx c o c2 o2 := by
  refine ⟨⟨Int.le_trans h1.1.1 h2.1.1, fun a ha => ⟨(h2.1.2.1 a (Int.lt_of_lt_of_le ha h1.1.1)).1.trans (h1.1.2.1 a ha).1, (h2.1.2.1 a (Int.lt_of_lt_of_le ha h1.1.1)).2.trans (h1.1.2.1 a ha).2⟩, fun q a j ha hw => ?_⟩, fun y hy ho => h2.2 y (Int.lt_of_lt_of_le hy h1.1.1) (h1.2 y hy ho)⟩
  refine (h2.1.2.2 q a j (Int.lt_of_lt_of_le ha h1.1.1) (fun w2 => hw ?_)).trans (h1.1.2.2 q a j ha hw)
  unfold bw_w at w2 hw ⊢
  have e1 : o a = -1 → o' a = -1 := h1.2 a ha
  have e2 : o (a - 1) = -1 → o' (a - 1) = -1 := h1.2 (a - 1) (by omega)
  omega
/-- a row of nobody stays -/
theorem bx.row (h : bx c o c' o') (hr : rw_is c r l) (ho : o r = -1) : rw_is c' r l := by
  have e : r + 1 - 1 = r := by omega
  exact hr.up h.1 (by unfold bw_w; omega) (by unfold bw_w; omega) (by unfold bw_w; omega) (by unfold bw_w; rw [e]; omega)
theorem bx.rok (h : bx c o c' o') (hr : rw_ok c r) : rw_ok c' r := hr.up h.1 (by unfold bw_w; omega)
/-- other fields and arrays stay -/
theorem bx.v (h : bx c o c' o') {q : Nat} {a : Int} (hr : c_r c a ≠ 0) (hq : q ≠ 80 ∧ q ≠ 81 ∧ q ≠ 580 ∧ q ≠ 241 ∧ q ≠ 242 ∧ q ≠ 243 ∧ q ≠ 741 ∧ q ≠ 742 ∧ q ≠ 41 ∧ q ≠ 42 ∧ q ≠ 540) (j : Int) : c_v c' q a j = c_v c q a j := h.1.v hr (by unfold bw_w; omega) j
theorem BI.bag (h : BI C c E P o) (hb : b ∈ C.1) : bw_B c b (E b) o := h.2.1 b hb
theorem BI.nn (h : BI C c E P o) : 0 ≤ c_n c := by have := c_r_in (c := c) (a := 7) (by rw [h.1.1]; decide); omega
theorem BI.le (h : BI C c E P o) (hb : b ∈ C.1) : ((E b).length : Int) < 400000 := by
  have hr := h.2.2.2.2.2
  have h1 := b_sum_upd (f := fun _ => 0) (g := fun a => if a = b then ((E a).length : Int) else 0) h.2.2.2.2.1 hb (fun a _ ha => if_neg ha)
  have h2 : b_sum (fun a => if a = b then ((E a).length : Int) else 0) C.1 ≤ b_sum (fun b => ((E b).length : Int)) C.1 := b_sum_le (fun a _ => by split <;> omega)
  have h3 : b_sum (fun _ => (0 : Int)) C.1 = 0 := by
    have : ∀ l : List Int, b_sum (fun _ => (0 : Int)) l = 0 := by intro l; induction l with
      | nil => rfl
      | cons a l ih => simp only [b_sum, ih]; rfl
    exact this _
  have h4 := hr.2.2.1
  have h5 := hr.2.2.2.1
  unfold bw_T at h5
  rw [if_pos rfl] at h1
  omega
theorem BI.pb (h : BI C c E P o) : (P.length : Int) < 400000 := by
  have hr := h.2.2.2.2.2
  have h2 : 0 ≤ b_sum (fun b => ((E b).length : Int)) C.1 := b_sum_nn (fun b _ => by omega)
  have h4 := hr.2.2.1
  have h5 := hr.2.2.2.1
  unfold bw_T at h5
  omega
/-- doubling -/
theorem k_grow0 {E : bw_L} (hb : bw_B c b E o) (hn : 0 ≤ c_n c) (hf : (E.length : Int) = bw_ln c b) (hE : (E.length : Int) ≤ 400000)
    (kk : ∀ c', c_up (fun q a => a = b ∧ (q = 241 ∨ q = 242)) c c' → bw_B c' b E o → c_v c' 241 b 0 = c_n c → c_v c' 242 b 0 = c_n c + 1 → bw_ln c' b = 2 * bw_ln c b → c_m c' = c_m c + 4 * bw_ln c b → c_n c' = c_n c + 2 → Q 0 c') : kbag_grow (d + 1) b c Q := by
  obtain ⟨h1, h2, h3, h4, h5, h6, h7, h8, h9, h10, h11⟩ := id hb
  unfold bw_ln at *
  have eb : c_r c b ≠ 0 := by rw [h1]; decide
  have ea : c_r c (c_v c 241 b 0) ≠ 0 := by rw [h3]; decide
  have et : c_r c (c_v c 242 b 0) ≠ 0 := by rw [h4]; decide
  have e2 : am_w (2 * c_v c 243 b 0) = 2 * (E.length : Int) := by rw [h7, am_w_in (by omega) (by omega)]
  refine u136_e ⟨h1, ?_⟩
  rw [e2]
  refine ⟨by omega, by omega, hn, fun c1 e1 => ?_⟩
  have u1 : c_up (fun _ _ => False) c c1 := by subst e1; exact c_up.a c hn _ _ _
  have hn1 : c_n c1 = c_n c + 1 := by subst e1; rfl
  have z1 : c_v c1 243 b 0 = (E.length : Int) := by rw [u1.v eb (fun w => w)]; exact h7
  have e3 : am_w (2 * c_v c1 243 b 0) = 2 * (E.length : Int) := by rw [z1, am_w_in (by omega) (by omega)]
  refine ⟨u1.r h1 (by decide), ?_⟩
  rw [e3]
  refine ⟨by omega, by omega, by omega, fun c2 e2 => ?_⟩
  have u2 : c_up (fun _ _ => False) c1 c2 := by subst e2; exact c_up.a c1 (by omega) _ _ _
  have u12 := u1.tr u2
  have hn2 : c_n c2 = c_n c + 2 := by subst e2; rw [c_n_a]; omega
  have rb2 := u12.r h1 (by decide)
  have ra2 : c_r c1 (c_n c) = 741 := by subst e1; exact c_r_an c hn _ _ _
  have ra3 : c_r c2 (c_n c) = 741 := u2.r ra2 (by decide)
  have la2 : c_l c2 (c_n c) = 2 * (E.length : Int) := by
    rw [u2.l (by rw [ra2]; decide)]; subst e1; exact c_l_an c _ _ _
  have rt2 : c_r c2 (c_n c1) = 742 := by subst e2; exact c_r_an c1 (by omega) _ _ _
  have lt2 : c_l c2 (c_n c1) = 2 * (E.length : Int) := by subst e2; exact c_l_an c1 _ _ _
  have va2 : c_v c2 241 b 0 = c_v c 241 b 0 := u12.v eb (fun w => w) 0
  have vt2 : c_v c2 242 b 0 = c_v c 242 b 0 := u12.v eb (fun w => w) 0
  have z2 : c_v c2 243 b 0 = (E.length : Int) := by rw [u12.v eb (fun w => w)]; exact h7
  refine ⟨rb2, rb2, ?_⟩
  rw [va2, z2, u12.l ea, la2]
  refine ⟨u12.r h3 (by decide), ra3, by omega, by decide, by decide, by omega, by omega, fun c3 e3 => ?_⟩
  have s3 : c_sm (fun q a => q = 741 ∧ a = c_n c) c2 c3 := by subst e3; exact c_sm.c c2 ⟨rfl, rfl⟩ _ _ _ _
  have vt3 : c_v c3 242 b 0 = c_v c 242 b 0 := by rw [s3.v (by omega)]; exact vt2
  have z3 : c_v c3 243 b 0 = (E.length : Int) := by rw [s3.v (by omega)]; exact z2
  refine ⟨by rw [s3.r]; exact rb2, by rw [s3.r]; exact rb2, ?_⟩
  rw [vt3, z3, s3.r, s3.r, s3.l, s3.l, u12.l et, lt2]
  refine ⟨u12.r h4 (by decide), rt2, by omega, by decide, by decide, by omega, by omega, fun c4 e4 => ?_⟩
  have s4 : c_sm (fun q a => q = 742 ∧ a = c_n c1) c3 c4 := by subst e4; exact c_sm.c c3 ⟨rfl, rfl⟩ _ _ _ _
  refine ⟨by rw [s4.r, s3.r]; exact rb2, fun c5 e5 => ?_⟩
  have s5 : c_sm (fun q a => q = 241 ∧ a = b) c4 c5 := by subst e5; exact c_sm.u c4 ⟨rfl, rfl⟩ _ _
  refine ⟨by rw [s5.r, s4.r, s3.r]; exact rb2, fun c6 e6 => ?_⟩
  have s6 : c_sm (fun q a => q = 242 ∧ a = b) c5 c6 := by subst e6; exact c_sm.u c5 ⟨rfl, rfl⟩ _ _
  have hbn : b < c_n c := (c_r_in eb).2
  have u : c_up (fun q a => a = b ∧ (q = 241 ∨ q = 242)) c c6 := by
    refine ⟨?_, fun a ha => ?_, fun q a j ha hw => ?_⟩
    · rw [s6.n, s5.n, s4.n, s3.n]; omega
    · rw [s6.r, s5.r, s4.r, s3.r, s6.l, s5.l, s4.l, s3.l]; exact u12.2.1 a ha
    · rw [s6.v (by omega), s5.v (by omega), s4.v (by omega), s3.v (by omega)]
      exact u12.2.2 q a j ha (fun w => w)
  have fa : c_v c6 241 b 0 = c_n c := by rw [s6.v (by omega)]; subst e5; exact c_u_eq _ _ _ _ _
  have ft : c_v c6 242 b 0 = c_n c + 1 := by subst e6; rw [c_u_eq, hn1]
  have fl : c_l c6 (c_n c) = 2 * (E.length : Int) := by rw [s6.l, s5.l, s4.l, s3.l]; exact la2
  refine kk c6 u ⟨u.r h1 (by decide), ?_, ?_, ?_, ?_, ?_, ?_, ?_, ?_, h10, fun e he => ⟨(h11 e he).1.up u (by omega) (by omega) (by omega) (by omega), (h11 e he).2⟩⟩ fa ft ?_ ?_ ?_
  · rw [u.v eb (by omega)]; exact h2
  · rw [fa, s6.r, s5.r, s4.r, s3.r]; exact ra3
  · rw [ft, s6.r, s5.r, s4.r, s3.r, ← hn1]; exact rt2
  · rw [fa, ft, fl, s6.l, s5.l, s4.l, s3.l, ← hn1]; exact lt2
  · obtain ⟨j, hj⟩ := h6
    refine ⟨j + 1, ?_⟩
    rw [fa, fl, hf, hj, Int.pow_succ]
    omega
  · rw [u.v eb (by omega)]; exact h7
  · rw [fa, fl]; omega
  · intro k e hk
    have hk0 := (List.getElem?_eq_some_iff.mp hk).1
    have ek : (0 : Int) + ((k : Int) - 0) = (k : Int) := by omega
    obtain ⟨g1, g2⟩ := h9 k e hk
    constructor
    · rw [fa, s6.v (by omega), s5.v (by omega), s4.v (by omega)]
      subst e3
      rw [c_v_c, if_pos ⟨rfl, rfl, by omega, by omega⟩, u12.v ea (fun w => w), ek]
      exact g1
    · rw [ft, s6.v (by omega), s5.v (by omega), ← hn1]
      subst e4
      rw [c_v_c, if_pos ⟨rfl, rfl, by omega, by omega⟩, s3.v (by omega), u12.v et (fun w => w), ek]
      exact g2
  · rw [fa, fl]; omega
  · rw [s6.m, s5.m, s4.m, s3.m]; subst e2; rw [c_m_a]; subst e1; rw [c_m_a]; omega
  · rw [s6.n, s5.n, s4.n, s3.n]; exact hn2
end
