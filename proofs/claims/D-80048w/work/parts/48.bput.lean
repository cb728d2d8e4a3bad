set_option maxRecDepth 100000
/-! a row in hand; bags take and lose rows -/
def bw_W (b A T x : Int) (q : Nat) (a : Int) : Prop := (a = 7 ∧ (q = 80 ∨ q = 81)) ∨ q = 580 ∨ (q = 243 ∧ a = b) ∨ (q = 741 ∧ a = A) ∨ (q = 742 ∧ a = T) ∨ ((q = 41 ∨ q = 42) ∧ a = x) ∨ (q = 540 ∧ a = x + 1)
def BH (C : bw_C) (c : cs_S) (E : Int → bw_L) (P : List Int) (o : Int → Int) (x : Int) : Prop :=
  bw_P c P o ∧ (∀ b ∈ C.1, bw_B c b (E b) o) ∧ (∀ b ∈ C.1, ∀ b' ∈ C.1, b ≠ b' → c_v c 241 b 0 ≠ c_v c 241 b' 0 ∧ c_v c 242 b 0 ≠ c_v c 242 b' 0) ∧ (∀ y, o y ≠ -1 → 0 ≤ y ∧ y < c_n c) ∧ C.1.Nodup ∧ bw_room C c E (P ++ [x]) ∧ rw_ok c x ∧ o x = -2
section
variable {C : bw_C} {c c' c2 : cs_S} {b r x : Int} {E : Int → bw_L} {P P' PP : List Int} {o o' o2 : Int → Int} {l : rwt} {d w : Nat} {n : Int} {Q : Int → cs_S → Prop}
theorem bw_P.own (h : bw_P c P o) (ho : ∀ y ∈ P, o' y = 7) : bw_P c P o' :=
  ⟨h.1, h.2.1, h.2.2.1, h.2.2.2.1, h.2.2.2.2.1, h.2.2.2.2.2.1, h.2.2.2.2.2.2.1, fun y hy => ⟨(h.2.2.2.2.2.2.2 y hy).1, ho y hy⟩⟩
theorem bw_B.own {E : bw_L} (h : bw_B c b E o) (ho : ∀ e ∈ E, o' e.1 = b) : bw_B c b E o' :=
  ⟨h.1, h.2.1, h.2.2.1, h.2.2.2.1, h.2.2.2.2.1, h.2.2.2.2.2.1, h.2.2.2.2.2.2.1, h.2.2.2.2.2.2.2.1, h.2.2.2.2.2.2.2.2.1, h.2.2.2.2.2.2.2.2.2.1, fun e he => ⟨(h.2.2.2.2.2.2.2.2.2.2 e he).1, ho e he⟩⟩
theorem bw_B.mem {E : bw_L} (h : bw_B c b E o) {e : Int × rwt × Int} (he : e ∈ E) : rw_is c e.1 e.2.1 ∧ o e.1 = b := h.2.2.2.2.2.2.2.2.2.2 e he
theorem bw_B.sz {E : bw_L} (h : bw_B c b E o) : c_v c 243 b 0 = (E.length : Int) := h.2.2.2.2.2.2.1
theorem bw_B.at {E : bw_L} (h : bw_B c b E o) {k : Nat} {e : Int × rwt × Int} (hk : E[k]? = some e) : c_v c 741 (c_v c 241 b 0) k = e.1 ∧ c_v c 742 (c_v c 242 b 0) k = e.2.2 := h.2.2.2.2.2.2.2.2.1 k e hk
/-- one bag and the pool anew: all of it stands -/
theorem BI.gen {F : bw_L} {A T : Int} (h2 : ∀ a ∈ C.1, bw_B c a (E a) o) (h3 : ∀ b ∈ C.1, ∀ b' ∈ C.1, b ≠ b' → c_v c 241 b 0 ≠ c_v c 241 b' 0 ∧ c_v c 242 b 0 ≠ c_v c 242 b' 0) (h5 : C.1.Nodup) (h6 : bw_room C c E PP) (hb : b ∈ C.1) (hA : A = c_v c 241 b 0) (hT : T = c_v c 242 b 0) (u : c_up (bw_W b A T x) c c')
    (hx : ∀ a ∈ C.1, a ≠ b → ∀ e ∈ E a, e.1 ≠ x ∧ o' e.1 = a) (hP : bw_P c' P' o') (g : bw_B c' b F o') (hlen : P'.length + F.length = PP.length + (E b).length) (hcap : (F.length : Int) ≤ C.2.1 b) (hm : c_m c' - 2 * bw_pl c' = c_m c - 2 * bw_pl c) (hn : c_n c' - bw_pl c' ≤ c_n c - bw_pl c) (ho : ∀ y, o' y ≠ -1 → 0 ≤ y ∧ y < c_n c') : BI C c' (fun a => if a = b then F else E a) P' o' := by
  have hbn : c_r c b ≠ 0 := by rw [(h2 b hb).1]; decide
  have eA : c_v c' 241 b 0 = A := by rw [u.v hbn (by unfold bw_W; omega), hA]
  have eT : c_v c' 242 b 0 = T := by rw [u.v hbn (by unfold bw_W; omega), hT]
  have el : bw_ln c' b = bw_ln c b := by
    unfold bw_ln; rw [eA, hA]; exact u.l (by rw [(h2 b hb).2.2.1]; decide)
  have oth : ∀ a ∈ C.1, a ≠ b → bw_B c' a (E a) o' ∧ c_v c' 241 a 0 = c_v c 241 a 0 ∧ c_v c' 242 a 0 = c_v c 242 a 0 ∧ bw_ln c' a = bw_ln c a := by
    intro a ha hne
    have d3 := h3 a ha b hb hne
    refine (h2 a ha).up u (by unfold bw_W; omega) (by unfold bw_W; omega) (by unfold bw_W; omega) (by unfold bw_W; omega) (by unfold bw_W; omega) (by unfold bw_W; omega) (fun e he => ?_) (fun e he => (hx a ha hne e he).2)
    have := (hx a ha hne e he).1
    refine ⟨?_, ?_, ?_, ?_⟩ <;> (unfold bw_W; omega)
  obtain ⟨r1, r2, r3, r4, r5, r6⟩ := h6
  have eln : b_sum (bw_ln c') C.1 = b_sum (bw_ln c) C.1 := b_sum_congr (fun a ha => by
    by_cases e : a = b
    · subst e; exact el
    · exact (oth a ha e).2.2.2)
  have eT2 : bw_T C (fun a => if a = b then F else E a) P' = bw_T C E PP := by
    unfold bw_T
    have := b_sum_upd (f := fun a => ((E a).length : Int)) (g := fun a => (((if a = b then F else E a) : bw_L).length : Int)) h5 hb (fun a _ hne => by (try dsimp only); rw [if_neg hne])
    rw [this]
    (try dsimp only)
    rw [if_pos rfl]
    omega
  refine ⟨hP, fun a ha => ?_, fun a ha a' ha' hne => ?_, ho, h5, fun a ha => ?_, r2, r3, ?_, ?_, ?_⟩
  · by_cases e : a = b
    · subst e; (try dsimp only); rw [if_pos rfl]; exact g
    · (try dsimp only); rw [if_neg e]; exact (oth a ha e).1
  · have f1 : ∀ a ∈ C.1, c_v c' 241 a 0 = c_v c 241 a 0 ∧ c_v c' 242 a 0 = c_v c 242 a 0 := by
      intro a ha
      by_cases e : a = b
      · subst e; rw [eA, eT, hA, hT]; exact ⟨rfl, rfl⟩
      · exact ⟨(oth a ha e).2.1, (oth a ha e).2.2.1⟩
    rw [(f1 a ha).1, (f1 a ha).2, (f1 a' ha').1, (f1 a' ha').2]
    exact h3 a ha a' ha' hne
  · obtain ⟨a1, a2, a3, a4, a5⟩ := r1 a ha
    by_cases e : a = b
    · subst e; (try dsimp only); rw [if_pos rfl, el]; exact ⟨hcap, a2, a3, a4, a5⟩
    · (try dsimp only); rw [if_neg e, (oth a ha e).2.2.2]; exact ⟨a1, a2, a3, a4, a5⟩
  · rw [eT2]; exact r4
  · rw [eT2, eln]; omega
  · rw [eT2, eln]; omega
/-- a row is taken in hand -/
theorem k_hand (h : BI C c E P o) (hb : b ∈ C.1) (hc : ((E b).length : Int) < C.2.1 b)
    (kk : ∀ x c' P' o', BH C c' E P' o' x → bx c o c' o' → c_up wpool c c' → (∀ y, y < c_n c → o y ≠ 7 → y ≠ x) → (∀ y, y ≠ x → o' y = o y) → Q x c') : kpool_take (d + 2) 7 c Q := by
  obtain ⟨i1, i2, i3, i4, i5, i6⟩ := id h
  have nin : ∀ x, o x = 7 → ∀ a ∈ C.1, ∀ e ∈ E a, e.1 ≠ x := by
    intro x hx a ha e he w
    have := ((i2 a ha).mem he).2
    rw [w, hx] at this
    exact (h.b7 ha).1 this.symm
  refine k_ptake i1 (by have := h.pb; omega) (fun P1 x c1 eP s1 p1 pl1 => ?_) (fun c1 eP u1 n1 m1 w1 p1 pl1 => ?_)
  · subst eP
    have ox : o x = 7 := (i1.2.2.2.2.2.2.2 x (by simp)).2
    have xP : x ∉ P1 := by
      have := i1.2.2.2.2.2.2.1
      rw [List.nodup_append] at this
      intro hx
      exact this.2.2 x hx x (by simp) rfl
    have ro : rw_ok c1 x := (i1.2.2.2.2.2.2.2 x (by simp)).1.sm s1 (by unfold wpool; omega)
    have u1 := s1.up
    have oth : ∀ a ∈ C.1, bw_B c1 a (E a) (fun y => if y = x then -2 else o y) ∧ c_v c1 241 a 0 = c_v c 241 a 0 ∧ c_v c1 242 a 0 = c_v c 242 a 0 ∧ bw_ln c1 a = bw_ln c a := by
      intro a ha
      refine (i2 a ha).up u1 (by unfold wpool; omega) (by unfold wpool; omega) (by unfold wpool; omega) (by unfold wpool; omega) (by unfold wpool; omega) (by unfold wpool; omega) (fun e he => ?_) (fun e he => ?_)
      · refine ⟨?_, ?_, ?_, ?_⟩ <;> (unfold wpool; omega)
      · (try dsimp only); rw [if_neg (nin x ox a ha e he)]; exact ((i2 a ha).mem he).2
    refine kk x c1 P1 (fun y => if y = x then -2 else o y) ⟨p1.own (fun y hy => ?_), fun a ha => (oth a ha).1, fun a ha a' ha' hne => ?_, fun y hy => ?_, i5, ?_, ro, if_pos rfl⟩ ⟨u1.mono (fun q a hw => by unfold wpool at hw; unfold bw_w; omega), fun y hy ho => ?_⟩ u1 (fun y _ hy w => hy (w ▸ ox)) (fun y hy => if_neg hy)
    · have : y ≠ x := fun w => xP (w ▸ hy)
      (try dsimp only)
      rw [if_neg this]
      exact (i1.2.2.2.2.2.2.2 y (List.mem_append_left _ hy)).2
    · rw [(oth a ha).2.1, (oth a ha).2.2.1, (oth a' ha').2.1, (oth a' ha').2.2.1]; exact i3 a ha a' ha' hne
    · have hn := s1.n
      (try dsimp only at hy)
      by_cases e : y = x
      · subst e
        have := c_r_in (c := c1) (a := y) (by rw [ro.1]; decide)
        exact this
      · rw [if_neg e] at hy
        rw [hn]; exact i4 y hy
    · obtain ⟨r1, r2, r3, r4, r5, r6⟩ := i6
      have eln : b_sum (bw_ln c1) C.1 = b_sum (bw_ln c) C.1 := b_sum_congr (fun a ha => (oth a ha).2.2.2)
      refine ⟨fun a ha => ?_, r2, r3, r4, ?_, ?_⟩
      · rw [(oth a ha).2.2.2]; exact r1 a ha
      · rw [s1.m, eln, pl1]; exact r5
      · rw [s1.n, eln, pl1]; exact r6
    · (try dsimp only)
      rw [if_neg (fun w => by rw [w, ox] at ho; cases ho)]; exact ho
  · subst eP
    have hn0 := h.nn
    have u2 : c_up wpool c c1 := u1.mono (fun _ _ hw => hw.elim)
    have fr : ∀ y, o y ≠ -1 → y ≠ c_n c := fun y hy w => by have := (i4 y hy).2; omega
    have oth : ∀ a ∈ C.1, bw_B c1 a (E a) (fun y => if y = c_n c then -2 else o y) ∧ c_v c1 241 a 0 = c_v c 241 a 0 ∧ c_v c1 242 a 0 = c_v c 242 a 0 ∧ bw_ln c1 a = bw_ln c a := by
      intro a ha
      refine (i2 a ha).up u1 (fun w => w) (fun w => w) (fun w => w) (fun w => w) (fun w => w) (fun w => w) (fun e he => ⟨fun w => w, fun w => w, fun w => w, fun w => w⟩) (fun e he => ?_)
      have h1 := ((i2 a ha).mem he).2
      have h2 := h.bm1 ha
      (try dsimp only)
      rw [if_neg (fr e.1 (by rw [h1]; exact h2))]; exact h1
    refine kk (c_n c) c1 [] (fun y => if y = c_n c then -2 else o y) ⟨p1.own (fun y hy => by cases hy), fun a ha => (oth a ha).1, fun a ha a' ha' hne => ?_, fun y hy => ?_, i5, ?_, w1.1, if_pos rfl⟩ ⟨u2.mono (fun q a hw => by unfold wpool at hw; unfold bw_w; omega), fun y hy ho => ?_⟩ u2 (fun y hy _ w => by omega) (fun y hy => if_neg hy)
    · rw [(oth a ha).2.1, (oth a ha).2.2.1, (oth a' ha').2.1, (oth a' ha').2.2.1]; exact i3 a ha a' ha' hne
    · (try dsimp only at hy)
      by_cases e : y = c_n c
      · subst e; omega
      · rw [if_neg e] at hy
        have := i4 y hy
        omega
    · obtain ⟨r1, r2, r3, r4, r5, r6⟩ := i6
      have eln : b_sum (bw_ln c1) C.1 = b_sum (bw_ln c) C.1 := b_sum_congr (fun a ha => (oth a ha).2.2.2)
      have eT : bw_T C E ([] ++ [c_n c]) = bw_T C E [] + 1 := by unfold bw_T; simp only [List.nil_append, List.length_cons, List.length_nil]; omega
      have hsum : b_sum (fun a => ((E a).length : Int)) C.1 + 1 ≤ b_sum C.2.1 C.1 := by
        have h1 := b_sum_upd (f := fun a => ((E a).length : Int)) (g := fun a => if a = b then ((E a).length : Int) + 1 else ((E a).length : Int)) i5 hb (fun a _ ha => if_neg ha)
        have h2 : b_sum (fun a => if a = b then ((E a).length : Int) + 1 else ((E a).length : Int)) C.1 ≤ b_sum C.2.1 C.1 := b_sum_le (fun a ha => by
          (try dsimp only)
          split
          · rename_i e; subst e; omega
          · exact (r1 a ha).1)
        (try dsimp only at h1)
        rw [if_pos rfl] at h1
        omega
      refine ⟨fun a ha => ?_, r2, r3, ?_, ?_, ?_⟩
      · rw [(oth a ha).2.2.2]; exact r1 a ha
      · rw [eT]; unfold bw_T at *; simp only [List.length_nil]; omega
      · rw [eT, eln, pl1]; omega
      · rw [eT, eln, pl1]; omega
    · (try dsimp only)
      rw [if_neg (by omega)]; exact ho
/-- a new row at its place -/
theorem k_ins {k : Nat} {z : Int} (h : BI C c E P o) (hb : b ∈ C.1) (hc : ((E b).length : Int) < C.2.1 b) (hl : ((E b).length : Int) < bw_ln c b) (hk : k ≤ (E b).length) (hr : rw_is c r l) (hor : o r ≠ 7)
    (kk : ∀ x c' P' o', BI C c' (fun a => if a = b then (E b).take k ++ (x, l, n) :: (E b).drop k else E a) P' o' → bx c o c' o' → Q 0 c') : cw (d + 3) 133 (am_blk 133 4) [b, r, n, (k : Int), z] [] c Q := by
  have hB := h.bag hb
  have hle := h.le hb
  refine u133_4 ⟨hB.1, by rw [hB.2.1]; exact h.1.1, ?_⟩
  rw [hB.2.1]
  refine k_hand h hb hc (fun x c1 P1 o1 H bx1 u1 hne ho1 => ?_)
  have B1 := H.2.1 b hb
  have hrn : r < c_n c := (c_r_in (by rw [hr.1.1]; decide)).2
  have hrx : r ≠ x := hne r hrn hor
  have hr1 : rw_is c1 r l := hr.up u1 (by unfold wpool; omega) (by unfold wpool; omega) (by unfold wpool; omega) (by unfold wpool; omega)
  have hl1 : ((E b).length : Int) < bw_ln c1 b := by
    unfold bw_ln at *
    rw [u1.v (by rw [hB.1]; decide) (by unfold wpool; omega), u1.l (by rw [hB.2.2.1]; decide)]
    exact hl
  obtain ⟨g1, g2, g3, g4, g5, g6, g7, g8, g9, g10, g11⟩ := id B1
  generalize hA : c_v c1 241 b 0 = A at *
  generalize hT : c_v c1 242 b 0 = T at *
  have hl2 : ((E b).length : Int) < c_l c1 A := by unfold bw_ln at hl1; rw [hA] at hl1; exact hl1
  have w1 : am_w (((E b).length : Int) - (k : Int)) = ((E b).length : Int) - (k : Int) := am_w_in (by omega) (by omega)
  have w2 : am_w ((k : Int) + 1) = (k : Int) + 1 := am_w_in (by omega) (by omega)
  rw [g7, w1, w2]
  refine ⟨g1, g1, g1, g3, g3, by omega, by omega, by omega, by omega, by omega, fun c2 e2 => ?_⟩
  have s2 : c_sm (bw_W b A T x) c1 c2 := by subst e2; exact c_sm.c c1 (by unfold bw_W; omega) _ _ _ _
  have f2 : c_v c2 241 b 0 = A := by rw [s2.v (by unfold bw_W; omega)]; exact hA
  have t2 : c_v c2 242 b 0 = T := by rw [s2.v (by unfold bw_W; omega)]; exact hT
  have z2 : c_v c2 243 b 0 = ((E b).length : Int) := by subst e2; rw [c_v_c, if_neg (by intro w; exact absurd w.1 (by decide))]; exact g7
  rw [t2, z2, w1, s2.r, s2.r, s2.l]
  refine ⟨g1, g1, g1, g4, g4, by omega, by omega, by omega, by omega, by omega, fun c3 e3 => ?_⟩
  have s3 : c_sm (bw_W b A T x) c2 c3 := by subst e3; exact c_sm.c c2 (by unfold bw_W; omega) _ _ _ _
  have f3 : c_v c3 241 b 0 = A := by rw [s3.v (by unfold bw_W; omega)]; exact f2
  have t3 : c_v c3 242 b 0 = T := by rw [s3.v (by unfold bw_W; omega)]; exact t2
  have z3 : c_v c3 243 b 0 = ((E b).length : Int) := by subst e3; rw [c_v_c, if_neg (by intro w; exact absurd w.1 (by decide))]; exact z2
  rw [f3, s3.r, s3.r, s3.l, s2.r, s2.r, s2.l]
  refine ⟨g1, g3, by omega, by omega, fun c4 e4 => ?_⟩
  have s4 : c_sm (bw_W b A T x) c3 c4 := by subst e4; exact c_sm.u c3 (by unfold bw_W; omega) _ _
  have s14 := (s2.tr s3).tr s4
  have t4 : c_v c4 242 b 0 = T := by rw [s4.v (by unfold bw_W; omega)]; exact t3
  have z4 : c_v c4 243 b 0 = ((E b).length : Int) := by subst e4; rw [c_u_q (by decide)]; exact z3
  have ro4 : rw_ok c4 x := H.2.2.2.2.2.2.1.sm s14 (by unfold bw_W; omega)
  have hr4 : rw_is c4 r l := hr1.sm s14 (by unfold bw_W; omega) (by unfold bw_W; omega) (by unfold bw_W; omega) (by unfold bw_W; omega)
  refine ⟨ro4.1, k_take hr4 ro4 hrx (fun c5 s5 x5 _ => ?_)⟩
  have s5' : c_sm (bw_W b A T x) c4 c5 := s5.mono (fun q a hw => by unfold rw_w at hw; unfold bw_W; omega)
  have t5 : c_v c5 242 b 0 = T := by rw [s5.v (by unfold rw_w; omega)]; exact t4
  have z5 : c_v c5 243 b 0 = ((E b).length : Int) := by rw [s5.v (by unfold rw_w; omega)]; exact z4
  have s15 := s14.tr s5'
  rw [t5, s15.r, s15.r, s15.l]
  refine ⟨g1, g4, by omega, by omega, fun c6 e6 => ?_⟩
  have s6 : c_sm (bw_W b A T x) c5 c6 := by subst e6; exact c_sm.u c5 (by unfold bw_W; omega) _ _
  have z6 : c_v c6 243 b 0 = ((E b).length : Int) := by subst e6; rw [c_u_q (by decide)]; exact z5
  rw [z6, s6.r, s15.r, am_w_in (by omega) (by omega)]
  refine ⟨g1, g1, fun c7 e7 => ?_⟩
  have s7 : c_sm (bw_W b A T x) c6 c7 := by subst e7; exact c_sm.u c6 (by unfold bw_W; omega) _ _
  have s := (s15.tr s6).tr s7
  have x7 : rw_is c7 x l := by
    have : c_sm (fun q a => q = 742 ∨ q = 243) c5 c7 := by
      refine c_sm.tr (b := c6) ?_ ?_
      · subst e6; exact c_sm.u c5 (Or.inl rfl) _ _
      · subst e7; exact c_sm.u c6 (Or.inr rfl) _ _
    exact x5.sm this (by omega) (by omega) (by omega) (by omega)
  have hxE : ∀ a ∈ C.1, ∀ e ∈ E a, e.1 ≠ x := by
    intro a ha e he w
    have h1 := ((H.2.1 a ha).mem he).2
    rw [w, H.2.2.2.2.2.2.2] at h1
    have := (h.b7 ha).2
    omega
  -- what stands in the arrays
  have vr : ∀ j : Int, c_v c7 741 A j = if j = (k : Int) then x else if (k : Int) + 1 ≤ j ∧ j < (k : Int) + 1 + (((E b).length : Int) - (k : Int)) then c_v c1 741 A (k + (j - (k + 1))) else c_v c1 741 A j := by
    intro j
    have a1 : c_v c7 741 A j = c_v c4 741 A j := by
      subst e7; rw [c_u_q (by decide)]; subst e6; rw [c_u_q (by decide), s5.v (by unfold rw_w; omega)]
    rw [a1]
    subst e4
    rw [c_v_u]
    by_cases ej : j = (k : Int)
    · rw [if_pos ⟨rfl, rfl, ej⟩, if_pos ej]
    · rw [if_neg (fun w => ej w.2.2), if_neg ej]
      subst e3
      rw [c_v_c, if_neg (by intro w; exact absurd w.1 (by decide))]
      subst e2
      rw [c_v_c]
      by_cases ek : (k : Int) + 1 ≤ j ∧ j < (k : Int) + 1 + (((E b).length : Int) - (k : Int))
      · rw [if_pos ⟨rfl, rfl, ek.1, ek.2⟩, if_pos ek]
      · rw [if_neg (fun w => ek w.2.2), if_neg ek]
  have vt : ∀ j : Int, c_v c7 742 T j = if j = (k : Int) then n else if (k : Int) + 1 ≤ j ∧ j < (k : Int) + 1 + (((E b).length : Int) - (k : Int)) then c_v c1 742 T (k + (j - (k + 1))) else c_v c1 742 T j := by
    intro j
    subst e7
    rw [c_u_q (by decide)]
    subst e6
    rw [c_v_u]
    by_cases ej : j = (k : Int)
    · rw [if_pos ⟨rfl, rfl, ej⟩, if_pos ej]
    · rw [if_neg (fun w => ej w.2.2), if_neg ej, s5.v (by unfold rw_w; omega)]
      subst e4
      rw [c_u_q (by decide)]
      subst e3
      have q2 : ∀ i, c_v c2 742 T i = c_v c1 742 T i := by
        intro i; subst e2; rw [c_v_c, if_neg (by intro w; exact absurd w.1 (by decide))]
      rw [c_v_c, q2, q2]
      by_cases ek : (k : Int) + 1 ≤ j ∧ j < (k : Int) + 1 + (((E b).length : Int) - (k : Int))
      · rw [if_pos ⟨rfl, rfl, ek.1, ek.2⟩, if_pos ek]
      · rw [if_neg (fun w => ek w.2.2), if_neg ek]
  have f7 : c_v c7 241 b 0 = A := by rw [s.v (by unfold bw_W; omega)]; exact hA
  have t7 : c_v c7 242 b 0 = T := by rw [s.v (by unfold bw_W; omega)]; exact hT
  have hF : bw_B c7 b ((E b).take k ++ (x, l, n) :: (E b).drop k) (fun y => if y = x then b else o1 y) := by
    refine ⟨by rw [s.r]; exact g1, ?_, by rw [f7, s.r]; exact g3, by rw [t7, s.r]; exact g4, by rw [f7, t7, s.l, s.l]; exact g5, by rw [f7, s.l]; exact g6, ?_, ?_, ?_, ?_, ?_⟩
    · rw [s.v (by unfold bw_W; omega)]; exact g2
    · subst e7; rw [c_u_eq, l_ins_len _ hk]; omega
    · rw [f7, s.l, l_ins_len _ hk]; omega
    · intro j e he
      have hj := (List.getElem?_eq_some_iff.mp he).1
      rw [l_ins_len _ hk] at hj
      rw [f7, t7, vr, vt]
      rcases l_ins_get hk he with ⟨hj1, he1⟩ | ⟨hj1, he1⟩ | ⟨hj1, he1⟩
      · rw [if_neg (by omega), if_neg (by omega), if_neg (by omega), if_neg (by omega)]
        exact g9 j e he1
      · subst he1; subst hj1; rw [if_pos rfl, if_pos rfl]; exact ⟨rfl, rfl⟩
      · rw [if_neg (by omega), if_pos (by omega), if_neg (by omega), if_pos (by omega)]
        have e3 : (k : Int) + ((j : Int) - ((k : Int) + 1)) = ((j - 1 : Nat) : Int) := by omega
        rw [e3]
        exact g9 (j - 1) e he1
    · have : ((E b).take k ++ (x, l, n) :: (E b).drop k).map (·.1) = ((E b).take k).map (·.1) ++ x :: ((E b).drop k).map (·.1) := by rw [List.map_append, List.map_cons]
      rw [this, List.Perm.nodup_iff List.perm_middle, ← List.map_append, List.take_append_drop, List.nodup_cons]
      refine ⟨fun hx => ?_, g10⟩
      obtain ⟨e, he, ex⟩ := List.mem_map.mp hx
      exact hxE b hb e he ex
    · intro e he
      rcases l_ins_mem he with he1 | he1
      · subst he1; exact ⟨x7, if_pos rfl⟩
      · have hex := hxE b hb e he1
        have := B1.mem he1
        (try dsimp only)
        rw [if_neg hex]
        exact ⟨this.1.sm s (by unfold bw_W; omega) (by unfold bw_W; omega) (by unfold bw_W; omega) (by unfold bw_W; omega), this.2⟩
  have epl : bw_pl c7 = bw_pl c1 := by unfold bw_pl; rw [s.l]; congr 1; subst e7; rw [c_u_q (by decide)]; subst e6; rw [c_u_q (by decide), s5.v (by unfold rw_w; omega)]; subst e4; rw [c_u_q (by decide)]; subst e3; rw [c_v_c, if_neg (by intro w; exact absurd w.1 (by decide))]; subst e2; rw [c_v_c, if_neg (by intro w; exact absurd w.1 (by decide))]
  have sP : c_sm (fun q a => (q = 243 ∧ a = b) ∨ (q = 741 ∧ a = A) ∨ (q = 742 ∧ a = T) ∨ ((q = 41 ∨ q = 42) ∧ a = x) ∨ (q = 540 ∧ a = x + 1)) c1 c7 := by
    refine c_sm.tr (b := c6) (c_sm.tr (b := c5) (c_sm.tr (b := c4) (c_sm.tr (b := c3) (c_sm.tr (b := c2) ?_ ?_) ?_) ?_) ?_) ?_
    · subst e2; exact c_sm.c c1 (by omega) _ _ _ _
    · subst e3; exact c_sm.c c2 (by omega) _ _ _ _
    · subst e4; exact c_sm.u c3 (by omega) _ _
    · exact s5.mono (fun q a hw => by unfold rw_w at hw; omega)
    · subst e6; exact c_sm.u c5 (by omega) _ _
    · subst e7; exact c_sm.u c6 (by omega) _ _
  have hP7 : bw_P c7 P1 (fun y => if y = x then b else o1 y) := by
    refine (H.1.up sP.up (by omega) (by omega) (by omega) (fun y hy => by omega) (fun y hy => ?_)).1
    have := (H.1.2.2.2.2.2.2.2 y hy).2
    (try dsimp only)
    rw [if_neg (fun w => by rw [w, H.2.2.2.2.2.2.2] at this; cases this)]
    exact this
  refine kk x c7 P1 _ (BI.gen H.2.1 H.2.2.1 H.2.2.2.2.1 H.2.2.2.2.2.1 hb hA.symm hT.symm s.up (fun a ha hab e he => ⟨hxE a ha e he, ?_⟩) hP7 hF ?_ ?_ ?_ ?_ ?_) ⟨?_, ?_⟩
  · (try dsimp only); rw [if_neg (hxE a ha e he)]; exact ((H.2.1 a ha).mem he).2
  · rw [l_ins_len _ hk, List.length_append]; show P1.length + ((E b).length + 1) = P1.length + 1 + (E b).length; omega
  · rw [l_ins_len _ hk]; omega
  · rw [epl, s.m]
  · rw [epl, s.n]; omega
  · intro y hy
    rw [s.n]
    (try dsimp only at hy)
    by_cases e : y = x
    · subst e
      have := c_r_in (c := c1) (a := y) (by rw [H.2.2.2.2.2.2.1.1]; decide)
      exact this
    · rw [if_neg e] at hy; exact H.2.2.2.1 y hy
  · refine ⟨?_, fun a ha => ?_, fun q a j ha hw => ?_⟩
    · rw [s.n]; exact u1.1
    · rw [s.r, s.l]; exact u1.2.1 a ha
    · by_cases hax : a = x ∨ a = x + 1
      · have key : o x = 7 ∨ x = c_n c ∨ c_n c ≤ x := by
          by_cases e : x < c_n c
          · by_cases e2 : o x = 7
            · exact Or.inl e2
            · exact absurd rfl (hne x e e2)
          · omega
        have hx7 : o x = 7 := by omega
        rw [sP.v (by
          intro w
          apply hw
          unfold bw_w
          rcases hax with hax | hax
          · subst hax; omega
          · subst hax
            have : x + 1 - 1 = x := by omega
            rw [this]
            omega)]
        exact bx1.1.2.2 q a j ha hw
      · rw [sP.v (by unfold bw_w at hw; omega)]
        exact bx1.1.2.2 q a j ha hw
  · intro y hy hoy
    have hyx : y ≠ x := by
      intro w
      exact (hne y hy (by rw [hoy]; decide)) w
    (try dsimp only)
    rw [if_neg hyx, ho1 y hyx]
    exact hoy
end
