set_option maxRecDepth 100000
section
variable {C : bw_C} {c c' c2 : cs_S} {a b r x : Int} {E E' : Int → bw_L} {P P' PP : List Int} {o o' o2 : Int → Int} {l : rwt} {d w : Nat} {n : Int} {Q : Int → cs_S → Prop} {U : List rwt}
/-- one more at the end -/
theorem k_bapp1 (h : BI C c E P o) (hb : b ∈ C.1) (hc : ((E b).length : Int) < C.2.1 b) (hl : ((E b).length : Int) < bw_ln c b) (hr : rw_is c r l) (hor : o r ≠ 7)
    (kk : ∀ x c' P' o', BI C c' (fun a => if a = b then E b ++ [(x, l, n)] else E a) P' o' → bx c o c' o' → Q 0 c') : cw (d + 3) 140 (am_blk 140 1) [b, r, n] [] c Q := by
  have hB := h.bag hb
  have hle := h.le hb
  refine u140_1 ⟨hB.1, hB.1, hB.1, by rw [hB.2.1]; exact h.1.1, ?_⟩
  rw [hB.2.1]
  refine k_hand h hb hc (fun x c1 P1 o1 H bx1 u1 hne ho1 => ?_)
  have B1 := H.2.1 b hb
  have hrn : r < c_n c := (c_r_in (by rw [hr.1.1]; decide)).2
  have hrx : r ≠ x := hne r hrn hor
  have hr1 : rw_is c1 r l := hr.up u1 (by unfold wpool; omega) (by unfold wpool; omega) (by unfold wpool; omega) (by unfold wpool; omega)
  have fA : c_v c1 241 b 0 = c_v c 241 b 0 := u1.v (by rw [hB.1]; decide) (by unfold wpool; omega) 0
  have hl1 : ((E b).length : Int) < bw_ln c1 b := by
    unfold bw_ln at *
    rw [fA, u1.l (by rw [hB.2.2.1]; decide)]
    exact hl
  rw [← fA, hB.sz]
  obtain ⟨g1, g2, g3, g4, g5, g6, g7, g8, g9, g10, g11⟩ := id B1
  generalize hA : c_v c1 241 b 0 = A at *
  generalize hT : c_v c1 242 b 0 = T at *
  have hl2 : ((E b).length : Int) < c_l c1 A := by unfold bw_ln at hl1; rw [hA] at hl1; exact hl1
  refine ⟨g3, by omega, by omega, fun c2 e2 => ?_⟩
  have s2 : c_sm (bw_W b A T x) c1 c2 := by subst e2; exact c_sm.u c1 (by unfold bw_W; omega) _ _
  have f2 : c_v c2 241 b 0 = A := by rw [s2.v (by unfold bw_W; omega)]; exact hA
  have t2 : c_v c2 242 b 0 = T := by rw [s2.v (by unfold bw_W; omega)]; exact hT
  have z2 : c_v c2 243 b 0 = ((E b).length : Int) := by subst e2; rw [c_u_q (by decide)]; exact g7
  have x2 : c_v c2 741 A ((E b).length : Int) = x := by subst e2; exact c_u_eq _ _ _ _ _
  have ro2 : rw_ok c2 x := H.2.2.2.2.2.2.1.sm s2 (by unfold bw_W; omega)
  have hr2 : rw_is c2 r l := hr1.sm s2 (by unfold bw_W; omega) (by unfold bw_W; omega) (by unfold bw_W; omega) (by unfold bw_W; omega)
  rw [f2, z2, x2, s2.r, s2.r, s2.l]
  refine ⟨g1, g1, g3, by omega, by omega, ro2.1, k_take hr2 ro2 hrx (fun c3 s3 x3 _ => ?_)⟩
  have s3' : c_sm (bw_W b A T x) c2 c3 := s3.mono (fun q a hw => by unfold rw_w at hw; unfold bw_W; omega)
  have s13 := s2.tr s3'
  have t3 : c_v c3 242 b 0 = T := by rw [s3.v (by unfold rw_w; omega)]; exact t2
  have z3 : c_v c3 243 b 0 = ((E b).length : Int) := by rw [s3.v (by unfold rw_w; omega)]; exact z2
  rw [t3, z3, s13.r, s13.r, s13.l]
  refine ⟨g1, g1, g4, by omega, by omega, fun c6 e6 => ?_⟩
  have s6 : c_sm (bw_W b A T x) c3 c6 := by subst e6; exact c_sm.u c3 (by unfold bw_W; omega) _ _
  have z6 : c_v c6 243 b 0 = ((E b).length : Int) := by subst e6; rw [c_u_q (by decide)]; exact z3
  rw [z6, s6.r, s13.r, am_w_in (by omega) (by omega)]
  refine ⟨g1, g1, fun c7 e7 => ?_⟩
  have s7 : c_sm (bw_W b A T x) c6 c7 := by subst e7; exact c_sm.u c6 (by unfold bw_W; omega) _ _
  have s := (s13.tr s6).tr s7
  have x7 : rw_is c7 x l := by
    have : c_sm (fun q a => q = 742 ∨ q = 243) c3 c7 := by
      refine c_sm.tr (b := c6) ?_ ?_
      · subst e6; exact c_sm.u c3 (Or.inl rfl) _ _
      · subst e7; exact c_sm.u c6 (Or.inr rfl) _ _
    exact x3.sm this (by omega) (by omega) (by omega) (by omega)
  have hxE : ∀ a ∈ C.1, ∀ e ∈ E a, e.1 ≠ x := by
    intro a ha e he w
    have h1 := ((H.2.1 a ha).mem he).2
    rw [w, H.2.2.2.2.2.2.2] at h1
    have := (h.b7 ha).2
    omega
  have vr : ∀ j : Int, c_v c7 741 A j = if j = ((E b).length : Int) then x else c_v c1 741 A j := by
    intro j
    subst e7; rw [c_u_q (by decide)]; subst e6; rw [c_u_q (by decide), s3.v (by unfold rw_w; omega)]
    subst e2
    rw [c_v_u]
    by_cases ej : j = ((E b).length : Int)
    · rw [if_pos ⟨rfl, rfl, ej⟩, if_pos ej]
    · rw [if_neg (fun w => ej w.2.2), if_neg ej]
  have vt : ∀ j : Int, c_v c7 742 T j = if j = ((E b).length : Int) then n else c_v c1 742 T j := by
    intro j
    subst e7
    rw [c_u_q (by decide)]
    subst e6
    rw [c_v_u]
    by_cases ej : j = ((E b).length : Int)
    · rw [if_pos ⟨rfl, rfl, ej⟩, if_pos ej]
    · rw [if_neg (fun w => ej w.2.2), if_neg ej, s3.v (by unfold rw_w; omega)]
      subst e2
      rw [c_u_q (by decide)]
  have f7 : c_v c7 241 b 0 = A := by rw [s.v (by unfold bw_W; omega)]; exact hA
  have t7 : c_v c7 242 b 0 = T := by rw [s.v (by unfold bw_W; omega)]; exact hT
  have hF : bw_B c7 b (E b ++ [(x, l, n)]) (fun y => if y = x then b else o1 y) := by
    refine ⟨by rw [s.r]; exact g1, ?_, by rw [f7, s.r]; exact g3, by rw [t7, s.r]; exact g4, by rw [f7, t7, s.l, s.l]; exact g5, by rw [f7, s.l]; exact g6, ?_, ?_, ?_, ?_, ?_⟩
    · rw [s.v (by unfold bw_W; omega)]; exact g2
    · subst e7; rw [c_u_eq, List.length_append]; rfl
    · rw [f7, s.l, List.length_append]; show ((E b).length : Int) + 1 ≤ _; omega
    · intro j e he
      rw [f7, t7, vr, vt]
      rw [List.getElem?_append] at he
      split at he
      · rename_i hj
        rw [if_neg (by omega), if_neg (by omega)]
        exact g9 j e he
      · have hj0 : j = (E b).length := by
          have := (List.getElem?_eq_some_iff.mp he).1
          simp at this
          omega
        subst hj0
        simp at he
        subst he
        rw [if_pos rfl, if_pos rfl]; exact ⟨rfl, rfl⟩
    · rw [List.map_append, List.nodup_append]
      refine ⟨g10, by simp, fun y hy z hz w => ?_⟩
      simp at hz
      obtain ⟨e, he, ex⟩ := List.mem_map.mp hy
      exact hxE b hb e he (by rw [ex, w, hz])
    · intro e he
      rcases List.mem_append.mp he with he1 | he1
      · have hex := hxE b hb e he1
        have := B1.mem he1
        (try dsimp only)
        rw [if_neg hex]
        exact ⟨this.1.sm s (by unfold bw_W; omega) (by unfold bw_W; omega) (by unfold bw_W; omega) (by unfold bw_W; omega), this.2⟩
      · simp at he1
        subst he1; exact ⟨x7, if_pos rfl⟩
  have sP : c_sm (fun q a => (q = 243 ∧ a = b) ∨ (q = 741 ∧ a = A) ∨ (q = 742 ∧ a = T) ∨ ((q = 41 ∨ q = 42) ∧ a = x) ∨ (q = 540 ∧ a = x + 1)) c1 c7 := by
    refine c_sm.tr (b := c6) (c_sm.tr (b := c3) (c_sm.tr (b := c2) ?_ ?_) ?_) ?_
    · subst e2; exact c_sm.u c1 (by omega) _ _
    · exact s3.mono (fun q a hw => by unfold rw_w at hw; omega)
    · subst e6; exact c_sm.u c3 (by omega) _ _
    · subst e7; exact c_sm.u c6 (by omega) _ _
  obtain ⟨hP7, epl⟩ : bw_P c7 P1 (fun y => if y = x then b else o1 y) ∧ bw_pl c7 = bw_pl c1 := by
    refine H.1.up sP.up (by omega) (by omega) (by omega) (fun y hy => by omega) (fun y hy => ?_)
    have := (H.1.2.2.2.2.2.2.2 y hy).2
    (try dsimp only)
    rw [if_neg (fun w => by rw [w, H.2.2.2.2.2.2.2] at this; cases this)]
    exact this
  refine kk x c7 P1 _ (BI.gen H.2.1 H.2.2.1 H.2.2.2.2.1 H.2.2.2.2.2.1 hb hA.symm hT.symm s.up (fun a ha hab e he => ⟨hxE a ha e he, ?_⟩) hP7 hF ?_ ?_ ?_ ?_ ?_) ⟨?_, ?_⟩
  · (try dsimp only); rw [if_neg (hxE a ha e he)]; exact ((H.2.1 a ha).mem he).2
  · rw [List.length_append, List.length_append]; show P1.length + ((E b).length + 1) = P1.length + 1 + (E b).length; omega
  · rw [List.length_append]; show ((E b).length : Int) + 1 ≤ _; omega
  · rw [epl, s.m]
  · rw [epl, s.n]; omega
  · intro y hy
    rw [s.n]
    (try dsimp only at hy)
    by_cases e : y = x
    · subst e
      have := c_r_in (c := c1) (a := y) (by rw [H.2.2.2.2.2.2.1.1]; decide)
      exact this
    · rw [if_neg e] at hy; exact H.2.2.2.1 y hy
  · refine ⟨?_, fun a ha => ?_, fun q a j ha hw => ?_⟩
    · rw [s.n]; exact u1.1
    · rw [s.r, s.l]; exact u1.2.1 a ha
    · by_cases hax : a = x ∨ a = x + 1
      · have key : o x = 7 ∨ x = c_n c ∨ c_n c ≤ x := by
          by_cases e : x < c_n c
          · by_cases e2 : o x = 7
            · exact Or.inl e2
            · exact absurd rfl (hne x e e2)
          · omega
        have hx7 : o x = 7 := by omega
        rw [sP.v (by
          intro w
          apply hw
          unfold bw_w
          rcases hax with hax | hax
          · subst hax; omega
          · subst hax
            have : x + 1 - 1 = x := by omega
            rw [this]
            omega)]
        exact bx1.1.2.2 q a j ha hw
      · rw [sP.v (by unfold bw_w at hw; omega)]
        exact bx1.1.2.2 q a j ha hw
  · intro y hy hoy
    have hyx : y ≠ x := by
      intro w
      exact (hne y hy (by rw [hoy]; decide)) w
    (try dsimp only)
    rw [if_neg hyx, ho1 y hyx]
    exact hoy
theorem k_bappend (h : BI C c E P o) (hb : b ∈ C.1) (hc : ((E b).length : Int) < C.2.1 b) (hr : rw_is c r l) (hor : o r ≠ 7)
    (kk : ∀ c' E' P' o', BI C c' E' P' o' → bx c o c' o' → (∀ a, a ≠ b → E' a = E a) → bw_p (E' b) = bw_p (E b) ++ [(l, n)] → Q 0 c') : kbag_append (d + 3) b r n c Q := by
  have hB := h.bag hb
  have hle := h.le hb
  have hln := hB.len
  unfold bw_ln at hln
  have done : ∀ x c' P' o', BI C c' (fun a => if a = b then E b ++ [(x, l, n)] else E a) P' o' → bx c o c' o' → Q 0 c' := by
    intro x c' P' o' I bx1
    obtain ⟨E', I', eb, ea⟩ := I.upd
    refine kk c' E' P' o' I' bx1 ea ?_
    unfold bw_p
    rw [eb, List.map_append]
    rfl
  refine u140_e ⟨hB.1, hB.1, hB.2.2.1, by omega, fun w => ?_, fun w => ⟨hB.1, ?_⟩⟩
  · rw [hB.sz] at w
    exact k_bapp1 h hb hc (by unfold bw_ln; omega) hr hor done
  · rw [hB.sz] at w
    refine k_grow h hb (by unfold bw_ln; omega) hc (fun c1 I1 bx1 hu1 hl1 => ?_)
    have hr1 : rw_is c1 r l := hr.up hu1 (by omega) (by omega) (by omega) (by omega)
    exact k_bapp1 I1 hb hc hl1 hr1 hor (fun x c' P' o' I b2 => done x c' P' o' I (bx1.tr b2))
/-- differences by their sign -/
def b_sg (s : Int) (L : List (rwt × Int)) : List (rwt × Int) := L.filter (fun e => decide (0 < e.2 * s))
theorem k_sign0 {s : Int} (hss : s = -1 ∨ s = 1) (hb : b ∈ C.1) (ha : a ∈ C.1) (hab : a ≠ b) : ∀ (m k : Nat) (c : cs_S) (E : Int → bw_L) (P : List Int) (o : Int → Int), k + m = (E a).length → BI C c E P o → ((E b).length : Int) + (b_sg s (bw_p ((E a).drop k))).length ≤ C.2.1 b → b_m (bw_p (E a)) < 2147483648 →
    (∀ c' E' P' o' z, BI C c' E' P' o' → bx c o c' o' → (∀ a, a ≠ b → E' a = E a) → bw_p (E' b) = bw_p (E b) ++ b_sg s (bw_p ((E a).drop k)) → cw (d + 4) 139 (am_blk 139 1) [b, a, s + 2, z] [] c' Q) → cw (d + 4) 139 (am_blk 139 2) [b, a, s, (k : Int)] [] c Q := by
  intro m
  induction m with
  | zero =>
    intro k c E P o hk h hcap hm kk
    have hA := h.bag ha
    have e0 : (E a).drop k = [] := List.drop_of_length_le (by omega)
    refine u139_2 ⟨hA.1, fun _ => ?_, fun w => ?_⟩
    · have := kk c E P o (k : Int) h (bx.rf c o) (fun _ _ => rfl) (by rw [e0]; exact (List.append_nil _).symm)
      rw [am_w_in (by omega) (by omega)]
      exact this
    · rw [hA.sz] at w; omega
  | succ m ih =>
    intro k c E P o hk h hcap hm kk
    have hA := h.bag ha
    have hB := h.bag hb
    have hle := h.le ha
    have hk1 : k < (E a).length := by omega
    have hg := List.getElem?_eq_getElem hk1
    have hd := List.drop_eq_getElem_cons hk1
    generalize hE : (E a)[k] = e0 at *
    obtain ⟨ge, go, gr, gt⟩ := hA.get hg
    have hmem : e0 ∈ E a := List.mem_of_getElem? hg
    have hln := hA.len
    unfold bw_ln at hln
    have hm1 : (e0.2.2.natAbs : Int) ≤ b_m (bw_p (E a)) := b_m_mem (List.mem_map.mpr ⟨e0, hmem, rfl⟩)
    have hmul : -2147483648 ≤ e0.2.2 * s ∧ e0.2.2 * s ≤ 2147483647 := by rcases hss with q | q <;> subst q <;> omega
    have ew : am_w ((k : Int) + 1) = ((k + 1 : Nat) : Int) := by rw [am_w_in (by omega) (by omega)]; omega
    rw [hd] at kk hcap
    refine u139_2 ⟨hA.1, fun w => ?_, fun _ => ⟨hA.1, hA.2.2.2.1, by omega, by rw [hA.2.2.2.2.1]; omega, ?_⟩⟩
    · rw [hA.sz] at w; omega
    rw [gr, gt, am_w_in hmul.1 hmul.2]
    refine ⟨fun hz => u139_3 ?_, fun hz => ⟨hA.1, hA.2.2.1, by omega, by omega, hA.1, hA.2.2.2.1, by omega, by rw [hA.2.2.2.2.1]; omega, hB.1, ?_⟩⟩
    · rw [ew]
      have ef : b_sg s (bw_p (e0 :: (E a).drop (k + 1))) = b_sg s (bw_p ((E a).drop (k + 1))) := by
        unfold b_sg bw_p; rw [List.map_cons, List.filter_cons, if_neg (by simp; omega)]
      rw [ef] at kk hcap
      exact ih (k + 1) c E P o (by omega) h hcap hm kk
    · have ef : b_sg s (bw_p (e0 :: (E a).drop (k + 1))) = e0.2 :: b_sg s (bw_p ((E a).drop (k + 1))) := by
        unfold b_sg bw_p; rw [List.map_cons, List.filter_cons, if_pos (by simp; omega)]
      rw [ef] at kk hcap
      rw [List.length_cons] at hcap
      refine k_bappend (d := d) h hb (by omega) ge (by rw [go]; exact (h.b7 ha).1) (fun c1 E1 P1 o1 I1 bx1 ea1 hb1 => u139_3 ?_)
      rw [ew]
      have eA : E1 a = E a := ea1 a hab
      have hl1 : (E1 b).length = (E b).length + 1 := by
        have := congrArg List.length hb1
        simp only [bw_p, List.length_map, List.length_append, List.length_cons, List.length_nil] at this
        exact this
      refine ih (k + 1) c1 E1 P1 o1 (by rw [eA]; omega) I1 (by rw [eA, hl1]; omega) (by rw [eA]; exact hm) (fun c2 E2 P2 o2 z I2 bx2 ea2 hb2 => ?_)
      refine kk c2 E2 P2 o2 z I2 (bx1.tr bx2) (fun y hy => (ea2 y hy).trans (ea1 y hy)) ?_
      rw [hb2, hb1, eA, List.append_assoc]
      rfl
theorem k_sortBySign (h : BI C c E P o) (hb : b ∈ C.1) (ha : a ∈ C.1) (hab : a ≠ b) (hcap : ((E a).length : Int) ≤ C.2.1 b) (hm : b_m (bw_p (E a)) < 2147483648)
    (kk : ∀ c' E' P' o', BI C c' E' P' o' → bx c o c' o' → (∀ a, a ≠ b → E' a = E a) → bw_p (E' b) = b_sg (-1) (bw_p (E a)) ++ b_sg 1 (bw_p (E a)) → Q 0 c') : kbag_sortBySign (d + 4) b a c Q := by
  have hB := h.bag hb
  refine u139_e ⟨hB.1, k_bclear (d := d + 1) h hb (fun c1 E1 P1 o1 I1 bx1 ea1 eb1 => ?_)⟩
  have eA : E1 a = E a := ea1 a hab
  have lsum : ∀ L : List (rwt × Int), (b_sg (-1) L).length + (b_sg 1 L).length ≤ L.length := by
    intro L
    induction L with
    | nil => exact Nat.le_refl _
    | cons e L ih =>
      unfold b_sg at *
      rw [List.filter_cons, List.filter_cons, List.length_cons]
      by_cases p : 0 < e.2 * (-1)
      · rw [if_pos (by simp; omega), if_neg (by simp; omega), List.length_cons]; omega
      · rw [if_neg (by simp; omega)]
        by_cases p2 : 0 < e.2 * 1
        · rw [if_pos (by simp; omega), List.length_cons]; omega
        · rw [if_neg (by simp; omega)]; omega
  have hls := lsum (bw_p (E a))
  have hla : (bw_p (E a)).length = (E a).length := by unfold bw_p; rw [List.length_map]
  refine u139_1 ⟨fun w => absurd w (by decide), fun _ => ?_⟩
  refine k_sign0 (s := -1) (m := (E a).length) (k := 0) (Or.inl rfl) hb ha hab c1 E1 P1 o1 (by rw [eA]; omega) I1 (by rw [eA, eb1]; show (0 : Int) + _ ≤ _; rw [List.drop_zero]; omega) (by rw [eA]; exact hm) (fun c2 E2 P2 o2 z I2 bx2 ea2 hb2 => ?_)
  rw [eA, List.drop_zero, eb1] at hb2
  have hl2 : (E2 b).length = (b_sg (-1) (bw_p (E a))).length := by
    have := congrArg List.length hb2
    simp only [bw_p, List.length_map, List.length_append, List.map_nil, List.length_nil] at this
    rw [this]; show 0 + _ = _; unfold bw_p; omega
  have eA2 : E2 a = E a := (ea2 a hab).trans eA
  refine u139_1 ⟨fun w => absurd w (by decide), fun _ => ?_⟩
  refine k_sign0 (s := 1) (m := (E a).length) (k := 0) (Or.inr rfl) hb ha hab c2 E2 P2 o2 (by rw [eA2]; omega) I2 (by rw [eA2, hl2, List.drop_zero]; omega) (by rw [eA2]; exact hm) (fun c3 E3 P3 o3 z I3 bx3 ea3 hb3 => ?_)
  refine u139_1 ⟨fun _ => ?_, fun w => absurd (by decide) w⟩
  refine kk c3 E3 P3 o3 I3 ((bx1.tr bx2).tr bx3) (fun y hy => ((ea3 y hy).trans (ea2 y hy)).trans (ea1 y hy)) ?_
  rw [hb3, hb2, eA2, List.drop_zero]
  rfl
end
