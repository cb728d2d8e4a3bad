set_option maxRecDepth 100000
/-! bags: adding, clearing, adding all, by sign -/
abbrev bw_p (E : bw_L) : List (rwt × Int) := E.map (·.2)
theorem b_m_cons (e : rwt × Int) (L : List (rwt × Int)) : b_m (e :: L) = e.2.natAbs + b_m L := by cases e; rfl
theorem b_s_cons (g : rwt → Int) (e : rwt × Int) (L : List (rwt × Int)) : b_s g (e :: L) = e.2 * g e.1 + b_s g L := by cases e; rfl
section
variable {C : bw_C} {c c' c2 : cs_S} {a b r x : Int} {E E' : Int → bw_L} {P P' PP : List Int} {o o' o2 : Int → Int} {l : rwt} {d w : Nat} {n : Int} {Q : Int → cs_S → Prop} {U : List rwt}
theorem bw_room1 (hs : b_ok w (bw_p (E b))) (hU : ∀ e ∈ E b, e.2.1 ∈ U) (hlU : l ∈ U) (hno : ∀ e ∈ E b, e.2.1 ≠ l) : (E b).length + 1 ≤ U.length := by
  have := nd_len (l :: (E b).map (·.2.1)) U (by
    rw [List.nodup_cons]
    refine ⟨fun w => ?_, b_ok_rn2 hs⟩
    obtain ⟨e, he, ee⟩ := List.mem_map.mp w
    exact hno e he ee) (fun y hy => by
    rcases List.mem_cons.mp hy with w | w
    · subst w; exact hlU
    · obtain ⟨e, he, ee⟩ := List.mem_map.mp w
      subst ee
      exact hU e he)
  rw [List.length_cons, List.length_map] at this
  exact this
theorem k_add (h : BI C c E P o) (hb : b ∈ C.1) (hs : b_ok w (bw_p (E b))) (hr : rw_is c r l) (hl : l.length = w) (hor : o r ≠ 7) (hU : ∀ e ∈ E b, e.2.1 ∈ U) (hlU : l ∈ U) (hcap : (U.length : Int) ≤ C.2.1 b) (hm : b_m (bw_p (E b)) + n.natAbs < 2147483648)
    (kk : ∀ c' E' P' o', BI C c' E' P' o' → bx c o c' o' → (∀ a, a ≠ b → E' a = E a) → b_ok w (bw_p (E' b)) → (∀ g, b_s g (bw_p (E' b)) = b_s g (bw_p (E b)) + n * g l) → b_m (bw_p (E' b)) ≤ b_m (bw_p (E b)) + n.natAbs → (∀ e ∈ E' b, e.2.1 ∈ U) → (E' b).length ≤ (E b).length + 1 → Q 0 c') : kbag_add (d + 4) b r n c Q := by
  have hB := h.bag hb
  have hle := h.le hb
  have hB' := id hB
  obtain ⟨g1, g2, g3, g4, g5, g6, g7, g8, g9, g10, g11⟩ := hB'
  -- a new row
  have hin : n ≠ 0 → ∀ k, b_at (E b) l k → (∀ e, (E b)[k]? = some e → e.2.1 ≠ l) → cw (d + 4) 133 (am_blk 133 3) [b, r, n, (k : Int), 0] [] c Q := by
    intro hn0 k hk hno
    have hno2 : ∀ e ∈ E b, e.2.1 ≠ l := by
      intro e he w
      have h0 := b_at_no hk hs hno
      have := b_s_mem (l := l) (m := e.2.2) hs (List.mem_map.mpr ⟨e, he, by rw [← w]⟩)
      rw [h0] at this
      have h1 := (hs.1 e.2 (List.mem_map.mpr ⟨e, he, rfl⟩)).2
      omega
    have hrm := bw_room1 hs hU hlU hno2
    have hA : ∀ y ∈ ((E b).take k).map (·.2), r_cmp y.1 l < 0 := by
      intro y hy
      obtain ⟨e, he, ee⟩ := List.mem_map.mp hy
      subst ee
      obtain ⟨j, hj⟩ := List.mem_iff_getElem?.mp he
      rw [List.getElem?_take] at hj
      split at hj
      · rename_i hjk; exact hk.2.1 j e hj hjk
      · cases hj
    have hD : ∀ y ∈ ((E b).drop k).map (·.2), r_cmp l y.1 < 0 := by
      intro y hy
      obtain ⟨e, he, ee⟩ := List.mem_map.mp hy
      subst ee
      obtain ⟨j, hj⟩ := List.mem_iff_getElem?.mp he
      rw [List.getElem?_drop] at hj
      have hlt : k < (E b).length := by have := (List.getElem?_eq_some_iff.mp hj).1; omega
      have hg := List.getElem?_eq_getElem hlt
      obtain ⟨a1, a2⟩ := b_at_in hs hl hk hg
      exact a2 (fun w => hno _ hg (a1.mp w)) (k + j) e hj (by omega)
    have done : ∀ x c' P' o', BI C c' (fun a => if a = b then (E b).take k ++ (x, l, n) :: (E b).drop k else E a) P' o' → bx c o c' o' → Q 0 c' := by
      intro x c' P' o' I bx1
      obtain ⟨E', I', eb, ea⟩ := I.upd
      have ep : bw_p (E' b) = ((E b).take k).map (·.2) ++ (l, n) :: ((E b).drop k).map (·.2) := by unfold bw_p; rw [eb, List.map_append, List.map_cons]
      have e0 : bw_p (E b) = ((E b).take k).map (·.2) ++ ((E b).drop k).map (·.2) := by unfold bw_p; rw [← List.map_append, List.take_append_drop]
      have hs0 := hs
      rw [e0] at hs0
      refine kk c' E' P' o' I' bx1 ea ?_ (fun g => ?_) ?_ ?_ ?_
      · rw [ep]; exact b_ok_new hs0 hl hA hD hn0
      · rw [ep, e0]; exact b_s_new
      · rw [ep, e0, b_m_new]; omega
      · intro e he
        rw [eb] at he
        rcases l_ins_mem he with w | w
        · subst w; exact hlU
        · exact hU e w
      · rw [eb, l_ins_len _ hk.1]; omega
    refine u133_3 ⟨g1, g1, g3, by omega, fun w => ?_, fun w => ⟨g1, ?_⟩⟩
    · rw [g7] at w
      exact k_ins (d := d + 1) h hb (by omega) (by unfold bw_ln; omega) hk.1 hr hor done
    · rw [g7] at w
      refine k_grow h hb (by unfold bw_ln; omega) (by omega) (fun c1 I1 bx1 hu1 hl1 => ?_)
      have hr1 : rw_is c1 r l := hr.up hu1 (by omega) (by omega) (by omega) (by omega)
      exact k_ins (d := d + 1) I1 hb (by omega) hl1 hk.1 hr1 hor (fun x c' P' o' I b2 => done x c' P' o' I (bx1.tr b2))
  by_cases hn0 : n = 0
  · refine u133_e ⟨fun w => absurd hn0 w, fun _ => kk c E P o h (bx.rf c o) (fun _ _ => rfl) hs (fun g => ?_) (by omega) hU (by omega)⟩
    subst hn0; rw [Int.zero_mul]; omega
  refine u133_e ⟨fun _ => ⟨g1, k_find hB hs hr hl (by omega) (fun k hk => ⟨g1, fun hle => ?_, fun hlt => ?_⟩)⟩, fun w => absurd hn0 w⟩
  · rw [g7] at hle
    exact hin hn0 k hk (fun e he => by have := (List.getElem?_eq_some_iff.mp he).1; omega)
  · rw [g7] at hlt
    have hk1 : k < (E b).length := by omega
    have hg := List.getElem?_eq_getElem hk1
    obtain ⟨ge, go, gr, gt⟩ := hB.get hg
    have hw := b_ok_w hs hg
    obtain ⟨a1, a2⟩ := b_at_in hs hl hk hg
    refine ⟨g1, g3, by omega, by omega, ?_⟩
    rw [gr]
    refine ⟨ge.1.1, k_compareTo ge hr (by omega) ⟨fun hne => hin hn0 k hk (fun e he => by rw [hg] at he; cases he; exact fun w => hne (a1.mpr w)), fun heq => ⟨g1, g4, by omega, by omega, g4, by omega, by omega, fun c1 e1 => ?_⟩⟩⟩
    have el : (E b)[k].2.1 = l := a1.mp (by omega)
    rw [gt] at e1
    generalize hE : (E b)[k] = e0 at *
    have hmem : e0 ∈ E b := List.mem_of_getElem? hg
    have hm1 : (e0.2.2.natAbs : Int) ≤ b_m (bw_p (E b)) := b_m_mem (List.mem_map.mpr ⟨e0, hmem, rfl⟩)
    rw [am_w_in (by omega) (by omega)] at e1
    obtain ⟨I1, bx1⟩ := h.times hb hg (e0.2.2 + n)
    rw [← e1] at I1 bx1
    obtain ⟨E1, I1, eb1, ea1⟩ := I1.upd
    have B1 := I1.bag hb
    have hset : (E b).set k (e0.1, e0.2.1, e0.2.2 + n) = (E b).take k ++ (e0.1, e0.2.1, e0.2.2 + n) :: (E b).drop (k + 1) := by
      rw [List.set_eq_take_append_cons_drop, if_pos hk1]
    have hgE1 : (E1 b)[k]? = some (e0.1, e0.2.1, e0.2.2 + n) := by rw [eb1, List.getElem?_set, if_pos rfl, if_pos hk1]
    obtain ⟨q1, q2⟩ := B1.at hgE1
    have e0s : bw_p (E b) = ((E b).take k).map (·.2) ++ (l, e0.2.2) :: ((E b).drop (k + 1)).map (·.2) := by
      unfold bw_p
      have : (E b) = (E b).take k ++ e0 :: (E b).drop (k + 1) := by
        have h1 := l_split (E b) k
        rw [List.drop_eq_getElem_cons hk1, hE] at h1
        exact h1
      rw [congrArg (List.map (·.2)) this, List.map_append, List.map_cons]
      congr 1
      congr 1
      rw [← el]
    have hs0 := hs
    rw [e0s] at hs0
    have r1 : c_r c1 b = 1006 := B1.1
    have rt1 := B1.2.2.2.1
    have lt1 : (k : Int) < c_l c1 (c_v c1 242 b 0) := by rw [B1.2.2.2.2.1]; have := B1.len; unfold bw_ln at this; rw [eb1, List.length_set] at this; omega
    refine ⟨r1, rt1, by omega, lt1, fun hz => u133_2 ?_, fun hz => ⟨r1, ?_⟩⟩
    · rw [q2] at hz
      have ep : bw_p (E1 b) = ((E b).take k).map (·.2) ++ (l, e0.2.2 + n) :: ((E b).drop (k + 1)).map (·.2) := by
        unfold bw_p; rw [eb1, hset, List.map_append, List.map_cons, ← el]
      refine kk c1 E1 P o I1 bx1 ea1 ?_ (fun g => ?_) ?_ ?_ ?_
      · rw [ep]; exact b_ok_set hs0 hz
      · rw [ep, e0s]; exact b_s_set
      · rw [ep, e0s]; exact b_m_set
      · intro e he
        rw [eb1] at he
        rcases List.mem_or_eq_of_mem_set he with w | w
        · exact hU e w
        · subst w; exact hU e0 hmem
      · rw [eb1, List.length_set]; omega
    · rw [q2] at hz
      have hz : ¬ (e0.2.2 + n ≠ 0) := hz
      refine k_remove (d := d + 1) I1 hb hgE1 (fun c2 P2 o2 I2 bx2 => u133_2 ?_)
      obtain ⟨E2, I2, eb2, ea2⟩ := I2.upd
      have ek : (E1 b).take k ++ (E1 b).drop (k + 1) = (E b).take k ++ (E b).drop (k + 1) := by
        rw [eb1, hset]
        have hlk : ((E b).take k).length = k := by rw [List.length_take]; omega
        rw [List.take_append_of_le_length (by omega), List.take_of_length_le (by omega), List.drop_append, hlk]
        have : k + 1 - k = 1 := by omega
        rw [this, List.drop_of_length_le (by omega)]
        rfl
      rw [ek] at eb2
      have ep : bw_p (E2 b) = ((E b).take k).map (·.2) ++ ((E b).drop (k + 1)).map (·.2) := by unfold bw_p; rw [eb2, List.map_append]
      refine kk c2 E2 P2 o2 I2 (bx1.tr bx2) (fun a ha => (ea2 a ha).trans (ea1 a ha)) ?_ (fun g => ?_) ?_ ?_ ?_
      · rw [ep]; exact b_ok_del hs0
      · rw [ep, e0s]; exact b_s_del (m := e0.2.2) (n := n) (by omega)
      · rw [ep, e0s]; have := b_m_del (A := ((E b).take k).map (·.2)) (B := ((E b).drop (k + 1)).map (·.2)) (e := (l, e0.2.2)); omega
      · intro e he
        rw [eb2] at he
        rcases List.mem_append.mp he with w | w
        · exact hU e (List.mem_of_mem_take w)
        · exact hU e (List.mem_of_mem_drop w)
      · rw [eb2]; have := l_del_len hk1; omega
/-- none any more -/
theorem k_bclear0 (hb : b ∈ C.1) : ∀ (m : Nat) (c : cs_S) (E : Int → bw_L) (P : List Int) (o : Int → Int), (E b).length = m → BI C c E P o → (∀ c' E' P' o', BI C c' E' P' o' → bx c o c' o' → (∀ a, a ≠ b → E' a = E a) → E' b = [] → Q 0 c') → cw (d + 2) 129 (am_blk 129 0) [b] [] c Q := by
  intro m
  induction m with
  | zero =>
    intro c E P o hm h kk
    have hB := h.bag hb
    refine u129_0 ⟨hB.1, fun _ => kk c E P o h (bx.rf c o) (fun _ _ => rfl) (List.length_eq_zero_iff.mp hm), fun w => ?_⟩
    rw [hB.sz] at w; omega
  | succ m ih =>
    intro c E P o hm h kk
    have hB := h.bag hb
    have hle := h.le hb
    obtain ⟨i1, i2, i3, i4, i5, i6⟩ := id h
    obtain ⟨g1, g2, g3, g4, g5, g6, g7, g8, g9, g10, g11⟩ := id hB
    refine u129_0 ⟨g1, fun w => ?_, fun _ => ⟨g1, g1, ?_⟩⟩
    · rw [g7] at w; omega
    rw [g7, am_w_in (by omega) (by omega)]
    intro c1 e1
    have s1 : c_sm (fun q a => q = 243 ∧ a = b) c c1 := by subst e1; exact c_sm.u c ⟨rfl, rfl⟩ _ _
    have hk1 : m < (E b).length := by omega
    have hg := List.getElem?_eq_getElem hk1
    generalize hE : (E b)[m] = e0 at *
    obtain ⟨ge, go⟩ := g11 e0 (List.mem_of_getElem? hg)
    have f1 : c_v c1 241 b 0 = c_v c 241 b 0 := s1.v (by omega) 0
    have t1 : c_v c1 242 b 0 = c_v c 242 b 0 := s1.v (by omega) 0
    have z1 : c_v c1 243 b 0 = (m : Int) := by subst e1; rw [c_u_eq]; omega
    have p1 : c_v c1 240 b 0 = 7 := by rw [s1.v (by omega)]; exact g2
    have v1 : c_v c1 741 (c_v c 241 b 0) m = e0.1 := by rw [s1.v (by omega)]; exact (g9 m e0 hg).1
    rw [f1, z1, p1, v1, s1.r, s1.r, s1.l, s1.r]
    have hb7 := h.b7 hb
    have xP : e0.1 ∉ P := fun w => by have := (i1.2.2.2.2.2.2.2 _ w).2; rw [go] at this; exact hb7.1 this
    obtain ⟨P1, P2⟩ := i1.up (o' := o) s1.up (by omega) (by omega) (by omega) (fun y _ => by omega) (fun y hy => (i1.2.2.2.2.2.2.2 y hy).2)
    refine ⟨g1, g1, g1, g3, by omega, by omega, i1.1, k_pgive (o' := fun y => if y = e0.1 then 7 else o y) P1 (ge.1.sm s1 (by omega)) xP h.pb (fun y hy => ?_) (if_pos rfl) (fun c2 u2 p2 pm pn => ?_)⟩
    · (try dsimp only)
      split
      · rfl
      · exact (i1.2.2.2.2.2.2.2 y hy).2
    have u : c_up (bw_W b (c_v c 241 b 0) (c_v c 242 b 0) (-5)) c c2 := (s1.up.mono (fun q a hw => by unfold bw_W; omega)).tr (u2.mono (fun q a hw => by unfold wpool at hw; unfold bw_W; omega))
    have eb : c_r c b ≠ 0 := by rw [g1]; decide
    have eb1 : c_r c1 b ≠ 0 := by rw [s1.r]; exact eb
    have ea : c_r c (c_v c 241 b 0) ≠ 0 := by rw [g3]; decide
    have et : c_r c (c_v c 242 b 0) ≠ 0 := by rw [g4]; decide
    have f2 : c_v c2 241 b 0 = c_v c 241 b 0 := u.v eb (by unfold bw_W; omega) 0
    have t2 : c_v c2 242 b 0 = c_v c 242 b 0 := u.v eb (by unfold bw_W; omega) 0
    have hsub : ∀ y ∈ (E b).take m, y ∈ E b ∧ y.1 ≠ e0.1 := by
      intro y hy
      refine ⟨List.mem_of_mem_take hy, fun w => ?_⟩
      have hsp : E b = (E b).take m ++ [e0] := by
        have h1 := l_split (E b) m
        rw [List.drop_eq_getElem_cons hk1, hE, List.drop_of_length_le (by omega)] at h1
        exact h1
      have hnd := g10
      rw [hsp, List.map_append, List.nodup_append] at hnd
      exact hnd.2.2 y.1 (List.mem_map.mpr ⟨y, hy, rfl⟩) e0.1 (by simp) w
    have hlt : ((E b).take m).length = m := by rw [List.length_take]; omega
    have hF : bw_B c2 b ((E b).take m) (fun y => if y = e0.1 then 7 else o y) := by
      refine ⟨u.r g1 (by decide), ?_, by rw [f2]; exact u.r g3 (by decide), by rw [t2]; exact u.r g4 (by decide), by rw [f2, t2, u.l ea, u.l et]; exact g5, by rw [f2, u.l ea]; exact g6, ?_, by rw [f2, u.l ea]; omega, fun j y hj => ?_, ?_, fun y hy => ?_⟩
      · rw [u.v eb (by unfold bw_W; omega)]; exact g2
      · rw [u2.v eb1 (by unfold wpool; omega), z1, hlt]
      · have hj0 := (List.getElem?_eq_some_iff.mp hj).1
        rw [hlt] at hj0
        rw [List.getElem?_take_of_lt hj0] at hj
        rw [f2, t2, u2.v (by rw [s1.r]; exact ea) (by unfold wpool; omega), u2.v (by rw [s1.r]; exact et) (by unfold wpool; omega), s1.v (by omega), s1.v (by omega)]
        exact g9 j y hj
      · exact ((List.take_sublist m (E b)).map _).nodup g10
      · obtain ⟨q1, q2⟩ := hsub y hy
        have h1 := g11 y q1
        have := c_r_in (c := c) (a := y.1) (by rw [h1.1.1.1]; decide)
        (try dsimp only)
        rw [if_neg q2]
        exact ⟨h1.1.up u (by unfold bw_W; omega) (by unfold bw_W; omega) (by unfold bw_W; omega) (by unfold bw_W; omega), h1.2⟩
    have hgen : BI C c2 (fun a => if a = b then (E b).take m else E a) (P ++ [e0.1]) (fun y => if y = e0.1 then 7 else o y) := by
      refine BI.gen i2 i3 i5 i6 hb rfl rfl u (fun a ha hab y hy => ⟨h.ne5 a ha y hy, ?_⟩) p2 hF ?_ ?_ ?_ ?_ ?_
      · have h1 := ((i2 a ha).mem hy).2
        (try dsimp only)
        rw [if_neg (fun w => by rw [w, go] at h1; exact hab h1.symm)]
        exact h1
      · rw [List.length_append, hlt, hm]; show P.length + 1 + m = _; omega
      · have := (i6.1 b hb).1; rw [hlt]; omega
      · rw [P2, s1.m] at pm; exact pm
      · rw [P2, s1.n] at pn; exact pn
      · intro y hy
        have := u.1
        (try dsimp only at hy)
        by_cases e3 : y = e0.1
        · subst e3
          have := c_r_in (c := c) (a := e0.1) (by rw [ge.1.1]; decide)
          omega
        · rw [if_neg e3] at hy; have := i4 y hy; omega
    obtain ⟨E2, I2, eb2, ea2⟩ := hgen.upd
    refine ih c2 E2 _ _ (by rw [eb2, hlt]) I2 (fun c' E' P' o' I bx1 q1 q2 => kk c' E' P' o' I (bx.tr ⟨?_, ?_⟩ bx1) (fun a ha => (q1 a ha).trans (ea2 a ha)) q2)
    · exact (s1.up.mono (fun q a hw => by unfold bw_w; omega)).tr (u2.mono (fun q a hw => by unfold wpool at hw; unfold bw_w; omega))
    · intro y hy hoy
      (try dsimp only)
      rw [if_neg (fun w => by rw [w, go] at hoy; exact h.bm1 hb hoy)]
      exact hoy
theorem k_bclear (h : BI C c E P o) (hb : b ∈ C.1) (kk : ∀ c' E' P' o', BI C c' E' P' o' → bx c o c' o' → (∀ a, a ≠ b → E' a = E a) → E' b = [] → Q 0 c') : kbag_clear (d + 2) b c Q := by
  have := k_bclear0 (Q := Q) (d := d) hb (E b).length c E P o rfl h kk
  exact this
/-- all of a bag -/
theorem k_addAll0 (hb : b ∈ C.1) (ha : a ∈ C.1) (hab : a ≠ b) : ∀ (m k : Nat) (c : cs_S) (E : Int → bw_L) (P : List Int) (o : Int → Int), k + m = (E a).length → BI C c E P o → b_ok w (bw_p (E b)) → (∀ e ∈ E a, e.2.1.length = w) → (∀ e ∈ E b, e.2.1 ∈ U) → (∀ e ∈ E a, e.2.1 ∈ U) → (U.length : Int) ≤ C.2.1 b → b_m (bw_p (E b)) + b_m (bw_p ((E a).drop k)) < 2147483648 →
    (∀ c' E' P' o', BI C c' E' P' o' → bx c o c' o' → (∀ a, a ≠ b → E' a = E a) → b_ok w (bw_p (E' b)) → (∀ g, b_s g (bw_p (E' b)) = b_s g (bw_p (E b)) + b_s g (bw_p ((E a).drop k))) → b_m (bw_p (E' b)) ≤ b_m (bw_p (E b)) + b_m (bw_p ((E a).drop k)) → (∀ e ∈ E' b, e.2.1 ∈ U) → Q 0 c') → cw (d + 5) 137 (am_blk 137 1) [b, a, (k : Int)] [] c Q := by
  intro m
  induction m with
  | zero =>
    intro k c E P o hk h hs hw hU1 hU2 hcap hm kk
    have hA := h.bag ha
    have e0 : (E a).drop k = [] := List.drop_of_length_le (by omega)
    refine u137_1 ⟨hA.1, fun _ => kk c E P o h (bx.rf c o) (fun _ _ => rfl) hs (fun g => ?_) ?_ hU1, fun w => ?_⟩
    · rw [e0]; show _ = _ + 0; omega
    · rw [e0]; show _ ≤ _ + 0; omega
    · rw [hA.sz] at w; omega
  | succ m ih =>
    intro k c E P o hk h hs hw hU1 hU2 hcap hm kk
    have hA := h.bag ha
    have hB := h.bag hb
    have hle := h.le ha
    have hk1 : k < (E a).length := by omega
    have hg := List.getElem?_eq_getElem hk1
    have hd := List.drop_eq_getElem_cons hk1
    generalize hE : (E a)[k] = e0 at *
    obtain ⟨ge, go, gr, gt⟩ := hA.get hg
    have hmem : e0 ∈ E a := List.mem_of_getElem? hg
    have hln := hA.len
    unfold bw_ln at hln
    rw [hd] at hm
    simp only [bw_p, List.map_cons, b_m_cons] at hm
    have hpos := b_m_pos (L := ((E a).drop (k + 1)).map (·.2))
    refine u137_1 ⟨hA.1, fun w => ?_, fun _ => ⟨hA.1, hA.2.2.1, by omega, by omega, hA.1, hA.2.2.2.1, by omega, by rw [hA.2.2.2.2.1]; omega, hB.1, ?_⟩⟩
    · rw [hA.sz] at w; omega
    rw [gr, gt]
    refine k_add h hb hs ge (hw e0 hmem) (by rw [go]; exact (h.b7 ha).1) hU1 (hU2 e0 hmem) hcap (by simp only [bw_p]; omega) (fun c1 E1 P1 o1 I1 bx1 ea1 hs1 hb1 hm1 hU3 _ => ?_)
    have eA : E1 a = E a := ea1 a hab
    have ew : am_w ((k : Int) + 1) = ((k + 1 : Nat) : Int) := by rw [am_w_in (by omega) (by omega)]; omega
    rw [ew]
    simp only [bw_p] at hm1
    refine ih (k + 1) c1 E1 P1 o1 (by rw [eA]; omega) I1 hs1 (by rw [eA]; exact hw) hU3 (by rw [eA]; exact hU2) hcap (by rw [eA]; simp only [bw_p]; omega) (fun c2 E2 P2 o2 I2 bx2 ea2 hs2 hb2 hm2 hU4 => ?_)
    refine kk c2 E2 P2 o2 I2 (bx1.tr bx2) (fun y hy => (ea2 y hy).trans (ea1 y hy)) hs2 (fun g => ?_) ?_ hU4
    · rw [hb2, hb1, eA, hd]; simp only [bw_p, List.map_cons, b_s_cons]; omega
    · rw [eA] at hm2; rw [hd]; simp only [bw_p, List.map_cons, b_m_cons] at *; omega
theorem k_addAll (h : BI C c E P o) (hb : b ∈ C.1) (ha : a ∈ C.1) (hab : a ≠ b) (hs : b_ok w (bw_p (E b))) (hw : ∀ e ∈ E a, e.2.1.length = w) (hU1 : ∀ e ∈ E b, e.2.1 ∈ U) (hU2 : ∀ e ∈ E a, e.2.1 ∈ U) (hcap : (U.length : Int) ≤ C.2.1 b) (hm : b_m (bw_p (E b)) + b_m (bw_p (E a)) < 2147483648)
    (kk : ∀ c' E' P' o', BI C c' E' P' o' → bx c o c' o' → (∀ a, a ≠ b → E' a = E a) → b_ok w (bw_p (E' b)) → (∀ g, b_s g (bw_p (E' b)) = b_s g (bw_p (E b)) + b_s g (bw_p (E a))) → b_m (bw_p (E' b)) ≤ b_m (bw_p (E b)) + b_m (bw_p (E a)) → (∀ e ∈ E' b, e.2.1 ∈ U) → Q 0 c') : kbag_addAll (d + 5) b a c Q :=
  u137_e (k_addAll0 (k := 0) (m := (E a).length) hb ha hab c E P o (by omega) h hs hw hU1 hU2 hcap hm kk)
/-- how many -/
theorem k_total0 {E : bw_L} (h : bw_B c b E o) (hE : (E.length : Int) ≤ 400000) (hm : b_m (bw_p E) < 2147483648) (kk : Q (b_s (fun _ => 1) (bw_p E)) c) : ∀ (m k : Nat) (t : Int), k + m = E.length → t = b_s (fun _ => 1) (bw_p (E.take k)) → cw d 141 (am_blk 141 1) [b, t, (k : Int)] [] c Q := by
  have bd : ∀ L : List (rwt × Int), (b_s (fun _ => 1) L).natAbs ≤ b_m L := by
    intro L
    induction L with
    | nil => decide
    | cons e L ih => obtain ⟨y, n⟩ := e; simp only [b_s, b_m]; omega
  intro m
  induction m with
  | zero =>
    intro k t hk ht
    refine u141_1 ⟨h.1, fun _ => ?_, fun w => ?_⟩
    · rw [List.take_of_length_le (by omega)] at ht
      rw [ht]; exact kk
    · rw [h.sz] at w; omega
  | succ m ih =>
    intro k t hk ht
    have hk1 : k < E.length := by omega
    have hg := List.getElem?_eq_getElem hk1
    have hln := h.len
    unfold bw_ln at hln
    have et : b_s (fun _ => 1) (bw_p (E.take (k + 1))) = t + E[k].2.2 := by
      rw [ht, List.take_succ_eq_append_getElem hk1]
      simp only [bw_p, List.map_append, List.map_cons, List.map_nil]
      rw [b_s_app, b_s_cons]
      show _ + (_ + 0) = _
      omega
    have hb1 := bd (bw_p (E.take (k + 1)))
    have hb2 : b_m (bw_p (E.take (k + 1))) ≤ b_m (bw_p E) := by
      have h1 := l_split E (k + 1)
      have h2 : bw_p E = bw_p (E.take (k + 1)) ++ bw_p (E.drop (k + 1)) := by simp only [bw_p]; rw [← List.map_append, ← h1]
      rw [h2, b_m_app]
      have := b_m_pos (L := bw_p (E.drop (k + 1)))
      omega
    refine u141_1 ⟨h.1, fun w => ?_, fun _ => ⟨h.1, h.2.2.2.1, by omega, by rw [h.2.2.2.2.1]; omega, ?_⟩⟩
    · rw [h.sz] at w; omega
    have ew : am_w ((k : Int) + 1) = ((k + 1 : Nat) : Int) := by rw [am_w_in (by omega) (by omega)]; omega
    rw [(h.at hg).2, ew, am_w_in (by omega) (by omega)]
    exact ih (k + 1) _ (by omega) et.symm
theorem k_total {E : bw_L} (h : bw_B c b E o) (hE : (E.length : Int) ≤ 400000) (hm : b_m (bw_p E) < 2147483648) (kk : Q (b_s (fun _ => 1) (bw_p E)) c) : kbag_total d b c Q :=
  u141_e (k_total0 h hE hm kk E.length 0 0 (by omega) rfl)
end
