set_option maxRecDepth 100000
theorem nd_len {α : Type} [DecidableEq α] : ∀ (A U : List α), A.Nodup → (∀ x ∈ A, x ∈ U) → A.length ≤ U.length := by
  intro A
  induction A with
  | nil => intro U _ _; exact Nat.zero_le _
  | cons x A ih =>
    intro U hn hs
    rw [List.nodup_cons] at hn
    have hx := hs x List.mem_cons_self
    have h1 := ih (U.erase x) hn.2 (fun y hy => (List.mem_erase_of_ne (by intro w; subst w; exact hn.1 hy)).mpr (hs y (List.mem_cons_of_mem _ hy)))
    rw [List.length_erase_of_mem hx] at h1
    have := List.length_pos_of_mem hx
    rw [List.length_cons]
    omega
section
variable {C : bw_C} {c c' c2 : cs_S} {b r x : Int} {E : Int → bw_L} {P P' PP : List Int} {o o' o2 : Int → Int} {l : rwt} {d w : Nat} {n : Int} {Q : Int → cs_S → Prop}
theorem b_ok_rn {L : List (rwt × Int)} (h : b_ok w L) : (L.map (·.1)).Nodup := by
  unfold List.Nodup
  rw [List.pairwise_map]
  refine h.2.imp (fun {x y} hxy e => ?_)
  rw [e] at hxy
  have := r_cmp_rf y.1
  omega
theorem b_ok_rn2 {L : bw_L} (h : b_ok w (L.map (·.2))) : (L.map (·.2.1)).Nodup := by
  have := b_ok_rn h
  rw [List.map_map] at this
  exact this
theorem BI.upd {F : bw_L} (I : BI C c (fun a => if a = b then F else E a) P o) : ∃ E', BI C c E' P o ∧ E' b = F ∧ ∀ a, a ≠ b → E' a = E a := ⟨_, I, if_pos rfl, fun _ h => if_neg h⟩
theorem BI.ne5 (h : BI C c E P o) : ∀ a ∈ C.1, ∀ e ∈ E a, e.1 ≠ -5 := by
  intro a ha e he w
  have h1 := ((h.bag ha).mem he).1.1.1
  have := c_r_in (c := c) (a := e.1) (by rw [h1]; decide)
  omega
theorem BI.own7 (h : BI C c E P o) {a : Int} (ha : a ∈ C.1) {e : Int × rwt × Int} (he : e ∈ E a) : o e.1 ≠ 7 := by
  rw [((h.bag ha).mem he).2]; exact (h.b7 ha).1
/-- times anew -/
theorem BI.times {k : Nat} {e : Int × rwt × Int} (h : BI C c E P o) (hb : b ∈ C.1) (hk : (E b)[k]? = some e) (v : Int) : BI C (c_u c 742 (c_v c 242 b 0) k v) (fun a => if a = b then (E b).set k (e.1, e.2.1, v) else E a) P o ∧ bx c o (c_u c 742 (c_v c 242 b 0) k v) o := by
  obtain ⟨i1, i2, i3, i4, i5, i6⟩ := id h
  have hB := h.bag hb
  have hkl := (List.getElem?_eq_some_iff.mp hk).1
  generalize e1 : c_u c 742 (c_v c 242 b 0) k v = c1
  have s0 : c_sm (fun q a => q = 742 ∧ a = c_v c 242 b 0) c c1 := by subst e1; exact c_sm.u c ⟨rfl, rfl⟩ _ _
  have s : c_sm (bw_W b (c_v c 241 b 0) (c_v c 242 b 0) (-5)) c c1 := s0.mono (fun q a hw => by unfold bw_W; omega)
  obtain ⟨g1, g2, g3, g4, g5, g6, g7, g8, g9, g10, g11⟩ := id hB
  have hF : bw_B c1 b ((E b).set k (e.1, e.2.1, v)) o := by
    have fa : c_v c1 241 b 0 = c_v c 241 b 0 := s0.v (by omega) 0
    have ft : c_v c1 242 b 0 = c_v c 242 b 0 := s0.v (by omega) 0
    refine ⟨by rw [s.r]; exact g1, by rw [s0.v (by omega)]; exact g2, by rw [fa, s.r]; exact g3, by rw [ft, s.r]; exact g4, by rw [fa, ft, s.l, s.l]; exact g5, by rw [fa, s.l]; exact g6, by rw [s0.v (by omega), List.length_set]; exact g7, by rw [fa, s.l, List.length_set]; exact g8, fun j y hy => ?_, ?_, fun y hy => ?_⟩
    · rw [fa, ft, s0.v (q := 741) (by omega)]
      rw [List.getElem?_set] at hy
      by_cases ej : k = j
      · subst ej
        rw [if_pos rfl, if_pos hkl] at hy
        cases hy
        refine ⟨(g9 k e hk).1, ?_⟩
        subst e1; rw [c_u_eq]
      · rw [if_neg ej] at hy
        refine ⟨(g9 j y hy).1, ?_⟩
        subst e1
        rw [c_u_j (by omega)]
        exact (g9 j y hy).2
    · rw [List.map_set]
      have : ((E b).map (·.1)).set k e.1 = (E b).map (·.1) := by
        apply List.ext_getElem?
        intro j
        rw [List.getElem?_set]
        by_cases ej : k = j
        · subst ej
          rw [if_pos rfl, if_pos (by rw [List.length_map]; exact hkl), List.getElem?_map, hk]
          rfl
        · rw [if_neg ej]
      rw [this]
      exact g10
    · have : y = (e.1, e.2.1, v) ∨ y ∈ E b := by
        rcases List.mem_or_eq_of_mem_set hy with w | w
        · exact Or.inr w
        · exact Or.inl w
      have key : ∀ y : Int × rwt × Int, rw_is c y.1 y.2.1 → rw_is c1 y.1 y.2.1 := fun y hy => hy.sm s0 (by omega) (by omega) (by omega) (by omega)
      rcases this with w | w
      · subst w
        have := g11 e (List.mem_of_getElem? hk)
        exact ⟨key e this.1, this.2⟩
      · exact ⟨key y (g11 y w).1, (g11 y w).2⟩
  obtain ⟨p1, p2⟩ := i1.up (o' := o) s0.up (by omega) (by omega) (by omega) (fun y _ => by omega) (fun y hy => (i1.2.2.2.2.2.2.2 y hy).2)
  refine ⟨BI.gen i2 i3 i5 i6 hb rfl rfl s.up (fun a ha _ y hy => ⟨h.ne5 a ha y hy, ((i2 a ha).mem hy).2⟩) p1 hF (by rw [List.length_set]) (by rw [List.length_set]; exact (i6.1 b hb).1) (by rw [p2, s.m]) (by rw [p2, s.n]; omega) (fun y hy => by rw [s.n]; exact i4 y hy), ⟨s0.up.mono (fun q a hw => by unfold bw_w; omega), fun _ _ w => w⟩⟩
/-- a row goes -/
theorem k_remove {k : Nat} {e : Int × rwt × Int} (h : BI C c E P o) (hb : b ∈ C.1) (hk : (E b)[k]? = some e) (kk : ∀ c' P' o', BI C c' (fun a => if a = b then (E b).take k ++ (E b).drop (k + 1) else E a) P' o' → bx c o c' o' → Q 0 c') : kbag_remove (d + 2) b k c Q := by
  obtain ⟨i1, i2, i3, i4, i5, i6⟩ := id h
  have hB := h.bag hb
  have hle := h.le hb
  have hkl := (List.getElem?_eq_some_iff.mp hk).1
  obtain ⟨g1, g2, g3, g4, g5, g6, g7, g8, g9, g10, g11⟩ := id hB
  obtain ⟨ge, go⟩ := g11 e (List.mem_of_getElem? hk)
  have hb7 := h.b7 hb
  refine u135_e ⟨g1, g1, g3, by omega, by omega, by rw [g2]; exact i1.1, ?_⟩
  rw [g2, (g9 k e hk).1]
  have xP : e.1 ∉ P := fun w => by have := (i1.2.2.2.2.2.2.2 _ w).2; rw [go] at this; exact hb7.1 this
  refine k_pgive (o' := fun y => if y = e.1 then 7 else o y) i1 ge.1 xP h.pb (fun y hy => ?_) (if_pos rfl) (fun c1 u1 p1 pm pn => ?_)
  · (try dsimp only)
    split
    · rfl
    · exact (i1.2.2.2.2.2.2.2 y hy).2
  have eb : c_r c b ≠ 0 := by rw [g1]; decide
  have ea : c_r c (c_v c 241 b 0) ≠ 0 := by rw [g3]; decide
  have et : c_r c (c_v c 242 b 0) ≠ 0 := by rw [g4]; decide
  have u1b : c_r c1 b = 1006 := u1.r g1 (by decide)
  have z1 : c_v c1 243 b 0 = ((E b).length : Int) := by rw [u1.v eb (by unfold wpool; omega)]; exact g7
  have f1 : c_v c1 241 b 0 = c_v c 241 b 0 := u1.v eb (by unfold wpool; omega) 0
  have t1 : c_v c1 242 b 0 = c_v c 242 b 0 := u1.v eb (by unfold wpool; omega) 0
  have ra : c_r c1 (c_v c 241 b 0) = 741 := u1.r g3 (by decide)
  have rt : c_r c1 (c_v c 242 b 0) = 742 := u1.r g4 (by decide)
  have la : c_l c1 (c_v c 241 b 0) = c_l c (c_v c 241 b 0) := u1.l ea
  have lt : c_l c1 (c_v c 242 b 0) = c_l c (c_v c 242 b 0) := u1.l et
  generalize hA : c_v c 241 b 0 = A at *
  generalize hT : c_v c 242 b 0 = T at *
  refine ⟨u1b, u1b, ?_⟩
  rw [z1, am_w_in (by omega) (by omega)]
  intro c2 e2
  have s2 : c_sm (fun q a => (q = 243 ∧ a = b) ∨ (q = 741 ∧ a = A) ∨ (q = 742 ∧ a = T)) c1 c2 := by subst e2; exact c_sm.u c1 (by omega) _ _
  have z2 : c_v c2 243 b 0 = ((E b).length : Int) - 1 := by subst e2; exact c_u_eq _ _ _ _ _
  have f2 : c_v c2 241 b 0 = A := by rw [s2.v (by omega)]; exact f1
  have t2 : c_v c2 242 b 0 = T := by rw [s2.v (by omega)]; exact t1
  have w1 : am_w (((E b).length : Int) - 1 - (k : Int)) = ((E b).length : Int) - 1 - (k : Int) := am_w_in (by omega) (by omega)
  have w2 : am_w ((k : Int) + 1) = (k : Int) + 1 := am_w_in (by omega) (by omega)
  rw [z2, f2, s2.r, s2.r, s2.l, w1, w2]
  refine ⟨u1b, u1b, u1b, ra, ra, by omega, by omega, by omega, by omega, by omega, fun c3 e3 => ?_⟩
  have s3 : c_sm (fun q a => (q = 243 ∧ a = b) ∨ (q = 741 ∧ a = A) ∨ (q = 742 ∧ a = T)) c2 c3 := by subst e3; exact c_sm.c c2 (by omega) _ _ _ _
  have z3 : c_v c3 243 b 0 = ((E b).length : Int) - 1 := by subst e3; rw [c_v_c, if_neg (by intro w; exact absurd w.1 (by decide))]; exact z2
  have t3 : c_v c3 242 b 0 = T := by rw [s3.v (by omega)]; exact t2
  rw [z3, t3, s3.r, s3.r, s3.l, s2.r, s2.r, s2.l, w1]
  refine ⟨u1b, u1b, u1b, rt, rt, by omega, by omega, by omega, by omega, by omega, fun c4 e4 => ?_⟩
  have s4 : c_sm (fun q a => (q = 243 ∧ a = b) ∨ (q = 741 ∧ a = A) ∨ (q = 742 ∧ a = T)) c3 c4 := by subst e4; exact c_sm.c c3 (by omega) _ _ _ _
  have s := (s2.tr s3).tr s4
  have u : c_up (bw_W b A T (-5)) c c4 := (u1.mono (fun q a hw => by unfold wpool at hw; unfold bw_W; omega)).tr (s.up.mono (fun q a hw => by unfold bw_W; omega))
  have f4 : c_v c4 241 b 0 = A := by rw [s.v (by omega)]; exact f1
  have t4 : c_v c4 242 b 0 = T := by rw [s.v (by omega)]; exact t1
  have a1 : ∀ j, c_v c1 741 A j = c_v c 741 A j := fun j => u1.v ea (by unfold wpool; omega) j
  have a2 : ∀ j, c_v c1 742 T j = c_v c 742 T j := fun j => u1.v et (by unfold wpool; omega) j
  have vr : ∀ j : Int, c_v c4 741 A j = if (k : Int) ≤ j ∧ j < (k : Int) + (((E b).length : Int) - 1 - (k : Int)) then c_v c 741 A (k + 1 + (j - k)) else c_v c 741 A j := by
    intro j
    have q2 : ∀ i, c_v c2 741 A i = c_v c 741 A i := by intro i; subst e2; rw [c_u_q (by decide)]; exact a1 i
    subst e4
    rw [c_v_c, if_neg (by intro w; exact absurd w.1 (by decide))]
    subst e3
    rw [c_v_c, q2, q2]
    by_cases ek : (k : Int) ≤ j ∧ j < (k : Int) + (((E b).length : Int) - 1 - (k : Int))
    · rw [if_pos ⟨rfl, rfl, ek.1, ek.2⟩, if_pos ek]
    · rw [if_neg (fun w => ek w.2.2), if_neg ek]
  have vt : ∀ j : Int, c_v c4 742 T j = if (k : Int) ≤ j ∧ j < (k : Int) + (((E b).length : Int) - 1 - (k : Int)) then c_v c 742 T (k + 1 + (j - k)) else c_v c 742 T j := by
    intro j
    have q2 : ∀ i, c_v c3 742 T i = c_v c 742 T i := by intro i; subst e3; rw [c_v_c, if_neg (by intro w; exact absurd w.1 (by decide))]; subst e2; rw [c_u_q (by decide)]; exact a2 i
    subst e4
    rw [c_v_c, q2, q2]
    by_cases ek : (k : Int) ≤ j ∧ j < (k : Int) + (((E b).length : Int) - 1 - (k : Int))
    · rw [if_pos ⟨rfl, rfl, ek.1, ek.2⟩, if_pos ek]
    · rw [if_neg (fun w => ek w.2.2), if_neg ek]
  have hln := l_del_len hkl
  have hsub : ∀ y ∈ (E b).take k ++ (E b).drop (k + 1), y ∈ E b ∧ y.1 ≠ e.1 := by
    intro y hy
    obtain ⟨j, hj⟩ := List.mem_iff_getElem?.mp hy
    have hnd : ∀ i : Nat, (E b)[i]? = some y → i ≠ k → y.1 ≠ e.1 := by
      intro i hi hik w
      have hp := g10
      unfold List.Nodup at hp
      rw [List.pairwise_iff_getElem] at hp
      have hi0 := (List.getElem?_eq_some_iff.mp hi).1
      have v1 : ((E b).map (·.1))[i]'(by rw [List.length_map]; exact hi0) = y.1 := by rw [List.getElem_map, (List.getElem?_eq_some_iff.mp hi).2]
      have v2 : ((E b).map (·.1))[k]'(by rw [List.length_map]; exact hkl) = e.1 := by rw [List.getElem_map, (List.getElem?_eq_some_iff.mp hk).2]
      rcases Nat.lt_or_gt_of_ne hik with q | q
      · have := hp i k (by rw [List.length_map]; exact hi0) (by rw [List.length_map]; exact hkl) q
        rw [v1, v2] at this
        exact this w
      · have := hp k i (by rw [List.length_map]; exact hkl) (by rw [List.length_map]; exact hi0) q
        rw [v1, v2] at this
        exact this w.symm
    rcases l_del_get hkl hj with ⟨q1, q2⟩ | ⟨q1, q2⟩
    · exact ⟨List.mem_of_getElem? q2, hnd j q2 (by omega)⟩
    · exact ⟨List.mem_of_getElem? q2, hnd (j + 1) q2 (by omega)⟩
  have hF : bw_B c4 b ((E b).take k ++ (E b).drop (k + 1)) (fun y => if y = e.1 then 7 else o y) := by
    refine ⟨by rw [s.r]; exact u1b, ?_, by rw [f4, s.r]; exact ra, by rw [t4, s.r]; exact rt, by rw [f4, t4, s.l, s.l, la, lt]; exact g5, by rw [f4, s.l, la]; exact g6, ?_, by rw [f4, s.l, la]; omega, fun j y hj => ?_, ?_, fun y hy => ?_⟩
    · rw [s.v (by omega), u1.v eb (by unfold wpool; omega)]; exact g2
    · subst e4; rw [c_v_c, if_neg (by intro w; exact absurd w.1 (by decide)), z3]; omega
    · rw [f4, t4, vr, vt]
      rcases l_del_get hkl hj with ⟨q1, q2⟩ | ⟨q1, q2⟩
      · rw [if_neg (by omega), if_neg (by omega)]; exact g9 j y q2
      · have := (List.getElem?_eq_some_iff.mp q2).1
        rw [if_pos (by omega), if_pos (by omega)]
        have e5 : (k : Int) + 1 + ((j : Int) - (k : Int)) = ((j + 1 : Nat) : Int) := by omega
        rw [e5]
        exact g9 (j + 1) y q2
    · have : ((E b).take k ++ (E b).drop (k + 1)).Sublist (E b) := by
        have h1 := l_split (E b) k
        have h2 : ((E b).drop (k + 1)).Sublist ((E b).drop k) := by
          have : (E b).drop (k + 1) = ((E b).drop k).drop 1 := by rw [List.drop_drop]
          rw [this]
          exact List.drop_sublist _ _
        have h3 := List.Sublist.append (List.Sublist.refl ((E b).take k)) h2
        rw [List.take_append_drop] at h3
        exact h3
      exact (this.map _).nodup g10
    · obtain ⟨q1, q2⟩ := hsub y hy
      have := g11 y q1
      (try dsimp only)
      rw [if_neg q2]
      exact ⟨this.1.up u (by unfold bw_W; omega) (by unfold bw_W; have := c_r_in (c := c) (a := y.1) (by rw [this.1.1.1]; decide); omega) (by unfold bw_W; have := c_r_in (c := c) (a := y.1) (by rw [this.1.1.1]; decide); omega) (by unfold bw_W; have := c_r_in (c := c) (a := y.1) (by rw [this.1.1.1]; decide); omega), this.2⟩
  obtain ⟨p2, p3⟩ := p1.up (o' := fun y => if y = e.1 then 7 else o y) s.up (by omega) (by omega) (by omega) (fun y _ => by omega) (fun y hy => (p1.2.2.2.2.2.2.2 y hy).2)
  refine kk c4 (P ++ [e.1]) _ (BI.gen i2 i3 i5 i6 hb hA.symm hT.symm u (fun a ha hab y hy => ⟨h.ne5 a ha y hy, ?_⟩) p2 hF ?_ ?_ ?_ ?_ ?_) ⟨?_, ?_⟩
  · have h1 := ((i2 a ha).mem hy).2
    (try dsimp only)
    rw [if_neg (fun w => by rw [w, go] at h1; exact hab h1.symm)]
    exact h1
  · rw [List.length_append]; show P.length + 1 + _ = _; omega
  · have := (i6.1 b hb).1; omega
  · rw [p3, s.m]; exact pm
  · rw [p3, s.n]; exact pn
  · intro y hy
    rw [s.n]
    have := u1.1
    (try dsimp only at hy)
    by_cases e0 : y = e.1
    · subst e0
      have := c_r_in (c := c) (a := e.1) (by rw [ge.1.1]; decide)
      omega
    · rw [if_neg e0] at hy; have := i4 y hy; omega
  · exact (u1.mono (fun q a hw => by unfold wpool at hw; unfold bw_w; omega)).tr (s.up.mono (fun q a hw => by unfold bw_w; omega))
  · intro y hy hoy
    (try dsimp only)
    rw [if_neg (fun w => by rw [w, go] at hoy; exact h.bm1 hb hoy)]
    exact hoy
end
