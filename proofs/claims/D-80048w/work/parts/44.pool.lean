set_option maxRecDepth 100000
/-! states that grew, alike but for places written -/
def c_up (W : Nat → Int → Prop) (c c' : cs_S) : Prop := c_n c ≤ c_n c' ∧ (∀ a, a < c_n c → c_r c' a = c_r c a ∧ c_l c' a = c_l c a) ∧ ∀ q a j, a < c_n c → ¬ W q a → c_v c' q a j = c_v c q a j
section
variable {W V : Nat → Int → Prop} {c c' c2 : cs_S}
theorem c_up.rf (W : Nat → Int → Prop) (c : cs_S) : c_up W c c := ⟨Int.le_refl _, fun _ _ => ⟨rfl, rfl⟩, fun _ _ _ _ _ => rfl⟩
theorem c_up.tr (h1 : c_up W c c') (h2 : c_up W c' c2) : c_up W c c2 :=
  ⟨Int.le_trans h1.1 h2.1, fun a ha => ⟨(h2.2.1 a (Int.lt_of_lt_of_le ha h1.1)).1.trans (h1.2.1 a ha).1, (h2.2.1 a (Int.lt_of_lt_of_le ha h1.1)).2.trans (h1.2.1 a ha).2⟩, fun q a j ha w => (h2.2.2 q a j (Int.lt_of_lt_of_le ha h1.1) w).trans (h1.2.2 q a j ha w)⟩
theorem c_up.mono (h : c_up W c c') (hw : ∀ q a, W q a → V q a) : c_up V c c' := ⟨h.1, h.2.1, fun q a j ha w => h.2.2 q a j ha (fun u => w (hw q a u))⟩
theorem c_sm.up (h : c_sm W c c') : c_up W c c' := ⟨Int.le_of_eq h.n.symm, fun a _ => ⟨h.r a, h.l a⟩, fun q a j _ w => h.v w j⟩
theorem c_up.r (h : c_up W c c') {a : Int} {k : Nat} (hr : c_r c a = k) (hk : k ≠ 0) : c_r c' a = k := by
  have := (c_r_in (by rw [hr]; exact hk)).2
  rw [(h.2.1 a this).1, hr]
theorem c_up.l (h : c_up W c c') {a : Int} (hr : c_r c a ≠ 0) : c_l c' a = c_l c a := (h.2.1 a (c_r_in hr).2).2
theorem c_up.v (h : c_up W c c') {q : Nat} {a : Int} (hr : c_r c a ≠ 0) (w : ¬ W q a) (j : Int) : c_v c' q a j = c_v c q a j := h.2.2 q a j (c_r_in hr).2 w
theorem c_up.u {q : Nat} {b : Int} (c : cs_S) (w : W q b) (j v : Int) : c_up W c (c_u c q b j v) := (c_sm.u c w j v).up
theorem c_up.cp {rs rd : Nat} {t : Int} (c : cs_S) (w : W rd t) (s sp dp n : Int) : c_up W c (c_c c rs s sp rd t dp n) := (c_sm.c c w s sp dp n).up
theorem c_up.o (c : cs_S) (h : 0 ≤ c_n c) (ci : Nat) : c_up W c (c_o c ci) := by
  refine ⟨by show c.1 ≤ c.1 + 1; omega, fun a ha => ⟨?_, rfl⟩, fun q a j ha _ => ?_⟩
  · rw [c_r_o c h]; exact if_neg (by unfold c_n at ha; omega)
  · rw [c_v_o]; exact if_neg (by omega)
theorem c_up.a (c : cs_S) (h : 0 ≤ c_n c) (r : Nat) (k z : Int) : c_up W c (c_a c r k z) := by
  refine ⟨by show c.1 ≤ c.1 + 1; omega, fun a ha => ⟨?_, ?_⟩, fun q a j ha _ => ?_⟩
  · rw [c_r_a c h]; exact if_neg (by unfold c_n at ha; omega)
  · rw [c_l_a]; exact if_neg (by omega)
  · rw [c_v_a]; exact if_neg (by omega)
theorem c_n_o (c : cs_S) (ci : Nat) : c_n (c_o c ci) = c_n c + 1 := rfl
theorem c_n_a (c : cs_S) (r : Nat) (k z : Int) : c_n (c_a c r k z) = c_n c + 1 := rfl
theorem c_n_u (c : cs_S) (q : Nat) (b j v : Int) : c_n (c_u c q b j v) = c_n c := rfl
theorem c_m_o (c : cs_S) (ci : Nat) : c_m (c_o c ci) = c_m c + (am_fn ci : Int) := rfl
theorem c_m_a (c : cs_S) (r : Nat) (k z : Int) : c_m (c_a c r k z) = c_m c + k := rfl
theorem c_m_u (c : cs_S) (q : Nat) (b j v : Int) : c_m (c_u c q b j v) = c_m c := rfl
theorem c_r_on (c : cs_S) (h : 0 ≤ c_n c) (ci : Nat) : c_r (c_o c ci) (c_n c) = 1000 + ci := by rw [c_r_o c h]; exact if_pos rfl
theorem c_r_an (c : cs_S) (h : 0 ≤ c_n c) (r : Nat) (k z : Int) : c_r (c_a c r k z) (c_n c) = r := by rw [c_r_a c h]; exact if_pos rfl
theorem c_l_an (c : cs_S) (r : Nat) (k z : Int) : c_l (c_a c r k z) (c_n c) = k := by rw [c_l_a]; exact if_pos rfl
theorem rw_ok.up {r : Int} (h : rw_ok c r) (u : c_up W c c') (w : ¬ W 40 r) : rw_ok c' r := by
  refine ⟨u.r h.1 (by decide), ?_, u.r h.2.2.1 (by decide), ?_⟩
  · rw [u.v (by rw [h.1]; decide) w]; exact h.2.1
  · rw [u.l (by rw [h.2.2.1]; decide)]; exact h.2.2.2
theorem rw_is.up {r : Int} {l : rwt} (h : rw_is c r l) (u : c_up W c c') (w : ¬ W 40 r) (w1 : ¬ W 41 r) (w2 : ¬ W 42 r) (w3 : ¬ W 540 (r + 1)) : rw_is c' r l := by
  have hr : c_r c r ≠ 0 := by rw [h.1.1]; decide
  have hr1 : c_r c (r + 1) ≠ 0 := by rw [h.1.2.2.1]; decide
  refine ⟨h.1.up u w, ?_, h.2.2.1, ?_, fun k x hk => ?_⟩
  · rw [u.v hr w2]; exact h.2.1
  · rw [u.v hr w1]; exact h.2.2.2.1
  · rw [u.v hr1 w3]; exact h.2.2.2.2 k x hk
end
/-! the pool: rows that nobody has -/
def bw_P (c : cs_S) (P : List Int) (o : Int → Int) : Prop :=
  c_r c 7 = 1002 ∧ c_r c (c_v c 80 7 0) = 580 ∧ (∃ j : Nat, c_l c (c_v c 80 7 0) = 64 * 2 ^ j) ∧ c_v c 81 7 0 = (P.length : Int) ∧ (P.length : Int) ≤ c_l c (c_v c 80 7 0)
  ∧ (∀ (k : Nat) (x : Int), P[k]? = some x → c_v c 580 (c_v c 80 7 0) k = x) ∧ P.Nodup ∧ ∀ x ∈ P, rw_ok c x ∧ o x = 7
def bw_pl (c : cs_S) : Int := c_l c (c_v c 80 7 0)
/-- what the pool's acts write -/
def wpool (q : Nat) (a : Int) : Prop := (a = 7 ∧ (q = 80 ∨ q = 81)) ∨ q = 580
section
variable {W : Nat → Int → Prop} {c c' : cs_S} {P : List Int} {o o' : Int → Int} {x : Int} {d : Nat} {Q : Int → cs_S → Prop}
theorem bw_P.up (h : bw_P c P o) (u : c_up W c c') (w1 : ¬ W 80 7) (w2 : ¬ W 81 7) (w3 : ¬ W 580 (c_v c 80 7 0)) (w4 : ∀ x ∈ P, ¬ W 40 x) (ho : ∀ x ∈ P, o' x = 7) : bw_P c' P o' ∧ bw_pl c' = bw_pl c := by
  obtain ⟨h1, h2, h3, h4, h5, h6, h7, h8⟩ := h
  have e7 : c_r c 7 ≠ 0 := by rw [h1]; decide
  have ea : c_r c (c_v c 80 7 0) ≠ 0 := by rw [h2]; decide
  have ev := u.v e7 w1 0
  refine ⟨⟨u.r h1 (by decide), ?_, ?_, ?_, ?_, ?_, h7, fun x hx => ⟨(h8 x hx).1.up u (w4 x hx), ho x hx⟩⟩, ?_⟩
  · rw [ev]; exact u.r h2 (by decide)
  · rw [ev, u.l ea]; exact h3
  · rw [u.v e7 w2]; exact h4
  · rw [ev, u.l ea]; exact h5
  · intro k y hk; rw [ev, u.v ea w3]; exact h6 k y hk
  · unfold bw_pl; rw [ev, u.l ea]
theorem rw_new (h : 0 ≤ c_n c) (kk : ∀ c', c_up (fun _ _ => False) c c' → c_n c' = c_n c + 2 → c_m c' = c_m c + 27 → rw_is c' (c_n c) [] → Q 0 c') : krow_init (d + 1) (c_n c) (c_o c 1) Q := by
  have ro := c_r_on c h 1
  have h1 : 0 ≤ c_n (c_o c 1) := by rw [c_n_o]; omega
  refine u25_e ⟨by rw [ro]; decide, by decide, by decide, h1, fun c1 e1 => ?_⟩
  have u1 : c_up (fun _ _ => False) (c_o c 1) c1 := by subst e1; exact c_up.a _ h1 _ _ _
  refine ⟨u1.r ro (by decide), fun c2 e2 => ?_⟩
  have u2 : c_up (fun q b => q = 40 ∧ b = c_n c) c1 c2 := by subst e2; exact c_up.u c1 ⟨rfl, rfl⟩ _ _
  have u0 : c_up (fun _ _ => False) c (c_o c 1) := c_up.o c h 1
  have hn1 : c_n c1 = c_n c + 2 := by subst e1; rw [c_n_a, c_n_o]; omega
  have hr1 : c_r c1 (c_n c + 1) = 540 := by subst e1; exact c_r_an (c_o c 1) h1 _ _ _
  have hl1 : c_l c1 (c_n c + 1) = 24 := by subst e1; exact c_l_an (c_o c 1) _ _ _
  refine kk c2 ⟨?_, ?_, ?_⟩ ?_ ?_ ⟨⟨?_, ?_, ?_, ?_⟩, ?_, by decide, ?_, fun k x hk => by simp at hk⟩
  · subst e2; rw [c_n_u, hn1]; omega
  · intro a ha
    have a1 := u0.2.1 a ha
    have a2 := u1.2.1 a (by rw [c_n_o]; omega)
    subst e2
    exact ⟨a2.1.trans a1.1, a2.2.trans a1.2⟩
  · intro q a j ha _
    have a1 := u0.2.2 q a j ha (fun w => w)
    have a2 := u1.2.2 q a j (by rw [c_n_o]; omega) (fun w => w)
    subst e2
    rw [c_u_b (by omega), a2, a1]
  · subst e2; rw [c_n_u, hn1]
  · subst e2; subst e1; rw [c_m_u, c_m_a, c_m_o]; show c_m c + 3 + 24 = _; omega
  · subst e2; exact u1.r ro (by decide)
  · subst e2; rw [c_u_eq]; rfl
  · subst e2; exact hr1
  · subst e2; exact hl1
  · subst e2
    rw [c_u_q (by decide), u1.2.2 _ _ _ (by rw [c_n_o]; omega) (fun w => w), c_v_o, if_pos rfl]
    rfl
  · subst e2
    rw [c_u_q (by decide), u1.2.2 _ _ _ (by rw [c_n_o]; omega) (fun w => w), c_v_o, if_pos rfl]
    rfl
/-- a row is taken: the last one, or a new one -/
theorem k_ptake (h : bw_P c P o) (hb : (P.length : Int) ≤ 400000)
    (k1 : ∀ P' x c', P = P' ++ [x] → c_sm wpool c c' → bw_P c' P' o → bw_pl c' = bw_pl c → Q x c')
    (k2 : ∀ c', P = [] → c_up (fun _ _ => False) c c' → c_n c' = c_n c + 2 → c_m c' = c_m c + 27 → rw_is c' (c_n c) [] → bw_P c' [] o → bw_pl c' = bw_pl c → Q (c_n c) c') : kpool_take (d + 2) 7 c Q := by
  obtain ⟨h1, h2, h3, h4, h5, h6, h7, h8⟩ := id h
  refine u38_e ⟨h1, fun w => ⟨h1, h1, fun c1 e1 => ?_⟩, fun w => ?_⟩
  · rw [h4] at w
    have hne : P ≠ [] := by intro e; subst e; exact w rfl
    have eP := (List.dropLast_concat_getLast hne).symm
    have hlen : P.dropLast.length + 1 = P.length := by rw [List.length_dropLast]; have := List.length_pos_iff.mpr hne; omega
    have s1 : c_sm wpool c c1 := by subst e1; exact c_sm.u c (by unfold wpool; omega) _ _
    have z1 : c_v c1 81 7 0 = (P.dropLast.length : Int) := by
      subst e1; rw [c_u_eq, h4, am_w_in (by omega) (by omega)]; omega
    have a1 : c_v c1 80 7 0 = c_v c 80 7 0 := by subst e1; exact c_u_q (by decide) _ _ _ _ _
    have v1 : ∀ j, c_v c1 580 (c_v c 80 7 0) j = c_v c 580 (c_v c 80 7 0) j := by intro j; subst e1; exact c_u_q (by decide) _ _ _ _ _
    have r1 : c_r c1 7 = 1002 := by rw [s1.r]; exact h1
    refine ⟨r1, r1, ?_⟩
    rw [a1, z1, s1.r, s1.l, v1]
    refine ⟨h2, by omega, by omega, ?_⟩
    have hg : P[P.dropLast.length]? = some (P.getLast hne) := by
      have : (P.dropLast ++ [P.getLast hne])[P.dropLast.length]? = some (P.getLast hne) := by
        rw [List.getElem?_append_right (Nat.le_refl _), Nat.sub_self]
        rfl
      rw [← eP] at this
      exact this
    rw [h6 _ _ hg]
    refine k1 _ _ c1 eP s1 ⟨r1, by rw [a1, s1.r]; exact h2, by rw [a1, s1.l]; exact h3, z1, by rw [a1, s1.l]; omega, ?_, ?_, ?_⟩ (by unfold bw_pl; rw [a1, s1.l])
    · intro k y hk
      rw [a1, v1]
      refine h6 k y ?_
      rw [eP, List.getElem?_append_left (List.getElem?_eq_some_iff.mp hk).1]
      exact hk
    · exact List.Sublist.nodup (List.dropLast_sublist P) h7
    · intro y hy
      have := h8 y (List.dropLast_subset P hy)
      exact ⟨this.1.sm s1 (by unfold wpool; omega), this.2⟩
  · rw [h4] at w
    have hP : P = [] := by
      cases P with
      | nil => rfl
      | cons y P => exfalso; apply w; rw [List.length_cons]; omega
    have hn : 0 ≤ c_n c := by have := c_r_in (c := c) (a := 7) (by rw [h1]; decide); omega
    refine ⟨hn, fun c2 e2 => ⟨by subst e2; exact c_r_on c hn 1, ?_⟩⟩
    subst e2
    refine rw_new hn (fun c3 u n3 m3 r3 => ?_)
    subst hP
    obtain ⟨b1, b2⟩ := h.up (o' := o) u (fun w => w) (fun w => w) (fun w => w) (fun _ _ w => w) (fun x hx => (h8 x hx).2)
    exact k2 c3 rfl u n3 m3 r3 b1 b2
theorem k_pgive (h : bw_P c P o) (hx : rw_ok c x) (hxP : x ∉ P) (hb : (P.length : Int) < 400000) (ho : ∀ y ∈ P, o' y = 7) (ho' : o' x = 7)
    (kk : ∀ c', c_up wpool c c' → bw_P c' (P ++ [x]) o' → c_m c' - 2 * bw_pl c' = c_m c - 2 * bw_pl c → c_n c' - bw_pl c' ≤ c_n c - bw_pl c → Q 0 c') : kpool_give (d + 1) 7 x c Q := by
  obtain ⟨h1, h2, h3, h4, h5, h6, h7, h8⟩ := id h
  have hn : 0 ≤ c_n c := by have := c_r_in (c := c) (a := 7) (by rw [h1]; decide); omega
  -- the push, once there is room
  have push : ∀ (c1 : cs_S) (z : Int), c_up wpool c c1 → bw_P c1 P o → (P.length : Int) < bw_pl c1 → c_m c1 - 2 * bw_pl c1 = c_m c - 2 * bw_pl c → c_n c1 - bw_pl c1 ≤ c_n c - bw_pl c → cw (d + 1) 37 (am_blk 37 1) [7, x, z] [] c1 Q := by
    intro c1 z u1 g hlt hm hn1
    obtain ⟨g1, g2, g3, g4, g5, g6, g7, g8⟩ := id g
    refine u37_1 ⟨g1, g1, g2, by rw [g4]; omega, by rw [g4]; exact hlt, fun c2 e2 => ?_⟩
    have s2 : c_sm wpool c1 c2 := by subst e2; exact c_sm.u c1 (by unfold wpool; omega) _ _
    have a2 : c_v c2 80 7 0 = c_v c1 80 7 0 := by subst e2; exact c_u_q (by decide) _ _ _ _ _
    have z2 : c_v c2 81 7 0 = (P.length : Int) := by subst e2; rw [c_u_q (by decide)]; exact g4
    refine ⟨by rw [s2.r]; exact g1, by rw [s2.r]; exact g1, fun c3 e3 => ?_⟩
    have s3 : c_sm wpool c2 c3 := by subst e3; exact c_sm.u c2 (by unfold wpool; omega) _ _
    have a3 : c_v c3 80 7 0 = c_v c1 80 7 0 := by subst e3; rw [c_u_q (by decide)]; exact a2
    have s : c_sm wpool c1 c3 := s2.tr s3
    have z3 : c_v c3 81 7 0 = ((P ++ [x]).length : Int) := by
      subst e3; rw [c_u_eq, z2, am_w_in (by omega) (by omega), List.length_append]; rfl
    have epl : bw_pl c3 = bw_pl c1 := by unfold bw_pl; rw [a3, s.l]
    refine kk c3 (u1.tr s.up) ⟨by rw [s.r]; exact g1, by rw [a3, s.r]; exact g2, by rw [a3, s.l]; exact g3, z3, ?_, ?_, ?_, ?_⟩ (by rw [epl, s.m]; exact hm) (by rw [epl, s.n]; exact hn1)
    · rw [a3, s.l, List.length_append]; unfold bw_pl at hlt; show (P.length : Int) + 1 ≤ _; omega
    · intro k y hk
      rw [a3]
      subst e3
      rw [c_u_q (by decide)]
      subst e2
      rw [g4]
      rw [List.getElem?_append] at hk
      split at hk
      · rename_i hk2
        rw [c_u_j (by omega)]
        exact g6 k y hk
      · have hk0 : k = P.length := by
          have := (List.getElem?_eq_some_iff.mp hk).1
          simp at this
          omega
        subst hk0
        rw [c_u_eq]
        simpa using hk
    · rw [List.nodup_append]
      refine ⟨g7, by simp, fun a ha b hb => ?_⟩
      simp at hb
      subst hb
      intro e
      subst e
      exact hxP ha
    · intro y hy
      rcases List.mem_append.mp hy with hy | hy
      · exact ⟨(g8 y hy).1.sm s (by unfold wpool; omega), ho y hy⟩
      · simp at hy
        subst hy
        exact ⟨(hx.up u1 (by unfold wpool; omega)).sm s (by unfold wpool; omega), ho'⟩
  refine u37_e ⟨h1, h1, h2, by omega, fun w => push c 0 (c_up.rf _ c) h ?_ rfl (Int.le_refl _), fun w => ?_⟩
  · rw [h4] at w; unfold bw_pl; omega
  · have w : (P.length : Int) = c_l c (c_v c 80 7 0) := by rw [h4] at w; omega
    have hpos : 64 ≤ (P.length : Int) := by
      obtain ⟨j, hj⟩ := h3
      rw [w, hj]
      have : (0 : Int) < 2 ^ j := Int.pow_pos (by decide)
      omega
    have e2 : am_w (2 * c_v c 81 7 0) = 2 * (P.length : Int) := by rw [h4, am_w_in (by omega) (by omega)]
    rw [e2]
    refine ⟨h1, by omega, by omega, hn, fun c1 e1 => ?_⟩
    have u1 : c_up (fun _ _ => False) c c1 := by subst e1; exact c_up.a c hn _ _ _
    have n1 : c_r c1 (c_n c) = 580 := by subst e1; exact c_r_an c hn _ _ _
    have l1 : c_l c1 (c_n c) = 2 * (P.length : Int) := by subst e1; exact c_l_an c _ _ _
    have ea : c_r c (c_v c 80 7 0) ≠ 0 := by rw [h2]; decide
    have e7 : c_r c 7 ≠ 0 := by rw [h1]; decide
    have av : c_v c1 80 7 0 = c_v c 80 7 0 := u1.v e7 (fun w => w) 0
    have zv : c_v c1 81 7 0 = (P.length : Int) := by rw [u1.v e7 (fun w => w)]; exact h4
    have r7 := u1.r h1 (by decide)
    rw [av, zv, u1.l ea, l1]
    refine ⟨r7, r7, u1.r h2 (by decide), n1, by omega, by decide, by decide, by omega, by omega, fun c2 e2 => ?_⟩
    have s2 : c_sm wpool c1 c2 := by subst e2; exact c_sm.c c1 (by unfold wpool; omega) _ _ _ _
    refine ⟨by rw [s2.r]; exact r7, fun c3 e3 => ?_⟩
    have s3 : c_sm wpool c2 c3 := by subst e3; exact c_sm.u c2 (by unfold wpool; omega) _ _
    have s : c_sm wpool c1 c3 := s2.tr s3
    have a3 : c_v c3 80 7 0 = c_n c := by subst e3; exact c_u_eq _ _ _ _ _
    have u : c_up wpool c c3 := (u1.mono (fun _ _ w => w.elim)).tr s.up
    have epl : bw_pl c3 = 2 * bw_pl c := by unfold bw_pl; rw [a3, s.l, l1, w]
    refine push c3 _ u ⟨by rw [s.r]; exact r7, by rw [a3, s.r]; exact n1, ?_, ?_, ?_, ?_, h7, fun y hy => ⟨(h8 y hy).1.up u (by unfold wpool; omega), (h8 y hy).2⟩⟩ ?_ ?_ ?_
    · obtain ⟨j, hj⟩ := h3
      refine ⟨j + 1, ?_⟩
      rw [a3, s.l, l1, w, hj, Int.pow_succ]
      omega
    · subst e3; rw [c_u_q (by decide)]; subst e2; rw [c_v_c, if_neg (by intro w; exact absurd w.1 (by decide))]; exact zv
    · rw [a3, s.l, l1]; omega
    · intro k y hk
      have hk0 := (List.getElem?_eq_some_iff.mp hk).1
      rw [a3]
      subst e3
      rw [c_u_q (by decide)]
      subst e2
      rw [c_v_c, if_pos ⟨rfl, rfl, by omega, by omega⟩, u1.v ea (fun w => w)]
      have : (0 : Int) + ((k : Int) - 0) = (k : Int) := by omega
      rw [this]
      exact h6 k y hk
    · rw [epl]; unfold bw_pl; omega
    · rw [epl, s.m]; subst e1; rw [c_m_a]; unfold bw_pl; omega
    · rw [epl, s.n]; subst e1; rw [c_n_a]; unfold bw_pl; omega
end
