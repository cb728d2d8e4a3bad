set_option maxRecDepth 100000
/-! QUERIES are made -/
def vq0 : vQry := ([], (-1, [], -2))
def qr_f : List Nat := [320, 321, 322, 326, 327, 330, 331]
def q_add (r : vQry) (x : Nat × Int × Int) : vQry := (q_sls r ++ [x], r.2)
/-- pointers to its lists -/
def q_pt (c c' : cs_S) (A : Int) : Prop := c_v c' 320 A 0 = c_v c 320 A 0 ∧ c_v c' 321 A 0 = c_v c 321 A 0 ∧ c_v c' 322 A 0 = c_v c 322 A 0
section
variable {d i : Nat} {c0 c c' : cs_S} {A pl x1 x2 x3 : Int} {Q : Int → cs_S → Prop} {Z : gZ} {W : Nat → Int → Prop} {r : vQry} {sa : Nat → Int}
theorem qrA.nz (h : qrA c A) : c_r c A ≠ 0 ∧ c_r c (c_v c 320 A 0) ≠ 0 ∧ c_r c (c_v c 321 A 0) ≠ 0 ∧ c_r c (c_v c 322 A 0) ≠ 0 := by
  obtain ⟨h1, h2, ⟨h3, h4, h5⟩, h6⟩ := h
  exact ⟨by rw [h1]; decide, by rw [h3]; decide, by rw [h4]; decide, by rw [h5]; decide⟩
theorem qrA.pt (h : qrA c A) (u : c_up W c c') (hw : ∀ f ∈ qr_f, ¬ W f A) : q_pt c c' A := by
  have z := h.nz.1
  exact ⟨u.v z (hw _ (by decide)) 0, u.v z (hw _ (by decide)) 0, u.v z (hw _ (by decide)) 0⟩
theorem qrA.up (h : qrA c A) (u : c_up W c c') (hw : ∀ f ∈ qr_f, ¬ W f A) : qrA c' A ∧ q_ln c' A = q_ln c A := by
  obtain ⟨e1, e2, e3⟩ := h.pt u hw
  obtain ⟨z0, z1, z2, z3⟩ := h.nz
  obtain ⟨h1, h2, ⟨h3, h4, h5⟩, h6, h7, h8⟩ := h
  have hf : ∀ t ∈ qr_t, t.1 ∈ qr_f := by decide
  unfold qrA q_ln
  rw [e1, e2, e3, u.l z1, u.l z2, u.l z3]
  refine ⟨⟨u.r h1 (by decide), fun t ht => ?_, ⟨u.r h3 (by decide), u.r h4 (by decide), u.r h5 (by decide)⟩, h6, h7, h8⟩, rfl⟩
  obtain ⟨a1, a2, a3⟩ := h2 t ht
  exact ⟨by rw [u.v z0 (hw _ (hf t ht))]; exact a1, u.r a2 (by omega), by rw [u.l (by rw [a2]; omega)]; exact a3⟩
/-- its contents stay -/
theorem qryC.up (h : qryC c sa A r) (hq : qrA c A) (u : c_up W c c') (hw : ∀ f : Nat, 320 ≤ f → f ≤ 328 → ¬ W f A) (w1 : ¬ W 820 (c_v c 320 A 0)) (w2 : ¬ W 821 (c_v c 321 A 0)) (w3 : ¬ W 822 (c_v c 322 A 0)) (w4 : ¬ W 826 (A + 4)) (w5 : ¬ W 827 (A + 5)) : qryC c' sa A r := by
  obtain ⟨z0, z1, z2, z3⟩ := hq.nz
  have v : ∀ f : Nat, 320 ≤ f → f ≤ 328 → c_v c' f A 0 = c_v c f A 0 := fun f h1 h2 => u.v z0 (hw f h1 h2) 0
  have q4 : c_v c 326 A 0 = A + 4 ∧ c_r c (A + 4) = 826 ∧ c_l c (A + 4) = 8 := hq.2.1 (326, 4, 8) (by decide)
  have q5 : c_v c 327 A 0 = A + 5 ∧ c_r c (A + 5) = 827 ∧ c_l c (A + 5) = 8 := hq.2.1 (327, 5, 8) (by decide)
  obtain ⟨⟨h1, h2, h3, h4⟩, h5, ⟨h6, h7, h8⟩, h9⟩ := h
  unfold qryC
  rw [v _ (by omega) (by omega), v _ (by omega) (by omega), v _ (by omega) (by omega), v _ (by omega) (by omega), v _ (by omega) (by omega), v _ (by omega) (by omega), v _ (by omega) (by omega), u.l z1]
  refine ⟨⟨h1, h2, h3, fun k x hx => ?_⟩, h5, ⟨h6, h7, fun k x hx => ?_⟩, h9⟩
  · rw [u.v z1 w1, u.v z2 w2, u.v z3 w3]; exact h4 k x hx
  · rw [u.v (by rw [q4.2.1]; decide) w4, u.v (by rw [q5.2.1]; decide) w5]; exact h8 k x hx
theorem k_qryinit (h : 0 ≤ c_n c) (kk : ∀ c', c_up (fun _ _ => False) c c' → c_n c' = c_n c + 8 → c_m c' = c_m c + 51 → qrA c' (c_n c) → q_ln c' (c_n c) = 2 → (c_v c' 320 (c_n c) 0 = c_n c + 1 ∧ c_v c' 321 (c_n c) 0 = c_n c + 2 ∧ c_v c' 322 (c_n c) 0 = c_n c + 3) → Q 0 c') : kqry_init (d + 1) (c_n c) (c_o c 8) Q := by
  have h0 := ob_new h (ci := 8)
  refine u250_e ⟨by rw [h0.1]; decide, ?_⟩
  refine ob_step (f := 320) (w := 1) h0 (by decide) (fun t ht => (List.not_mem_nil ht).elim) rfl (by decide) (by decide) (by decide) rfl (fun c2 h2 => ?_)
  refine ob_step (f := 321) (w := 2) h2 (by decide) (by unfold obF; decide) rfl (by decide) (by decide) (by decide) rfl (fun c3 h3 => ?_)
  refine ob_step (f := 322) (w := 3) h3 (by decide) (by unfold obF; decide) rfl (by decide) (by decide) (by decide) rfl (fun c4 h4 => ?_)
  refine ob_fld (f := 324) h4 (by unfold obF; decide) rfl (fun c5 h5 => ?_)
  refine ob_step (f := 326) (w := 4) h5 (by decide) (by unfold obF; decide) rfl (by decide) (by decide) (by decide) rfl (fun c6 h6 => ?_)
  refine ob_step (f := 327) (w := 5) h6 (by decide) (by unfold obF; decide) rfl (by decide) (by decide) (by decide) rfl (fun c7 h7 => ?_)
  refine ob_step (f := 330) (w := 6) h7 (by decide) (by unfold obF; decide) rfl (by decide) (by decide) (by decide) rfl (fun c8 h8 => ?_)
  refine ob_step (f := 331) (w := 7) h8 (by decide) (by unfold obF; decide) rfl (by decide) (by decide) (by decide) rfl (fun c9 h9 => ?_)
  obtain ⟨g1, g2, g3, g4, g5, g6⟩ := h9
  have a1 : c_v c9 320 (c_n c) 0 = c_n c + 1 ∧ c_r c9 (c_n c + 1) = 820 ∧ c_l c9 (c_n c + 1) = 2 := g6 (320, 1, 2) (by decide)
  have a2 : c_v c9 321 (c_n c) 0 = c_n c + 2 ∧ c_r c9 (c_n c + 2) = 821 ∧ c_l c9 (c_n c + 2) = 2 := g6 (321, 2, 2) (by decide)
  have a3 : c_v c9 322 (c_n c) 0 = c_n c + 3 ∧ c_r c9 (c_n c + 3) = 822 ∧ c_l c9 (c_n c + 3) = 2 := g6 (322, 3, 2) (by decide)
  refine kk c9 g4 (by rw [g2]; show _ + 1 + (7 : Int) = _; omega) (by rw [g5]; exact congrArg (c_m c + ·) (by decide)) ⟨g1, fun t ht => g6 t ?_, ?_, ?_⟩ ?_ ⟨a1.1, a2.1, a3.1⟩
  · revert t; decide
  · rw [a1.1, a2.1, a3.1]; exact ⟨a1.2.1, a2.2.1, a3.2.1⟩
  · rw [a1.1, a2.1, a3.1, a1.2.2, a2.2.2, a3.2.2]; decide
  · unfold q_ln; rw [a1.1, a1.2.2]
def qcW (A : Int) (q : Nat) (a : Int) : Prop := a = A ∧ (q = 323 ∨ q = 324 ∨ q = 325 ∨ q = 329)
theorem k_qryclear (h : qrA c A) (kk : ∀ c', c_sm (qcW A) c c' → (∀ sa, qryC c' sa A vq0) → Q 0 c') : kqry_clear d A c Q := by
  have hr := h.1
  refine u251_e ⟨hr, fun c1 e1 => ⟨by rw [e1]; exact hr, fun c2 e2 => ⟨by rw [e2, e1]; exact hr, fun c3 e3 => ⟨by rw [e3, e2, e1]; exact hr, fun c4 e4 => ?_⟩⟩⟩⟩
  have s : c_sm (qcW A) c c4 := by
    rw [e4, e3, e2, e1]
    exact (((c_sm.u c (by unfold qcW; omega) _ _).tr (c_sm.u _ (by unfold qcW; omega) _ _)).tr (c_sm.u _ (by unfold qcW; omega) _ _)).tr (c_sm.u _ (by unfold qcW; omega) _ _)
  have hl := h.2.2.2.2.2
  refine kk c4 s (fun sa => ⟨⟨?_, by decide, ?_, fun k x hx => by simp [q_sls, vq0] at hx⟩, ?_, ⟨?_, by decide, fun k x hx => by simp [q_ors, vq0] at hx⟩, fun w => absurd rfl w⟩)
  · rw [e4, e3, e2, e1]; simp [c_v, c_u, q_sls, vq0]
  · rw [s.v (by unfold qcW; omega), s.l]; show (0 : Int) ≤ _; omega
  · rw [e4, e3, e2, e1]; simp [c_v, c_u, q_ord, vq0]
  · rw [e4, e3, e2, e1]; simp [c_v, c_u, q_ors, vq0]
/-- a SELECT more in a QUERY -/
def qaW (c : cs_S) (A : Int) (q : Nat) (a : Int) : Prop := (a = A ∧ (q = 320 ∨ q = 321 ∨ q = 322 ∨ q = 323)) ∨ (q = 820 ∧ a = c_v c 320 A 0) ∨ (q = 821 ∧ a = c_v c 321 A 0) ∨ (q = 822 ∧ a = c_v c 322 A 0)
def q_fr (c c' : cs_S) (A : Int) : Prop := c_n c ≤ c_v c' 320 A 0 ∧ c_n c ≤ c_v c' 321 A 0 ∧ c_n c ≤ c_v c' 322 A 0
theorem k_qryadd1 (h : qrA c A) (hC : qryC c sa A r) (hl : ((q_sls r).length : Int) < q_ln c A) (hx : x1 = sa i) {z1 z2 z3 : Int} (kk : ∀ c', c_sm (qaW c A) c c' → qrA c' A → q_pt c c' A → qryC c' sa A (q_add r (i, x2, x3)) → Q 0 c') : cw (d + 1) 252 (am_blk 252 1) [A, x1, x2, x3, z1, z2, z3] [] c Q := by
  obtain ⟨z0, n1, n2, n3⟩ := h.nz
  obtain ⟨h1, h2, ⟨h3, h4, h5⟩, h6, h7, h8⟩ := id h
  obtain ⟨⟨g1, g2, g3, g4⟩, g5, ⟨g6, g7, g8⟩, g9⟩ := id hC
  have hl' : ((q_sls r).length : Int) < c_l c (c_v c 320 A 0) := hl
  refine u252_1 ⟨h1, h1, h3, by omega, by omega, fun c1 e1 => ?_⟩
  rw [g1] at e1
  have w1 : ∀ q a j, q ≠ 820 → c_v c1 q a j = c_v c q a j := fun q a j hq => by rw [e1, c_u_q hq]
  have r1 : ∀ a, c_r c1 a = c_r c a := fun a => by rw [e1]; rfl
  have l1 : ∀ a, c_l c1 a = c_l c a := fun a => by rw [e1]; rfl
  rw [w1 _ _ _ (by omega), w1 _ _ _ (by omega), g1, r1, r1, l1]
  refine ⟨h1, h1, h4, by omega, by omega, fun c2 e2 => ?_⟩
  have w2 : ∀ q a j, q ≠ 820 → q ≠ 821 → c_v c2 q a j = c_v c q a j := fun q a j hq hq2 => by rw [e2, c_u_q hq2, w1 _ _ _ hq]
  have r2 : ∀ a, c_r c2 a = c_r c a := fun a => by rw [e2]; exact r1 a
  have l2 : ∀ a, c_l c2 a = c_l c a := fun a => by rw [e2]; exact l1 a
  rw [w2 _ _ _ (by omega) (by omega), w2 _ _ _ (by omega) (by omega), g1, r2, r2, l2]
  refine ⟨h1, h1, h5, by omega, by omega, fun c3 e3 => ?_⟩
  have w3 : ∀ q a j, q ≠ 820 → q ≠ 821 → q ≠ 822 → c_v c3 q a j = c_v c q a j := fun q a j hq hq2 hq3 => by rw [e3, c_u_q hq3, w2 _ _ _ hq hq2]
  have r3 : ∀ a, c_r c3 a = c_r c a := fun a => by rw [e3]; exact r2 a
  rw [w3 _ _ _ (by omega) (by omega) (by omega), g1, r3, am_w_s (by omega)]
  refine ⟨h1, h1, fun c4 e4 => ?_⟩
  have s : c_sm (qaW c A) c c4 := by
    rw [e4, e3, e2, e1]
    exact (((c_sm.u c (by unfold qaW; omega) _ _).tr (c_sm.u _ (by unfold qaW; omega) _ _)).tr (c_sm.u _ (by unfold qaW; omega) _ _)).tr (c_sm.u _ (by unfold qaW; omega) _ _)
  have w4 : ∀ q a j, q ≠ 820 → q ≠ 821 → q ≠ 822 → q ≠ 323 → c_v c4 q a j = c_v c q a j := fun q a j hq hq2 hq3 hq4 => by rw [e4, c_u_q hq4, w3 _ _ _ hq hq2 hq3]
  have wf : ∀ q : Nat, 320 ≤ q → q ≤ 328 → q ≠ 323 → c_v c4 q A 0 = c_v c q A 0 := fun q h1 h2 h3 => w4 _ _ _ (by omega) (by omega) (by omega) h3
  have pt : q_pt c c4 A := ⟨wf _ (by omega) (by omega) (by omega), wf _ (by omega) (by omega) (by omega), wf _ (by omega) (by omega) (by omega)⟩
  have ln : (q_sls (q_add r (i, x2, x3))).length = (q_sls r).length + 1 := by show (q_sls r ++ [_]).length = _; rw [List.length_append]; rfl
  refine kk c4 s ?_ pt ⟨⟨?_, by rw [ln]; omega, ?_, fun k x hx2 => ?_⟩, ?_, ⟨?_, g7, fun k x hx2 => ?_⟩, fun a1 a2 => ?_⟩
  · refine ⟨by rw [s.r]; exact h1, fun t ht => ?_, ?_, ?_⟩
    · obtain ⟨a1, a2, a3⟩ := h2 t ht
      have : t.1 ≠ 820 ∧ t.1 ≠ 821 ∧ t.1 ≠ 822 ∧ t.1 ≠ 323 := by clear a1 a2 a3; revert t; decide
      exact ⟨by rw [w4 _ _ _ this.1 this.2.1 this.2.2.1 this.2.2.2]; exact a1, by rw [s.r]; exact a2, by rw [s.l]; exact a3⟩
    · rw [pt.1, pt.2.1, pt.2.2, s.r, s.r, s.r]; exact ⟨h3, h4, h5⟩
    · rw [pt.1, pt.2.1, pt.2.2, s.l, s.l, s.l]; exact ⟨h6, h7, h8⟩
  · rw [e4, c_u_eq, ln]
  · rw [pt.1, s.l, ln]; omega
  · rw [pt.1, pt.2.1, pt.2.2]
    have hx2 : (q_sls r ++ [(i, x2, x3)])[k]? = some x := hx2
    rw [List.getElem?_append] at hx2
    split at hx2
    · rename_i ck
      rw [e4, c_u_q (by omega), c_u_q (by omega), c_u_q (by omega), e3, c_u_q (by omega), c_u_q (by omega), c_u_j (by omega), e2, c_u_q (by omega), c_u_j (by omega), c_u_q (by omega), e1, c_u_j (by omega), c_u_q (by omega), c_u_q (by omega)]
      exact g4 k x hx2
    · rename_i ck
      have hk := (List.getElem?_eq_some_iff.mp hx2).1
      have : k = (q_sls r).length := by simp at hk; omega
      subst this
      simp at hx2
      rw [← hx2, e4, c_u_q (by omega), c_u_q (by omega), c_u_q (by omega), e3, c_u_q (by omega), c_u_q (by omega), c_u_eq, e2, c_u_q (by omega), c_u_eq, e1, c_u_eq]
      exact ⟨hx, rfl, rfl⟩
  · rw [wf _ (by omega) (by omega) (by omega)]; exact g5
  · rw [wf _ (by omega) (by omega) (by omega)]; exact g6
  · rw [w4 _ _ _ (by omega) (by omega) (by omega) (by omega), w4 _ _ _ (by omega) (by omega) (by omega) (by omega)]; exact g8 k x hx2
  · rw [wf _ (by omega) (by omega) (by omega)]; exact g9 a1 a2
theorem k_qryadd (h : qrA c A) (hC : qryC c sa A r) (hl : (q_sls r).length < 4) (hx : x1 = sa i) (kk : ∀ c', c_up (qaW c A) c c' → qrA c' A → (q_pt c c' A ∨ q_fr c c' A) → qryC c' sa A (q_add r (i, x2, x3)) → c_m c' - 6 * q_ln c' A = c_m c - 6 * q_ln c A → c_n c' - 2 * q_ln c' A ≤ c_n c - 2 * q_ln c A → Q 0 c') : kqry_add (d + 1) A x1 x2 x3 c Q := by
  obtain ⟨z0, n1, n2, n3⟩ := h.nz
  obtain ⟨h1, h2, ⟨h3, h4, h5⟩, h6, h7, h8⟩ := id h
  obtain ⟨⟨g1, g2, g3, g4⟩, g5, ⟨g6, g7, g8⟩, g9⟩ := id hC
  refine u252_e ⟨h1, h1, h3, by omega, fun w => ?_, fun w => ?_⟩
  · refine k_qryadd1 h hC (by unfold q_ln; omega) hx (fun c' s h' p' hC' => kk c' s.up h' (Or.inl p') hC' ?_ ?_)
    · unfold q_ln; rw [p'.1, s.l, s.m]
    · unfold q_ln; rw [p'.1, s.l, s.n]; omega
  have w : c_v c 323 A 0 = c_l c (c_v c 320 A 0) := Classical.not_not.mp w
  have l2 : (q_sls r).length = 2 := by omega
  have e2 : c_v c 323 A 0 = 2 := by omega
  have a4 : am_w (2 * 2) = 4 := by decide
  rw [e2, a4]
  have na := c_r_in z0
  have hn : 0 ≤ c_n c := by omega
  refine ⟨h1, by omega, by omega, hn, fun c1 d1 => ?_⟩
  have u1 : c_up (fun _ _ => False) c c1 := by rw [d1]; exact c_up.a c hn _ _ _
  have m1 : c_n c1 = c_n c + 1 := by rw [d1]; rfl
  rw [u1.v z0 (fun w => w), e2, a4]
  refine ⟨u1.r h1 (by decide), by omega, by omega, by omega, fun c2 d2 => ?_⟩
  have u2 : c_up (fun _ _ => False) c1 c2 := by rw [d2]; exact c_up.a c1 (by omega) _ _ _
  have u02 := u1.tr u2
  have m2 : c_n c2 = c_n c + 2 := by rw [d2, c_n_a]; omega
  rw [u02.v z0 (fun w => w), e2, a4]
  refine ⟨u02.r h1 (by decide), by omega, by omega, by omega, fun c3 d3 => ?_⟩
  have u3 : c_up (fun _ _ => False) c2 c3 := by rw [d3]; exact c_up.a c2 (by omega) _ _ _
  have u03 := u02.tr u3
  have m3 : c_n c3 = c_n c + 3 := by rw [d3, c_n_a]; omega
  have b1 : c_r c3 (c_n c) = 820 ∧ c_l c3 (c_n c) = 4 := ⟨(u2.tr u3).r (by rw [d1]; exact c_r_an c hn _ _ _) (by decide), by rw [(u2.tr u3).l (by rw [d1, c_r_an c hn]; decide), d1]; exact c_l_an c _ _ _⟩
  have b2 : c_r c3 (c_n c1) = 821 ∧ c_l c3 (c_n c1) = 4 := ⟨u3.r (by rw [d2]; exact c_r_an c1 (by omega) _ _ _) (by decide), by rw [u3.l (by rw [d2, c_r_an c1 (by omega)]; decide), d2]; exact c_l_an c1 _ _ _⟩
  have b3 : c_r c3 (c_n c2) = 822 ∧ c_l c3 (c_n c2) = 4 := ⟨by rw [d3]; exact c_r_an c2 (by omega) _ _ _, by rw [d3]; exact c_l_an c2 _ _ _⟩
  have f3 : ∀ q j, c_v c3 q A j = c_v c q A j := fun q j => u03.v z0 (fun w => w) j
  have r3 := u03.r h1 (by decide)
  rw [f3, f3, e2]
  refine ⟨r3, r3, u03.r h3 (by decide), b1.1, by omega, by omega, by omega, by rw [u03.l n1]; omega, by omega, fun c4 d4 => ?_⟩
  have s4 : c_sm (fun q a => q = 820 ∧ a = c_n c) c3 c4 := by rw [d4]; exact c_sm.c c3 ⟨rfl, rfl⟩ _ _ _ _
  have f4 : ∀ q j, c_v c4 q A j = c_v c q A j := fun q j => by rw [s4.v (by omega)]; exact f3 q j
  have r4 : c_r c4 A = 1008 := by rw [s4.r]; exact r3
  rw [f4, f4, e2]
  refine ⟨r4, r4, by rw [s4.r]; exact u03.r h4 (by decide), by rw [s4.r]; exact b2.1, by omega, by omega, by omega, by rw [s4.l, u03.l n2]; omega, by rw [s4.l]; omega, fun c5 d5 => ?_⟩
  have s5 : c_sm (fun q a => q = 821 ∧ a = c_n c1) c4 c5 := by rw [d5]; exact c_sm.c c4 ⟨rfl, rfl⟩ _ _ _ _
  have f5 : ∀ q j, c_v c5 q A j = c_v c q A j := fun q j => by rw [s5.v (by omega)]; exact f4 q j
  have r5 : c_r c5 A = 1008 := by rw [s5.r]; exact r4
  rw [f5, f5, e2]
  refine ⟨r5, r5, by rw [s5.r, s4.r]; exact u03.r h5 (by decide), by rw [s5.r, s4.r]; exact b3.1, by omega, by omega, by omega, by rw [s5.l, s4.l, u03.l n3]; omega, by rw [s5.l, s4.l]; omega, fun c6 d6 => ?_⟩
  have s6 : c_sm (fun q a => q = 822 ∧ a = c_n c2) c5 c6 := by rw [d6]; exact c_sm.c c5 ⟨rfl, rfl⟩ _ _ _ _
  have f6 : ∀ q j, c_v c6 q A j = c_v c q A j := fun q j => by rw [s6.v (by omega)]; exact f5 q j
  have r6 : c_r c6 A = 1008 := by rw [s6.r]; exact r5
  refine ⟨r6, fun c7 d7 => ⟨by rw [d7]; exact r6, fun c8 d8 => ⟨by rw [d8, d7]; exact r6, fun c9 d9 => ?_⟩⟩⟩
  have s9 : c_sm (fun q a => a = A ∧ (q = 320 ∨ q = 321 ∨ q = 322)) c6 c9 := by
    rw [d9, d8, d7]
    exact ((c_sm.u c6 (by omega) _ _).tr (c_sm.u _ (by omega) _ _)).tr (c_sm.u _ (by omega) _ _)
  have p1 : c_v c9 320 A 0 = c_n c := by rw [d9, c_u_q (by omega), d8, c_u_q (by omega), d7, c_u_eq]
  have p2 : c_v c9 321 A 0 = c_n c1 := by rw [d9, c_u_q (by omega), d8, c_u_eq]
  have p3 : c_v c9 322 A 0 = c_n c2 := by rw [d9, c_u_eq]
  have lr9 : ∀ a, c_r c9 a = c_r c3 a ∧ c_l c9 a = c_l c3 a := fun a => ⟨by rw [s9.r, s6.r, s5.r, s4.r], by rw [s9.l, s6.l, s5.l, s4.l]⟩
  have u9 : c_up (fun q a => a = A ∧ (q = 320 ∨ q = 321 ∨ q = 322)) c c9 := by
    refine ⟨by rw [s9.n, s6.n, s5.n, s4.n]; exact u03.1, fun a ha => by rw [(lr9 a).1, (lr9 a).2]; exact u03.2.1 a ha, fun q a j ha hw => ?_⟩
    rw [s9.v hw, s6.v (by omega), s5.v (by omega), s4.v (by omega)]
    exact u03.2.2 q a j ha (fun w => w)
  have f9 : ∀ q : Nat, 323 ≤ q → c_v c9 q A 0 = c_v c q A 0 := fun q hq => by rw [s9.v (by omega)]; exact f6 q 0
  have q9 : qrA c9 A := by
    refine ⟨by rw [(lr9 A).1]; exact r3, fun t ht => ?_, ?_, ?_⟩
    · obtain ⟨a1, a2, a3⟩ := h2 t ht
      have ht1 : 323 ≤ t.1 := by clear a1 a2 a3; revert t; decide
      exact ⟨by rw [f9 _ ht1]; exact a1, u9.r a2 (by omega), by rw [u9.l (by rw [a2]; omega)]; exact a3⟩
    · rw [p1, p2, p3, (lr9 _).1, (lr9 _).1, (lr9 _).1]; exact ⟨b1.1, b2.1, b3.1⟩
    · rw [p1, p2, p3, (lr9 _).2, (lr9 _).2, (lr9 _).2, b1.2, b2.2, b3.2]; decide
  have ln9 : q_ln c9 A = 4 := by unfold q_ln; rw [p1, (lr9 _).2]; exact b1.2
  have ln0 : q_ln c A = 2 := by unfold q_ln; omega
  have cp : ∀ (c c1 : cs_S) (rr : Nat) (P B j : Int), c1 = c_c c rr P 0 rr B 0 2 → 0 ≤ j → j < 2 → c_v c1 rr B j = c_v c rr P j := by
    intro c c1 rr P B j e1 hj0 hj1
    rw [e1]
    show (if _ ∧ _ ∧ _ ∧ _ then _ else _) = _
    rw [if_pos ⟨rfl, rfl, hj0, by omega⟩]
    show c_v c rr P (0 + (j - 0)) = _
    rw [show (0 + (j - 0) : Int) = j by omega]
  have C9 : qryC c9 sa A r := by
    refine ⟨⟨by rw [f9 _ (by omega)]; exact g1, g2, by rw [p1, (lr9 _).2, b1.2]; omega, fun k x hxx => ?_⟩, by rw [f9 _ (by omega)]; exact g5, ⟨by rw [f9 _ (by omega)]; exact g6, g7, fun k x hxx => ?_⟩, fun w1 w2 => by rw [f9 _ (by omega)]; exact g9 w1 w2⟩
    · have hk := (List.getElem?_eq_some_iff.mp hxx).1
      obtain ⟨v1, v2, v3⟩ := g4 k x hxx
      rw [p1, p2, p3]
      refine ⟨?_, ?_, ?_⟩
      · rw [s9.v (by omega), s6.v (by omega), s5.v (by omega), cp _ _ _ _ _ _ d4 (by omega) (by omega), u03.v n1 (fun w => w)]; exact v1
      · rw [s9.v (by omega), s6.v (by omega), cp _ _ _ _ _ _ d5 (by omega) (by omega), s4.v (by omega), u03.v n2 (fun w => w)]; exact v2
      · rw [s9.v (by omega), cp _ _ _ _ _ _ d6 (by omega) (by omega), s5.v (by omega), s4.v (by omega), u03.v n3 (fun w => w)]; exact v3
    · have y4 : c_r c (A + 4) = 826 := (h2 (326, 4, 8) (by decide)).2.1
      have y5 : c_r c (A + 5) = 827 := (h2 (327, 5, 8) (by decide)).2.1
      rw [u9.v (by rw [y4]; decide) (by omega), u9.v (by rw [y5]; decide) (by omega)]
      exact g8 k x hxx
  refine k_qryadd1 q9 C9 (by rw [ln9]; omega) hx (fun c' s h' p' hC' => kk c' ?_ h' (Or.inr ?_) hC' ?_ ?_)
  · refine ⟨by rw [s.n]; exact u9.1, fun a ha => by rw [s.r, s.l]; exact u9.2.1 a ha, fun q a j ha hw => ?_⟩
    have hw' : ¬ (a = A ∧ (q = 320 ∨ q = 321 ∨ q = 322 ∨ q = 323)) := fun w => hw (Or.inl w)
    rw [s.v (by unfold qaW; rw [p1, p2, p3]; omega)]
    exact u9.2.2 q a j ha (by omega)
  · unfold q_fr; rw [p'.1, p'.2.1, p'.2.2, p1, p2, p3]; omega
  · have : q_ln c' A = 4 := by unfold q_ln at ln9 ⊢; rw [p'.1, s.l]; exact ln9
    rw [this, ln0, s.m, s9.m, s6.m, s5.m, s4.m, d3, c_m_a, d2, c_m_a, d1, c_m_a]; omega
  · have : q_ln c' A = 4 := by unfold q_ln at ln9 ⊢; rw [p'.1, s.l]; exact ln9
    rw [this, ln0, s.n, s9.n, s6.n, s5.n, s4.n, m3]; omega
/-- a QUERY of the plan -/
def zq_up (Z : gZ) (i : Nat) (A : Int) : gZ := (zs Z, (fun j => if j = i then A else zq Z j), zS Z, i + 1)
def nqW (pl B A : Int) (q : Nat) (a : Int) : Prop := (a = pl ∧ (q = 138 ∨ q = 139)) ∨ (q = 638 ∧ a = B) ∨ qcW A q a
def z_mq (c : cs_S) (pl : Int) (Z : gZ) : Int := sumN (fun i => 39 + 6 * q_ln c (zq Z i)) (zQ Z) + 2 * c_l c (c_v c 138 pl 0)
def z_nq (c : cs_S) (pl : Int) (Z : gZ) : Int := sumN (fun i => 4 + 2 * q_ln c (zq Z i)) (zQ Z) + c_l c (c_v c 138 pl 0)
theorem qNe.of {B B' : Int} (h : qNe c A B) (h1 : q_pt c c' A) (h2 : q_pt c c' B) : qNe c' A B := by
  unfold qNe
  rw [h1.1, h1.2.1, h1.2.2, h2.1, h2.2.1, h2.2.2]
  exact h
theorem TQ.up (h : TQ c pl Z) (hp : c_r c pl = 1003) (u : c_up W c c') (w1 : ¬ W 138 pl) (w2 : ¬ W 638 (c_v c 138 pl 0)) (w3 : ∀ i, i < zQ Z → ∀ f ∈ qr_f, ¬ W f (zq Z i)) : TQ c' pl Z ∧ z_mq c' pl Z = z_mq c pl Z ∧ z_nq c' pl Z = z_nq c pl Z ∧ c_v c' 138 pl 0 = c_v c 138 pl 0 := by
  obtain ⟨h1, h2, h3, h4, h5, h6⟩ := h
  have e := u.v (q := 138) (a := pl) (by rw [hp]; decide) w1 0
  have z1 : c_r c (c_v c 138 pl 0) ≠ 0 := by rw [h1]; decide
  have ql : ∀ i, i < zQ Z → q_ln c' (zq Z i) = q_ln c (zq Z i) := fun i hi => ((h4 i hi).2.up u (w3 i hi)).2
  unfold TQ z_mq z_nq
  rw [e, u.l z1]
  refine ⟨⟨u.r h1 (by decide), h2, h3, fun i hi => ?_, fun i hi1 hi2 => ?_, fun i j hi hj hne => ?_⟩, ?_, ?_, rfl⟩
  · rw [u.v z1 w2]
    exact ⟨(h4 i hi).1, ((h4 i hi).2.up u (w3 i hi)).1⟩
  · rw [u.v z1 w2]; exact h5 i hi1 hi2
  · exact (h6 i j hi hj hne).of (B' := 0) ((h4 i hi).2.pt u (w3 i hi)) ((h4 j hj).2.pt u (w3 j hj))
  · rw [sumN_congr (zQ Z) (fun i hi => by rw [ql i hi])]
  · rw [sumN_congr (zQ Z) (fun i hi => by rw [ql i hi])]
theorem qr_qcW {f : Nat} {a : Int} (h : f ∈ qr_f) : ¬ ((a = pl ∧ f = 139) ∨ qcW A f a) ∧ f ≠ 638 ∧ f ≠ 138 := by
  have : ∀ f ∈ qr_f, ¬ (f = 139 ∨ f = 323 ∨ f = 324 ∨ f = 325 ∨ f = 329) ∧ f ≠ 638 ∧ f ≠ 138 := by decide
  have := this f h
  refine ⟨fun w => ?_, this.2⟩
  unfold qcW at w
  omega
theorem k_newQuery (hp : c_r c pl = 1003) (h : TQ c pl Z) (hm : c_v c 139 pl 0 = (i : Int)) (hi : i ≤ zQ Z) (hi2 : i ≤ 52)
    (kk : ∀ c' A Z' B, (Z' = if i < zQ Z then Z else zq_up Z i A) → zq Z' i = A → ((i < zQ Z ∧ q_pt c c' A) ∨ (A ≥ c_n c ∧ q_fr c c' A)) → (B = c_v c 138 pl 0 ∨ B ≥ c_n c) → c_up (nqW pl B A) c c' → TQ c' pl Z' → c_v c' 139 pl 0 = ((i + 1 : Nat) : Int) → (∀ sa, qryC c' sa A vq0) → c_m c' - z_mq c' pl Z' = c_m c - z_mq c pl Z → c_n c' - z_nq c' pl Z' ≤ c_n c - z_nq c pl Z → c_v c' 138 pl 0 = B → Q A c') : kplan_newQuery (d + 2) pl c Q := by
  have zp : c_r c pl ≠ 0 := by rw [hp]; decide
  have np := c_r_in zp
  -- the last acts
  have fin : ∀ (x1 : Int) (c2 : cs_S) (Z' : gZ) (B : Int), c_r c2 pl = 1003 → TQ c2 pl Z' → i < zQ Z' → c_v c2 138 pl 0 = B → c_v c2 139 pl 0 = (i : Int) → (∀ c', c_sm (fun q a => (a = pl ∧ q = 139) ∨ qcW (zq Z' i) q a) c2 c' → TQ c' pl Z' → z_mq c' pl Z' = z_mq c2 pl Z' → z_nq c' pl Z' = z_nq c2 pl Z' → q_pt c2 c' (zq Z' i) → c_v c' 139 pl 0 = ((i + 1 : Nat) : Int) → (∀ sa, qryC c' sa (zq Z' i) vq0) → Q (zq Z' i) c') → cw (d + 2) 48 (am_blk 48 2) [pl, x1] [] c2 Q := by
    intro x1 c2 Z' B hr ts hi eB em hk
    obtain ⟨t1, t2, t3, t4, t5, t6⟩ := id ts
    have t7 := t4 i hi
    refine u48_2 ⟨hr, hr, t1, by omega, by omega, hr, hr, fun c3 e3 => ?_⟩
    rw [em, t7.1]
    rw [em, am_w_s (by omega)] at e3
    have s3 : c_sm (fun q a => (a = pl ∧ q = 139) ∨ qcW (zq Z' i) q a) c2 c3 := by rw [e3]; exact c_sm.u c2 (Or.inl ⟨rfl, rfl⟩) _ _
    have hq3 := (t7.2.up s3.up (fun f hf => (qr_qcW hf).1)).1
    refine ⟨hq3.1, k_qryclear hq3 (fun c4 s4 g1 => ?_)⟩
    have s34 := s3.tr (s4.mono (fun q a w => Or.inr w))
    have tu := ts.up hr s34.up (by unfold qcW; omega) (by unfold qcW; omega) (fun j hj f hf => (qr_qcW hf).1)
    refine hk c4 s34 tu.1 tu.2.1 tu.2.2.1 (t7.2.pt s34.up (fun f hf => (qr_qcW hf).1)) ?_ g1
    rw [s4.v (by unfold qcW; omega), e3, c_u_eq]
  have mid : ∀ (x1 : Int) (c2 : cs_S) (B : Int), c_up (fun q a => a = pl ∧ q = 138) c c2 → (B = c_v c 138 pl 0 ∨ B ≥ c_n c) → TQ c2 pl Z → c_v c2 138 pl 0 = B → (i : Int) < c_l c2 B → c_m c2 - z_mq c2 pl Z = c_m c - z_mq c pl Z → c_n c2 - z_nq c2 pl Z ≤ c_n c - z_nq c pl Z → (∀ j, j < zQ Z → q_pt c c2 (zq Z j)) → cw (d + 2) 48 (am_blk 48 1) [pl, x1] [] c2 Q := by
    intro x1 c2 B u2 hB ts eB hlt em en hpt
    obtain ⟨t1, t2, t3, t4, t5, t6⟩ := id ts
    have hr2 := u2.r hp (by decide)
    have hm2 : c_v c2 139 pl 0 = (i : Int) := by rw [u2.v zp (by omega)]; exact hm
    have u2' : ∀ A, c_up (nqW pl B A) c c2 := fun A => u2.mono (fun q a w => Or.inl ⟨w.1, Or.inl w.2⟩)
    by_cases ci : i < zQ Z
    · have t7 := t4 i ci
      refine u48_1 ⟨hr2, hr2, t1, by omega, by rw [hm2, eB]; exact hlt, fun _ => ?_, fun w => ?_⟩
      · refine fin x1 c2 Z B hr2 ts ci eB hm2 (fun c' s' ts' ea eb ep em' g1 => ?_)
        have e3 : c_v c' 138 pl 0 = B := by rw [s'.v (by unfold qcW; omega)]; exact eB
        have ep2 := hpt i ci
        refine kk c' (zq Z i) Z B (by rw [if_pos ci]) rfl (Or.inl ⟨ci, ⟨ep.1.trans ep2.1, ep.2.1.trans ep2.2.1, ep.2.2.trans ep2.2.2⟩⟩) hB ((u2' _).tr (s'.up.mono (fun q a w => ?_))) ts' em' g1 ?_ ?_ e3
        · rcases w with w | w
          · exact Or.inl ⟨w.1, Or.inr w.2⟩
          · exact Or.inr (Or.inr w)
        · rw [ea, s'.m]; exact em
        · rw [eb, s'.n]; exact en
      · exfalso
        rw [hm2, t7.1] at w
        have := c_r_in t7.2.nz.1; omega
    · have ci : i = zQ Z := by omega
      have t7 := t5 i (by omega) (by rw [eB]; exact hlt)
      refine u48_1 ⟨hr2, hr2, t1, by omega, by rw [hm2, eB]; exact hlt, fun w => absurd (by rw [hm2]; exact t7) w, fun _ => ⟨hr2, hr2, ?_⟩⟩
      have n0 := c_r_in (c := c2) (a := pl) (by rw [hr2]; decide)
      have hn2 : 0 ≤ c_n c2 := by omega
      refine ⟨hn2, fun c3 e3 => ⟨by rw [e3]; exact c_r_on c2 hn2 8, ?_⟩⟩
      rw [e3]
      refine k_qryinit hn2 (fun c4 u4 n4 m4 q4 ln4 pt4 => ?_)
      rw [eB, hm2]
      rw [eB] at t1 t2 t3 t5
      have zb : c_r c2 B ≠ 0 := by rw [t1]; decide
      have nb := c_r_in zb
      have r4 := u4.r t1 (by decide)
      have l4 := u4.l zb
      refine ⟨r4, by omega, by rw [l4]; exact hlt, fun c5 e5 => ?_⟩
      have s5 : c_sm (fun q a => q = 638 ∧ a = B) c4 c5 := by rw [e5]; exact c_sm.u c4 ⟨rfl, rfl⟩ _ _
      have hr5 : c_r c5 pl = 1003 := by rw [s5.r]; exact u4.r hr2 (by decide)
      have eB5 : c_v c5 138 pl 0 = B := by rw [s5.v (by omega), u4.v (by rw [hr2]; decide) (fun w => w)]; exact eB
      have hm5 : c_v c5 139 pl 0 = (i : Int) := by rw [s5.v (by omega), u4.v (by rw [hr2]; decide) (fun w => w)]; exact hm2
      have u5 : c_up (fun q a => q = 638 ∧ a = B) c2 c5 := (u4.mono (fun q a w => w.elim)).tr s5.up
      have w5 : ∀ a, ∀ f ∈ qr_f, ¬ (f = 638 ∧ a = B) := fun a f hf w => (qr_qcW (pl := 0) (A := 0) (a := 0) hf).2.1 w.1
      have qn : qrA c5 (c_n c2) ∧ q_ln c5 (c_n c2) = q_ln c4 (c_n c2) := q4.up s5.up (w5 _)
      have pn : q_pt c4 c5 (c_n c2) := q4.pt s5.up (w5 _)
      have fresh : ∀ j, j < zQ Z → qNe c5 (zq Z j) (c_n c2) := by
        intro j hj
        have t8 := (t4 j hj).2
        have p8 := t8.pt u5 (w5 _)
        obtain ⟨y0, y1, y2, y3⟩ := t8.nz
        have := c_r_in y0; have := c_r_in y1; have := c_r_in y2; have := c_r_in y3
        unfold qNe
        rw [p8.1, p8.2.1, p8.2.2, pn.1, pn.2.1, pn.2.2, pt4.1, pt4.2.1, pt4.2.2]
        omega
      have ts5 : TQ c5 pl (zq_up Z i (c_n c2)) := by
        unfold TQ
        rw [eB5]
        refine ⟨by rw [s5.r]; exact r4, by rw [s5.l, l4]; exact t2, ⟨by rw [s5.l, l4]; show ((i + 1 : Nat) : Int) ≤ _; omega, by show i + 1 ≤ 53; omega⟩, fun j hj => ?_, fun j hj1 hj2 => ?_, fun j k hj hk hne => ?_⟩
        · have hj : j < i + 1 := hj
          show c_v c5 _ B j = (if j = i then c_n c2 else zq Z j) ∧ qrA c5 (if j = i then c_n c2 else zq Z j)
          by_cases cj : j = i
          · rw [if_pos cj, cj]
            exact ⟨by rw [e5, c_u_eq], qn.1⟩
          · rw [if_neg cj]
            have t8 := t4 j (by omega)
            refine ⟨?_, (t8.2.up u5 (w5 _)).1⟩
            rw [e5, c_u_j (by omega), u4.v zb (fun w => w)]
            rw [eB] at t8
            exact t8.1
        · have hj1 : i + 1 ≤ j := hj1
          rw [s5.l, l4] at hj2
          rw [e5, c_u_j (by omega), u4.v zb (fun w => w)]
          exact t5 j (by omega) hj2
        · have hk : k < i + 1 := hk
          have hj : j < i + 1 := hj
          show qNe c5 (if j = i then c_n c2 else zq Z j) (if k = i then c_n c2 else zq Z k)
          by_cases ck : k = i
          · rw [if_pos ck, if_neg (c := j = i) (by omega)]
            exact fresh j (by omega)
          · rw [if_neg ck]
            by_cases cj : j = i
            · rw [if_pos cj]
              have := fresh k (by omega)
              exact ⟨this.1.symm, this.2.1.symm, this.2.2.1.symm, this.2.2.2.symm⟩
            · rw [if_neg cj]
              exact (t6 j k (by omega) (by omega) hne).of (B' := 0) ((t4 j (by omega)).2.pt u5 (w5 _)) ((t4 k (by omega)).2.pt u5 (w5 _))
      have ez : zq (zq_up Z i (c_n c2)) i = c_n c2 := if_pos rfl
      have sm : ∀ (f : Int → Int), sumN (fun j => f (q_ln c5 (zq (zq_up Z i (c_n c2)) j))) (i + 1) = sumN (fun j => f (q_ln c2 (zq Z j))) i + f 2 := by
        intro f
        show sumN _ i + f (q_ln c5 (zq (zq_up Z i (c_n c2)) i)) = _
        rw [ez, qn.2, ln4]
        refine congrArg (· + f 2) (sumN_congr i (fun j hj => ?_))
        show f (q_ln c5 (if j = i then c_n c2 else zq Z j)) = _
        rw [if_neg (by omega), ((t4 j (by omega)).2.up u5 (w5 _)).2]
      have ea5 : z_mq c5 pl (zq_up Z i (c_n c2)) = z_mq c2 pl Z + 51 := by
        unfold z_mq
        rw [eB5, eB, s5.l, l4]
        have := sm (fun x => 39 + 6 * x)
        have h2 : sumN (fun j => 39 + 6 * q_ln c5 (zq (zq_up Z i (c_n c2)) j)) (zQ (zq_up Z i (c_n c2))) = sumN (fun j => 39 + 6 * q_ln c2 (zq Z j)) (zQ Z) + (39 + 6 * 2) := by rw [← ci]; exact this
        omega
      have eb5 : z_nq c5 pl (zq_up Z i (c_n c2)) = z_nq c2 pl Z + 8 := by
        unfold z_nq
        rw [eB5, eB, s5.l, l4]
        have := sm (fun x => 4 + 2 * x)
        have h2 : sumN (fun j => 4 + 2 * q_ln c5 (zq (zq_up Z i (c_n c2)) j)) (zQ (zq_up Z i (c_n c2))) = sumN (fun j => 4 + 2 * q_ln c2 (zq Z j)) (zQ Z) + (4 + 2 * 2) := by rw [← ci]; exact this
        omega
      refine fin x1 c5 (zq_up Z i (c_n c2)) B hr5 ts5 (by show i < i + 1; omega) eB5 hm5 (fun c' s' ts' ea eb ep em' g1 => ?_)
      rw [ez] at g1 s' ep ⊢
      have e3 : c_v c' 138 pl 0 = B := by rw [s'.v (by unfold qcW; omega)]; exact eB5
      refine kk c' (c_n c2) (zq_up Z i (c_n c2)) B (by rw [if_neg (by omega)]) ez (Or.inr ⟨by have := u2.1; omega, ?_⟩) hB ?_ ts' em' g1 ?_ ?_ e3
      · have := u2.1
        unfold q_fr
        rw [ep.1, ep.2.1, ep.2.2, pn.1, pn.2.1, pn.2.2, pt4.1, pt4.2.1, pt4.2.2]; omega
      · refine (u2' _).tr ((u5.mono (fun q a w => Or.inr (Or.inl w))).tr (s'.up.mono (fun q a w => ?_)))
        rcases w with w | w
        · exact Or.inl ⟨w.1, Or.inr w.2⟩
        · exact Or.inr (Or.inr w)
      · rw [ea, ea5, s'.m, s5.m, m4]; omega
      · rw [eb, eb5, s'.n, s5.n, n4]; omega
  obtain ⟨t1, t2, t3, t4, t5, t6⟩ := id h
  refine u48_e ⟨hp, hp, t1, by omega, fun w => mid 0 c _ (c_up.rf _ c) (Or.inl rfl) h rfl (by omega) rfl (Int.le_refl _) (fun j hj => ⟨rfl, rfl, rfl⟩), fun w => ⟨hp, ?_⟩⟩
  have w : c_v c 139 pl 0 = c_l c (c_v c 138 pl 0) := Classical.not_not.mp w
  rw [hm, am_w_in (by omega) (by omega)]
  have hn : 0 ≤ c_n c := by omega
  refine ⟨by omega, by omega, hn, fun c1 e1 => ?_⟩
  have u1 : c_up (fun _ _ => False) c c1 := by rw [e1]; exact c_up.a c hn _ _ _
  have hp1 := u1.r hp (by decide)
  have zb : c_r c (c_v c 138 pl 0) ≠ 0 := by rw [t1]; decide
  have ev1 : c_v c1 138 pl 0 = c_v c 138 pl 0 := u1.v zp (fun w => w) 0
  have em1 : c_v c1 139 pl 0 = (i : Int) := by rw [u1.v zp (fun w => w)]; exact hm
  rw [ev1, em1]
  have rn : c_r c1 (c_n c) = 638 := by rw [e1]; exact c_r_an c hn _ _ _
  have ln : c_l c1 (c_n c) = 2 * (i : Int) := by rw [e1]; exact c_l_an c _ _ _
  refine ⟨hp1, hp1, u1.r t1 (by decide), rn, by omega, by omega, by omega, by rw [u1.l zb]; omega, by rw [ln]; omega, fun c2 e2 => ?_⟩
  have s2 : c_sm (fun q a => q = 638 ∧ a = c_n c) c1 c2 := by rw [e2]; exact c_sm.c c1 ⟨rfl, rfl⟩ _ _ _ _
  have hp2 : c_r c2 pl = 1003 := by rw [s2.r]; exact hp1
  refine ⟨hp2, fun c3 e3 => ?_⟩
  have s3 : c_sm (fun q a => a = pl ∧ q = 138) c2 c3 := by rw [e3]; exact c_sm.u c2 ⟨rfl, rfl⟩ _ _
  have eB3 : c_v c3 138 pl 0 = c_n c := by rw [e3]; exact c_u_eq _ _ _ _ _
  have vn : ∀ j : Int, c_v c3 638 (c_n c) j = if 0 ≤ j ∧ j < (i : Int) then c_v c 638 (c_v c 138 pl 0) j else -1 := by
    intro j
    rw [e3, c_u_q (by omega), e2]
    show (if _ ∧ _ ∧ _ ∧ _ then _ else _) = _
    by_cases cj : 0 ≤ j ∧ j < (i : Int)
    · rw [if_pos ⟨rfl, rfl, cj.1, by omega⟩, if_pos cj]
      show c_v c1 _ _ (0 + (j - 0)) = _
      rw [show (0 + (j - 0) : Int) = j by omega, u1.v zb (fun w => w)]
    · rw [if_neg (fun w => cj ⟨w.2.2.1, by omega⟩), if_neg cj]
      show c_v c1 _ _ _ = _
      rw [e1, c_v_a, if_pos rfl]
  have u3 : c_up (fun q a => a = pl ∧ q = 138) c c3 := by
    refine ⟨by rw [s3.n, s2.n]; exact u1.1, fun a ha => by rw [s3.r, s3.l, s2.r, s2.l]; exact u1.2.1 a ha, fun q a j ha hw => ?_⟩
    rw [s3.v hw, s2.v (by omega)]
    exact u1.2.2 q a j ha (fun w => w)
  have w3 : ∀ a, ∀ f ∈ qr_f, ¬ (a = pl ∧ f = 138) := fun a f hf w => (qr_qcW (pl := 0) (A := 0) (a := 0) hf).2.2 w.2
  have qlu : ∀ j, j < zQ Z → q_ln c3 (zq Z j) = q_ln c (zq Z j) := fun j hj => ((t4 j hj).2.up u3 (w3 _)).2
  have l3 : c_l c3 (c_n c) = 2 * (i : Int) := by rw [s3.l, s2.l]; exact ln
  have iz : zQ Z = i := by omega
  have ts3 : TQ c3 pl Z := by
    unfold TQ
    rw [eB3]
    refine ⟨by rw [s3.r, s2.r]; exact rn, by omega, ⟨by omega, t3.2⟩, fun j hj => ?_, fun j hj1 hj2 => ?_, fun j k hj hk hne => (t6 j k hj hk hne).of (B' := 0) ((t4 j hj).2.pt u3 (w3 _)) ((t4 k hk).2.pt u3 (w3 _))⟩
    · rw [vn, if_pos (by omega)]; exact ⟨(t4 j hj).1, ((t4 j hj).2.up u3 (w3 _)).1⟩
    · rw [vn, if_neg (by omega)]
  refine mid _ c3 (c_n c) u3 (Or.inr (Int.le_refl _)) ts3 eB3 (by omega) ?_ ?_ (fun j hj => (t4 j hj).2.pt u3 (w3 _))
  · unfold z_mq
    rw [sumN_congr (zQ Z) (fun j hj => by rw [qlu j hj]), eB3, l3, s3.m, s2.m, e1, c_m_a]; omega
  · unfold z_nq
    rw [sumN_congr (zQ Z) (fun j hj => by rw [qlu j hj]), eB3, l3, s3.n, s2.n, e1, c_n_a]; omega
end
