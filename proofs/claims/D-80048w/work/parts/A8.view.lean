set_option maxRecDepth 100000
/-! a text that is read: what stands so far, pure -/
abbrev pV : Type := (Nat × Nat × Nat × Bool) × (Nat × xt × (Nat → Nat × Nat)) × List Nat
def vA (V : pV) : Nat := V.1.1
def vD (V : pV) : Nat := V.1.2.1
def vS (V : pV) : Nat := V.1.2.2.1
def vM (V : pV) : Bool := V.1.2.2.2
def vN (V : pV) : Nat := V.2.1.1
def vT (V : pV) : xt := V.2.1.2.1
def vB (V : pV) : Nat → Nat × Nat := V.2.1.2.2
def vG (V : pV) : List Nat := V.2.2
def v_at (V : pV) (k : Nat) : pV := ((k, vD V, vS V, vM V), V.2)
def v_deep (V : pV) (k : Nat) : pV := ((vA V, k, vS V, vM V), V.2)
def v_src (V : pV) (k : Nat) : pV := ((vA V, vD V, k, vM V), V.2)
def v_may (V : pV) (m : Bool) : pV := ((vA V, vD V, vS V, m), V.2)
def v_agg (V : pV) (g : List Nat) : pV := (V.1, V.2.1, g)
def x_up (T : xt) (e : Nat) (r : Int × Int × Int × Int × Int × Int) : xt := fun i => if i = e then r else T i
def v_row (V : pV) (e : Nat) (r : Int × Int × Int × Int × Int × Int) : pV := (V.1, (vN V, x_up (vT V) e r, vB V), vG V)
def v_add (V : pV) (r : Int × Int × Int × Int × Int × Int) (t g : Nat) : pV := (V.1, (vN V + 1, x_up (vT V) (vN V) r, fun i => if i = vN V then (t, g) else vB V i), vG V)
def v_beg (V : pV) (e g : Nat) : pV := (V.1, (vN V, vT V, fun i => if i = e then ((vB V i).1, g) else vB V i), vG V)
theorem x_up_eq (T : xt) (e : Nat) (r : Int × Int × Int × Int × Int × Int) : x_up T e r e = r := if_pos rfl
theorem x_up_ne {T : xt} {e i : Nat} (r : Int × Int × Int × Int × Int × Int) (h : i ≠ e) : x_up T e r i = T i := if_neg h
/-- the arrays of expressions -/
def xpA (c : cs_S) (ad : Int) : Prop := c_r c ad = 1005
  ∧ (c_v c 201 ad 0 = ad + 1 ∧ c_r c (ad + 1) = 701 ∧ c_l c (ad + 1) = 121)
  ∧ (c_v c 202 ad 0 = ad + 2 ∧ c_r c (ad + 2) = 702 ∧ c_l c (ad + 2) = 121)
  ∧ (c_v c 203 ad 0 = ad + 3 ∧ c_r c (ad + 3) = 703 ∧ c_l c (ad + 3) = 121)
  ∧ (c_v c 204 ad 0 = ad + 4 ∧ c_r c (ad + 4) = 704 ∧ c_l c (ad + 4) = 121)
  ∧ (c_v c 205 ad 0 = ad + 5 ∧ c_r c (ad + 5) = 705 ∧ c_l c (ad + 5) = 121)
  ∧ (c_v c 206 ad 0 = ad + 6 ∧ c_r c (ad + 6) = 706 ∧ c_l c (ad + 6) = 121)
  ∧ (c_v c 207 ad 0 = ad + 7 ∧ c_r c (ad + 7) = 707 ∧ c_l c (ad + 7) = 121)
  ∧ (c_v c 208 ad 0 = ad + 8 ∧ c_r c (ad + 8) = 708 ∧ c_l c (ad + 8) = 121)
  ∧ (c_v c 209 ad 0 = ad + 9 ∧ c_r c (ad + 9) = 709 ∧ c_l c (ad + 9) = 121)
  ∧ (c_v c 210 ad 0 = ad + 10 ∧ c_r c (ad + 10) = 710 ∧ c_l c (ad + 10) = 121)
  ∧ (c_v c 211 ad 0 = ad + 11 ∧ c_r c (ad + 11) = 711 ∧ c_l c (ad + 11) = 121)
/-- one expression as it was read -/
def xrow (c : cs_S) (ad : Int) (e : Nat) (r : Int × Int × Int × Int × Int × Int) (tg : Nat × Nat) : Prop :=
  c_v c 701 (ad + 1) e = r.1 ∧ c_v c 702 (ad + 2) e = r.2.1 ∧ c_v c 703 (ad + 3) e = r.2.2.1 ∧ c_v c 704 (ad + 4) e = r.2.2.2.1 ∧ c_v c 705 (ad + 5) e = r.2.2.2.2.1 ∧ c_v c 706 (ad + 6) e = r.2.2.2.2.2 ∧ c_v c 707 (ad + 7) e = (tg.1 : Int) ∧ c_v c 708 (ad + 8) e = 0 ∧ c_v c 709 (ad + 9) e = 0 ∧ c_v c 710 (ad + 10) e = -1 ∧ c_v c 711 (ad + 11) e = (tg.2 : Int)
def xnum (c : cs_S) (ad : Int) : Prop := ∀ e : Nat, e < 121 → -9223372036854775808 ≤ c_v c 706 (ad + 6) e ∧ c_v c 706 (ad + 6) e ≤ 9223372036854775807
def xE (c : cs_S) (ad : Int) (V : pV) : Prop := c_v c 200 ad 0 = (vN V : Int) ∧ vN V ≤ 120 ∧ x_T64 (vT V) ∧ xnum c ad ∧ ∀ e : Nat, e < vN V → xrow c ad e (vT V e) (vB V e)
def pA (c : cs_S) (pl : Int) : Prop := c_r c pl = 1003 ∧ c_v c 120 pl 0 = pl + 1 ∧ c_v c 121 pl 0 = pl + 8 ∧ xpA c (pl + 8)
/-- the SELECT that is read, its aggregates -/
def rdS (c : cs_S) (pl R : Int) (g : List Nat) : Prop := R = -1 ∨ (c_r c R = 1009 ∧ c_v c 384 R 0 = R + 16 ∧ c_r c (R + 16) = 884 ∧ c_l c (R + 16) = 12 ∧ c_v c 133 pl 0 = R ∧ c_v c 383 R 0 = (g.length : Int) ∧ g.length ≤ 12 ∧ ∀ (k e : Nat), g[k]? = some e → c_v c 884 (R + 16) k = (e : Int))
def cur (c : cs_S) (pl : Int) (K : Nat) (V : pV) : Prop := c_v c 122 pl 0 = (vA V : Int) ∧ vA V ≤ K ∧ c_v c 123 pl 0 = 0 ∧ c_v c 125 pl 0 = (vD V : Int) ∧ vD V ≤ 12 ∧ c_v c 126 pl 0 = (vS V : Int) ∧ c_v c 134 pl 0 = (if vM V = true then 1 else 0)
def CE (c : cs_S) (pl : Int) (b : Int → Int) (n K : Nat) (R : Int) (V : pV) : Prop := pA c pl ∧ tkC c (pl + 1) b n K ∧ cur c pl K V ∧ xE c (pl + 8) V ∧ rdS c pl R (vG V) ∧ (vM V = true → R ≠ -1)
/-- what readers of expressions write -/
def eW (pl R : Int) (q : Nat) (a : Int) : Prop := (a = pl ∧ (q = 122 ∨ q = 123 ∨ q = 124 ∨ q = 125 ∨ q = 134)) ∨ (a = pl + 8 ∧ q = 200) ∨ (pl + 9 ≤ a ∧ a ≤ pl + 19 ∧ 701 ≤ q ∧ q ≤ 711) ∨ (a = R ∧ q = 383) ∨ (a = R + 16 ∧ q = 884)
section
variable {c c' : cs_S} {pl R ad : Int} {b : Int → Int} {d D n k K e : Nat} {V : pV} {Q : Int → cs_S → Prop} {x y : Int} {W : Nat → Int → Prop} {g : List Nat}
theorem xpA.sm (h : xpA c ad) (s : c_sm W c c') (hw : ∀ q a, W q a → q < 201 ∨ 211 < q) : xpA c' ad := by
  obtain ⟨h0, ⟨a1, a2, a3⟩, ⟨b1, b2, b3⟩, ⟨d1, d2, d3⟩, ⟨e1, e2, e3⟩, ⟨f1, f2, f3⟩, ⟨g1, g2, g3⟩, ⟨i1, i2, i3⟩, ⟨j1, j2, j3⟩, ⟨k1, k2, k3⟩, ⟨l1, l2, l3⟩, ⟨m1, m2, m3⟩⟩ := h
  have v : ∀ q : Nat, 201 ≤ q → q ≤ 211 → c_v c' q ad 0 = c_v c q ad 0 := fun q h1 h2 => s.v (fun w => by have := hw _ _ w; omega) 0
  unfold xpA
  simp only [s.r, s.l]
  rw [v _ (by omega) (by omega), v _ (by omega) (by omega), v _ (by omega) (by omega), v _ (by omega) (by omega), v _ (by omega) (by omega), v _ (by omega) (by omega), v _ (by omega) (by omega), v _ (by omega) (by omega), v _ (by omega) (by omega), v _ (by omega) (by omega), v _ (by omega) (by omega)]
  exact ⟨h0, ⟨a1, a2, a3⟩, ⟨b1, b2, b3⟩, ⟨d1, d2, d3⟩, ⟨e1, e2, e3⟩, ⟨f1, f2, f3⟩, ⟨g1, g2, g3⟩, ⟨i1, i2, i3⟩, ⟨j1, j2, j3⟩, ⟨k1, k2, k3⟩, ⟨l1, l2, l3⟩, ⟨m1, m2, m3⟩⟩
theorem pA.sm (h : pA c pl) (s : c_sm W c c') (hw : ∀ q a, W q a → (q < 201 ∨ 211 < q) ∧ q ≠ 120 ∧ q ≠ 121) : pA c' pl := by
  obtain ⟨h0, h1, h2, h3⟩ := h
  exact ⟨by rw [s.r]; exact h0, by rw [s.v (fun w => (hw _ _ w).2.1 rfl)]; exact h1, by rw [s.v (fun w => (hw _ _ w).2.2 rfl)]; exact h2, h3.sm s (fun q a w => (hw q a w).1)⟩
theorem xE.sm (h : xE c ad V) (s : c_sm W c c') (hw : ∀ q a, W q a → q ≠ 200 ∧ (q < 701 ∨ 711 < q)) : xE c' ad V := by
  have v : ∀ (q : Nat) (a j : Int), 701 ≤ q → q ≤ 711 → c_v c' q a j = c_v c q a j := fun q a j h1 h2 => s.v (fun w => by have := (hw _ _ w).2; omega) j
  obtain ⟨h1, h2, h3, h4, h5⟩ := h
  refine ⟨by rw [s.v (fun w => (hw _ _ w).1 rfl)]; exact h1, h2, h3, fun e he => by rw [v _ _ _ (by omega) (by omega)]; exact h4 e he, fun e he => ?_⟩
  unfold xrow
  rw [v _ _ _ (by omega) (by omega), v _ _ _ (by omega) (by omega), v _ _ _ (by omega) (by omega), v _ _ _ (by omega) (by omega), v _ _ _ (by omega) (by omega), v _ _ _ (by omega) (by omega), v _ _ _ (by omega) (by omega), v _ _ _ (by omega) (by omega), v _ _ _ (by omega) (by omega), v _ _ _ (by omega) (by omega), v _ _ _ (by omega) (by omega)]
  exact h5 e he
theorem rdS.sm (h : rdS c pl R g) (s : c_sm W c c') (hw : ∀ q a, W q a → q ≠ 384 ∧ q ≠ 133 ∧ q ≠ 383 ∧ q ≠ 884) : rdS c' pl R g := by
  rcases h with h | ⟨h1, h2, h3, h4, h5, h6, h7, h8⟩
  · exact Or.inl h
  · refine Or.inr ⟨by rw [s.r]; exact h1, by rw [s.v (fun w => (hw _ _ w).1 rfl)]; exact h2, by rw [s.r]; exact h3, by rw [s.l]; exact h4, by rw [s.v (fun w => (hw _ _ w).2.1 rfl)]; exact h5, by rw [s.v (fun w => (hw _ _ w).2.2.1 rfl)]; exact h6, h7, fun k e he => by rw [s.v (fun w => (hw _ _ w).2.2.2 rfl)]; exact h8 k e he⟩
/-- a field of the plan is written -/
def pfW (pl : Int) (q0 q : Nat) (a : Int) : Prop := q = q0 ∧ a = pl
theorem CE.pf {q0 : Nat} {v : Int} {V' : pV} (h : CE c pl b n K R V) (hq : q0 = 122 ∨ q0 = 125 ∨ q0 = 134 ∨ q0 = 126) (hc : cur (c_u c q0 pl 0 v) pl K V') (h2 : V'.2 = V.2) (hM : vM V' = true → R ≠ -1) : CE (c_u c q0 pl 0 v) pl b n K R V' := by
  obtain ⟨p1, p2, p3, p4, p5, p6⟩ := h
  have s : c_sm (pfW pl q0) c (c_u c q0 pl 0 v) := c_sm.u c ⟨rfl, rfl⟩ _ _
  have eN : vN V' = vN V := by unfold vN; rw [h2]
  have eT : vT V' = vT V := by unfold vT; rw [h2]
  have eB : vB V' = vB V := by unfold vB; rw [h2]
  have eG : vG V' = vG V := by unfold vG; rw [h2]
  refine ⟨p1.sm s (fun q a w => by have := w.1; omega), p2.sm s (fun q a w => by have := w.1; omega), hc, ?_, ?_, hM⟩
  · have := p4.sm s (fun q a w => by have := w.1; omega)
    unfold xE at this ⊢
    rw [eN, eT, eB]
    exact this
  · rw [eG]; exact p5.sm s (fun q a w => by have := w.1; omega)
theorem CE.at (h : CE c pl b n K R V) (hk : k ≤ K) : CE (c_u c 122 pl 0 k) pl b n K R (v_at V k) := by
  obtain ⟨p1, p2, ⟨q1, q2, q3, q4, q5, q6, q7⟩, p4, p5, p6⟩ := id h
  refine h.pf (Or.inl rfl) ⟨c_u_eq _ _ _ _ _, hk, ?_, ?_, q5, ?_, ?_⟩ rfl p6
  · rw [c_u_q (by omega)]; exact q3
  · rw [c_u_q (by omega)]; exact q4
  · rw [c_u_q (by omega)]; exact q6
  · rw [c_u_q (by omega)]; exact q7
theorem CE.deep (h : CE c pl b n K R V) (hk : k ≤ 12) : CE (c_u c 125 pl 0 k) pl b n K R (v_deep V k) := by
  obtain ⟨p1, p2, ⟨q1, q2, q3, q4, q5, q6, q7⟩, p4, p5, p6⟩ := id h
  refine h.pf (by omega) ⟨?_, q2, ?_, c_u_eq _ _ _ _ _, hk, ?_, ?_⟩ rfl p6
  · rw [c_u_q (by omega)]; exact q1
  · rw [c_u_q (by omega)]; exact q3
  · rw [c_u_q (by omega)]; exact q6
  · rw [c_u_q (by omega)]; exact q7
theorem CE.may {m : Bool} (h : CE c pl b n K R V) (hx : x = if m = true then 1 else 0) (hR : m = true → R ≠ -1) : CE (c_u c 134 pl 0 x) pl b n K R (v_may V m) := by
  obtain ⟨p1, p2, ⟨q1, q2, q3, q4, q5, q6, q7⟩, p4, p5, p6⟩ := id h
  subst hx
  refine h.pf (by omega) ⟨?_, q2, ?_, ?_, q5, ?_, c_u_eq _ _ _ _ _⟩ rfl hR
  · rw [c_u_q (by omega)]; exact q1
  · rw [c_u_q (by omega)]; exact q3
  · rw [c_u_q (by omega)]; exact q4
  · rw [c_u_q (by omega)]; exact q6
/-! small acts of the plan -/
theorem CE.r (h : CE c pl b n K R V) : c_r c pl = 1003 := h.1.1
theorem CE.t (h : CE c pl b n K R V) : c_v c 120 pl 0 = pl + 1 ∧ c_r c (pl + 1) = 1004 := ⟨h.1.2.1, h.2.1.1.1.1⟩
theorem CE.le (h : CE c pl b n K R V) : vA V ≤ K ∧ K ≤ 2000 := ⟨h.2.2.1.2.1, by have := h.2.1.le; omega⟩
theorem k_good1 (hr : c_r c pl = 1003) (hf : c_v c 123 pl 0 = 0) (kk : Q 1 c) : kplan_good d pl c Q := u46_e ⟨hr, fun w => absurd hf w, fun _ => u46_2 kk⟩
theorem k_good0 (hr : c_r c pl = 1003) (hf : c_v c 123 pl 0 ≠ 0) (kk : Q 0 c) : kplan_good d pl c Q := u46_e ⟨hr, fun _ => u46_2 kk, fun w => absurd hf w⟩
/-- a fault is told -/
def c_fl (c : cs_S) (pl f p : Int) : cs_S := c_u (c_u c 123 pl 0 f) 124 pl 0 p
theorem k_fail (hr : c_r c pl = 1003) (hf : c_v c 123 pl 0 = 0) (kk : Q 0 (c_fl c pl x y)) : kplan_fail d pl x y c Q := u53_e ⟨hr, fun w => absurd hf w, fun _ => ⟨hr, fun c1 e1 => ⟨by rw [e1]; exact hr, fun c2 e2 => u53_1 (by rw [e2, e1]; exact kk)⟩⟩⟩
theorem c_fl_sm : c_sm (eW pl R) c (c_fl c pl x y) := (c_sm.u c (by unfold eW; omega) _ _).tr (c_sm.u _ (by unfold eW; omega) _ _)
theorem c_fl_f : c_v (c_fl c pl x y) 123 pl 0 = x ∧ c_v (c_fl c pl x y) 124 pl 0 = y := by
  unfold c_fl
  exact ⟨by rw [c_u_q (by omega), c_u_eq], by rw [c_u_eq]⟩
/-- a fault stands -/
def CF (c : cs_S) (pl f p : Int) : Prop := c_r c pl = 1003 ∧ c_v c 123 pl 0 = f ∧ c_v c 124 pl 0 = p ∧ f ≠ 0 ∧ 0 ≤ c_v c 122 pl 0 ∧ c_v c 122 pl 0 ≤ 2001
theorem CF.nz {f p : Int} (h : CF c pl f p) : c_v c 123 pl 0 ≠ 0 := by rw [h.2.1]; exact h.2.2.2.1
theorem CE.cf (h : CE c pl b n K R V) (hx : x ≠ 0) : CF (c_fl c pl x y) pl x y := by
  have ea : c_v (c_fl c pl x y) 122 pl 0 = (vA V : Int) := by unfold c_fl; rw [c_u_q (by omega), c_u_q (by omega)]; exact h.2.2.1.1
  have hl := h.le
  exact ⟨by rw [(c_fl_sm (R := 0)).r]; exact h.r, c_fl_f.1, c_fl_f.2, hx, by omega, by omega⟩
theorem k_is (h : CE c pl b n K R V) (hD : 2 ≤ D) (hy : st_is y) (h1 : tk_is b n (vA V) (st_str y) → Q 1 c) (h0 : ¬ tk_is b n (vA V) (st_str y) → Q 0 c) : kplan_is D pl y c Q := by
  obtain ⟨d, rfl⟩ : ∃ d', D = d' + 2 := ⟨D - 2, by omega⟩
  have hr := h.r
  have ht := h.t
  refine u45_e ⟨hr, k_good1 hr h.2.2.1.2.2.1 ⟨fun w => absurd w (by omega), fun _ => ⟨hr, hr, ?_⟩⟩⟩
  rw [ht.1, h.2.2.1.1]
  exact ⟨ht.2, k_tis h.2.1 h.le.1 hy (fun q => ⟨fun w => absurd w (by omega), fun _ => u45_2 (h1 q)⟩) (fun q => ⟨fun _ => u45_1 (u45_2 (h0 q)), fun w => absurd rfl w⟩)⟩
theorem k_is0 {f p : Int} (h : CF c pl f p) (hD : 2 ≤ D) (kk : Q 0 c) : kplan_is D pl y c Q := by
  obtain ⟨d, rfl⟩ : ∃ d', D = d' + 2 := ⟨D - 2, by omega⟩
  exact u45_e ⟨h.1, k_good0 h.1 h.nz ⟨fun _ => u45_1 (u45_2 kk), fun w => absurd rfl w⟩⟩
theorem c_u_id {q : Nat} {a i v : Int} (h : c_v c q a i = v) : c_u c q a i v = c := by
  unfold c_u
  obtain ⟨c1, c2, c3, c4, c5⟩ := c
  have : (fun (q' : Nat) (b' j' : Int) => if q' = q ∧ b' = a ∧ j' = i then v else c5 q' b' j') = c5 := by
    funext q' b' j'
    split
    · rename_i w; obtain ⟨rfl, rfl, rfl⟩ := w; exact h.symm
    · rfl
  show (c1, c2, c3, c4, (fun (q' : Nat) (b' j' : Int) => if q' = q ∧ b' = a ∧ j' = i then v else c5 q' b' j')) = (c1, c2, c3, c4, c5)
  rw [this]
theorem k_eats (h : CE c pl b n K R V) (hD : 3 ≤ D) (hy : st_is y) (h1 : tk_is b n (vA V) (st_str y) → Q 1 (c_u c 122 pl 0 ((vA V + 1 : Nat) : Int))) (h0 : ¬ tk_is b n (vA V) (st_str y) → Q 0 c) : kplan_eats D pl y c Q := by
  obtain ⟨d, rfl⟩ : ∃ d', D = d' + 1 := ⟨D - 1, by omega⟩
  have hr := h.r
  have hl := h.le
  refine u44_e ⟨hr, k_is h (by omega) hy (fun q => ⟨hr, fun w => absurd w (by omega), fun _ => u44_2 ⟨hr, fun c1 e1 => ?_⟩⟩) (fun q => ⟨hr, fun _ => u44_2 ⟨hr, fun c1 e1 => ?_⟩, fun w => absurd rfl w⟩)⟩
  · rw [h.2.2.1.1, am_w_s (by omega)] at e1
    rw [e1]; exact h1 q
  · rw [h.2.2.1.1, am_w_in (by omega) (by omega), Int.add_zero, c_u_id h.2.2.1.1] at e1
    rw [e1]; exact h0 q
theorem k_eats0 {f p : Int} (h : CF c pl f p) (hD : 3 ≤ D) (kk : Q 0 c) : kplan_eats D pl y c Q := by
  obtain ⟨d, rfl⟩ : ∃ d', D = d' + 1 := ⟨D - 1, by omega⟩
  have ha := h.2.2.2.2
  refine u44_e ⟨h.1, k_is0 h (by omega) ⟨h.1, fun _ => u44_2 ⟨h.1, fun c1 e1 => ?_⟩, fun w => absurd rfl w⟩⟩
  rw [am_w_in (by omega) (by omega), Int.add_zero, c_u_id rfl] at e1
  rw [e1]; exact kk
theorem tk_is_lt (hK : tk_K b n K) (hk : k ≤ K) {w : List Int} (h : tk_is b n k w) : k < K := by
  by_cases c : k = K
  · rw [c] at h
    have h1 := h.1
    rw [tk_kd_1, tk_kd_3] at h1
    have := hK.2
    omega
  · omega
theorem k_failTok (h : CE c pl b n K R V) (hD : 1 ≤ D) (kk : Q 0 (c_fl c pl 1 (tk_p b n (vA V)))) : kplan_failToken D pl c Q := by
  obtain ⟨d, rfl⟩ : ∃ d', D = d' + 1 := ⟨D - 1, by omega⟩
  refine u52_e ⟨h.r, h.r, ?_⟩
  rw [h.t.1, h.2.2.1.1]
  exact ⟨h.t.2, k_tplace h.2.1 h.le.1 ⟨h.r, k_fail h.r h.2.2.1.2.2.1 kk⟩⟩
theorem k_want (h : CE c pl b n K R V) (hD : 4 ≤ D) (hy : st_is y) (h1 : tk_is b n (vA V) (st_str y) → Q 0 (c_u c 122 pl 0 ((vA V + 1 : Nat) : Int))) (h0 : ¬ tk_is b n (vA V) (st_str y) → Q 0 (c_fl c pl 1 (tk_p b n (vA V)))) : kplan_want D pl y c Q := by
  obtain ⟨d, rfl⟩ : ∃ d', D = d' + 1 := ⟨D - 1, by omega⟩
  exact u51_e ⟨h.r, k_good1 h.r h.2.2.1.2.2.1 ⟨fun w => absurd w (by omega), fun _ => ⟨h.r, k_eats h (by omega) hy (fun q => ⟨fun _ => u51_1 (h1 q), fun w => absurd (by omega : (1 : Int) ≠ 0) w⟩) (fun q => ⟨fun w => absurd rfl w, fun _ => ⟨h.r, k_failTok h (by omega) (u51_1 (h0 q))⟩⟩)⟩⟩⟩
theorem k_want0 {f p : Int} (h : CF c pl f p) (hD : 4 ≤ D) (kk : Q 0 c) : kplan_want D pl y c Q := by
  obtain ⟨d, rfl⟩ : ∃ d', D = d' + 1 := ⟨D - 1, by omega⟩
  exact u51_e ⟨h.1, k_good0 h.1 h.nz ⟨fun _ => u51_1 kk, fun w => absurd rfl w⟩⟩
theorem k_wantName (h : CE c pl b n K R V) (hD : 4 ≤ D) (h1 : tk_nm b n (vA V) → Q (vA V : Int) (c_u c 122 pl 0 ((vA V + 1 : Nat) : Int))) (h0 : ¬ tk_nm b n (vA V) → ∀ v, Q v (c_fl c pl 1 (tk_p b n (vA V)))) : kplan_wantName D pl c Q := by
  obtain ⟨d, rfl⟩ : ∃ d', D = d' + 1 := ⟨D - 1, by omega⟩
  have hr := h.r
  have hl := h.le
  have hf := h.2.2.1.2.2.1
  refine u72_e ⟨hr, k_good1 hr hf ⟨fun w => absurd w (by omega), fun _ => ⟨hr, hr, ?_⟩⟩⟩
  rw [h.t.1, h.2.2.1.1]
  refine ⟨h.t.2, k_tname h.2.1 hl.1 (fun q => ⟨fun _ => u72_1 ⟨hr, hr, k_good1 hr hf ⟨fun w => absurd w (by omega), fun _ => u72_3 ⟨hr, fun c1 e1 => ?_⟩⟩⟩, fun w => absurd (by omega : (1 : Int) ≠ 0) w⟩) (fun q => ⟨fun w => absurd rfl w, fun _ => ⟨hr, k_failTok h (by omega) (u72_1 ?_)⟩⟩)⟩
  · rw [h.2.2.1.1, am_w_s (by omega)] at e1
    refine ⟨by rw [e1]; exact hr, ?_⟩
    rw [e1, c_u_eq, am_w_in (by omega) (by omega), show ((vA V + 1 : Nat) : Int) - 1 = vA V by omega]
    exact h1 q
  · have hc := h.cf (x := 1) (y := tk_p b n (vA V)) (by omega)
    have ea : c_v (c_fl c pl 1 (tk_p b n (vA V))) 122 pl 0 = (vA V : Int) := by unfold c_fl; rw [c_u_q (by omega), c_u_q (by omega)]; exact h.2.2.1.1
    refine ⟨hc.1, hc.1, k_good0 hc.1 hc.nz ⟨fun _ => u72_3 ⟨hc.1, fun c1 e1 => ?_⟩, fun w => absurd rfl w⟩⟩
    rw [ea, am_w_in (by omega) (by omega), Int.add_zero, c_u_id ea] at e1
    rw [e1]
    exact ⟨hc.1, h0 q _⟩
theorem k_wantName0 {f p : Int} (h : CF c pl f p) (hD : 4 ≤ D) (kk : ∀ v, Q v c) : kplan_wantName D pl c Q := by
  obtain ⟨d, rfl⟩ : ∃ d', D = d' + 1 := ⟨D - 1, by omega⟩
  have hr := h.1
  have hf := h.nz
  have ha := h.2.2.2.2
  refine u72_e ⟨hr, k_good0 hr hf ⟨fun _ => u72_1 ⟨hr, hr, k_good0 hr hf ⟨fun _ => u72_3 ⟨hr, fun c1 e1 => ?_⟩, fun w => absurd rfl w⟩⟩, fun w => absurd rfl w⟩⟩
  rw [am_w_in (by omega) (by omega), Int.add_zero, c_u_id rfl] at e1
  rw [e1]
  exact ⟨hr, kk _⟩
/-- one more within another -/
theorem k_opens (h : CE c pl b n K R V) (hD : 3 ≤ D) (h1 : vD V < 12 → Q 1 (c_u c 125 pl 0 ((vD V + 1 : Nat) : Int))) (h0 : vD V = 12 → Q 0 (c_fl c pl 7 (tk_p b n (vA V)))) : kplan_opens D pl c Q := by
  obtain ⟨d, rfl⟩ : ∃ d', D = d' + 1 := ⟨D - 1, by omega⟩
  have hr := h.r
  have hl := h.le
  have hf := h.2.2.1.2.2.1
  have hd := h.2.2.1.2.2.2.1
  have h12 := h.2.2.1.2.2.2.2.1
  refine u66_e ⟨hr, k_good1 hr hf ⟨fun w => absurd w (by omega), fun _ => ⟨hr, fun w => ?_, fun w => ⟨hr, hr, ?_⟩⟩⟩⟩
  · refine u66_1 ⟨hr, hr, k_good1 hr hf ⟨fun w => absurd w (by omega), fun _ => u66_3 ⟨hr, fun c1 e1 => ?_⟩⟩⟩
    rw [hd, am_w_s (by omega)] at e1
    refine ⟨by rw [e1]; exact hr, k_good1 (by rw [e1]; exact hr) (by rw [e1, c_u_q (by omega)]; exact hf) ?_⟩
    rw [e1]
    exact h1 (by omega)
  · rw [h.t.1, h.2.2.1.1]
    refine ⟨h.t.2, k_tplace h.2.1 hl.1 ⟨hr, k_fail hr hf (u66_1 ?_)⟩⟩
    have hc := h.cf (x := 7) (y := tk_p b n (vA V)) (by omega)
    have hcf := hc.nz
    have ea : c_v (c_fl c pl 7 (tk_p b n (vA V))) 125 pl 0 = (vD V : Int) := by unfold c_fl; rw [c_u_q (by omega), c_u_q (by omega)]; exact hd
    refine ⟨hc.1, hc.1, k_good0 hc.1 hcf ⟨fun _ => u66_3 ⟨hc.1, fun c1 e1 => ?_⟩, fun w => absurd rfl w⟩⟩
    rw [ea, am_w_in (by omega) (by omega), Int.add_zero, c_u_id ea] at e1
    rw [e1]
    exact ⟨hc.1, k_good0 hc.1 hcf (h0 (by omega))⟩
end
