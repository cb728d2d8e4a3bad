set_option maxRecDepth 100000
/-! readers: SOURCES -/
section
variable {c c' : cs_S} {pl : Int} {b : Int → Int} {n K i k0 : Nat} {Z Z' : gZ} {U U' : tV} {r : vSel} {s s' : ms_S}
/-- a QUERY was read within -/
theorem SE.inn (h : SE c pl b n K Z U i r k0) (u : tU pl (oS c Z (wm U)) (oQ c pl Z (wq U)) c Z c' Z') (h' : QE c' pl b n K Z' U') (rd : c_v c' 133 pl 0 = c_v c 133 pl 0) (tc : tC c' Z' U' (wm U) (wq U)) (wx : wX U U') : SE c' pl b n K Z' U' i r k0 := by
  obtain ⟨⟨x1, x2, x3, x4, x5⟩, h2, h3, h4, h5, h6, h7⟩ := h
  obtain ⟨⟨a1, a2, a3⟩, ⟨b1, b2⟩, ⟨c1, c2⟩, d1, d2, d3⟩ := wx
  obtain ⟨g1, g2⟩ := h3.inn h4 x2 h2 x4 x5 u
  have ez := u.2.1.2.2.1 i (by omega)
  refine ⟨h', by omega, g1, fun x hx q hq => by have := h4 x hx q hq; omega, by rw [ez, d3]; exact h5.ag g2, by rw [rd, ez]; exact h6, ?_⟩
  have t := h7.inn x2 x4 x5 u
  refine ⟨fun j j1 j2 => ?_, fun j j1 j2 => ?_⟩
  · by_cases cj : j < wm U
    · obtain ⟨q1, q2, q3⟩ := t.1 j j1 cj
      rw [b2 j cj]
      exact ⟨q1, q2, fun x hx q hq => by have := q3 x hx q hq; omega⟩
    · exact tc.1 j (by omega) j2
  · by_cases cj : j < wq U
    · obtain ⟨q1, q3⟩ := t.2 j j1 cj
      rw [c2 j cj]
      exact ⟨q1, fun x hx => by have := q3 x hx; omega⟩
    · exact tc.2 j (by omega) j2
theorem SM.qm (h : SM s b n K U i r k0) (hM : vM (wV U) = false) : QM s b n K U := ⟨h.me.si0 hM, h.2.1, hM⟩
theorem SM.inn (h : SM s b n K U i r k0) (h' : QM s' b n K U') (t : mT s' b n U' (wm U) (wq U)) (f : qF (wm U) (wq U) s s') (wx : wX U U') (h60 : wm U' ≤ 60) : SM s' b n K U' i r k0 := by
  obtain ⟨x1, ⟨x2, x2', x2''⟩, ⟨x3, x3', x3''⟩, x4, x5, x6, x7⟩ := h
  obtain ⟨⟨a1, a2, a3⟩, ⟨b1, b2⟩, ⟨c1, c2⟩, d1, d2, d3⟩ := wx
  have fs : ∀ (q : Nat) (x : Int) (j : Nat), j < wm U → sBk j q x → s' q x = s q x := fun q x j hj w => f q x (Or.inr (Or.inr (Or.inr (Or.inr (Or.inr (Or.inl ⟨j, hj, w⟩))))))
  have fq : ∀ (q : Nat) (x : Int) (j : Nat), j < wq U → qBk j q x → s' q x = s q x := fun q x j hj w => f q x (Or.inr (Or.inr (Or.inr (Or.inr (Or.inr (Or.inr ⟨j, hj, w⟩))))))
  refine ⟨h'.1.si0 h'.2.2, h'.2.1, ⟨by omega, h60, x3''⟩, x4.bk x3'' (fun q x w _ _ => fs q x i x3 w), ?_, ?_, ?_⟩
  · rw [d3]
    exact x5.bk ⟨fs _ _ i x3 (Or.inl ⟨by omega, rfl⟩), fs _ _ i x3 (Or.inl ⟨by omega, rfl⟩)⟩ (fun e he => (a3 e (x6 e he)).2)
  · rw [d3]
    exact fun e he => by have := x6 e he; omega
  · refine ⟨fun j j1 j2 => ?_, fun j j1 j2 => ?_⟩
    · by_cases cj : j < wm U
      · obtain ⟨⟨g1, g2, g3⟩, g4⟩ := x7.1 j j1 cj
        rw [b2 j cj]
        refine ⟨⟨g1.bk g3 (fun q x w _ _ => fs q x j cj w), g2.bk ⟨fs _ _ j cj (Or.inl ⟨by omega, rfl⟩), fs _ _ j cj (Or.inl ⟨by omega, rfl⟩)⟩ (fun e he => (a3 e (g4 e he)).2), g3⟩, fun e he => by have := g4 e he; omega⟩
      · exact t.1 j (by omega) j2
    · by_cases cj : j < wq U
      · obtain ⟨g1, g2⟩ := x7.2 j j1 cj
        rw [c2 j cj]
        exact ⟨g1.bk g2 (fun q x w => fq q x j cj w), g2⟩
      · exact t.2 j (by omega) j2
/-- what a reader with a fault does yet: it writes in its SELECT, and in the plan -/
theorem CF.own {f p A : Int} (h : CF c pl f p) (hz : ZT c pl Z) (s : c_sm (sOw A) c c') : CF c' pl f p ∧ ZT c' pl Z := by
  obtain ⟨f1, f2, f3, f4, f5, f6⟩ := h
  have v : ∀ q : Nat, 122 ≤ q → q ≤ 124 → c_v c' q pl 0 = c_v c q pl 0 := fun q h1 h2 => s.v (by unfold sOw; omega) 0
  refine ⟨⟨by rw [s.r]; exact f1, by rw [v _ (by omega) (by omega)]; exact f2, by rw [v _ (by omega) (by omega)]; exact f3, f4, by rw [v _ (by omega) (by omega)]; exact f5, by rw [v _ (by omega) (by omega)]; exact f6⟩, (hz.up s.up (fun q a w => w.2.2.2.2.2)).1⟩
theorem am_i2b_b {x : Int} (h : x = 0 ∨ x = 1) : am_i2b x = x := by rcases h with rfl | rfl <;> decide
/-- the end of readSource: join, left, one more -/
theorem rs_11 {d : Nat} {A : Int} {k : Nat} {jn lf x5 x6 x7 : Int} {Q : Int → cs_S → Prop} (h : slA c A) (hk : k < 4) (hs : c_v c 365 A 0 = (k : Int)) (hlf : lf = 0 ∨ lf = 1) (kk : Q 0 (c_u (c_u (c_u c 871 (A + 9) k jn) 872 (A + 10) k lf) 365 A 0 ((k + 1 : Nat) : Int))) : cw (d + 1) 75 (am_blk 75 11) [pl, A, jn, lf, k, x5, x6, x7] [] c Q := by
  have f9 : c_v c 371 A 0 = A + 9 ∧ c_r c (A + 9) = 871 ∧ c_l c (A + 9) = 4 := h.2 (371, 9, 4) (by decide)
  have f10 : c_v c 372 A 0 = A + 10 ∧ c_r c (A + 10) = 872 ∧ c_l c (A + 10) = 4 := h.2 (372, 10, 4) (by decide)
  refine u75_11 ⟨h.1, by rw [f9.1]; exact f9.2.1, by omega, by rw [f9.1]; omega, fun c1 e1 => ?_⟩
  rw [f9.1] at e1
  have v1 : c_v c1 372 A 0 = A + 10 := by rw [e1, c_u_q (by omega)]; exact f10.1
  have r1 : ∀ a, c_r c1 a = c_r c a := fun a => by rw [e1]; rfl
  have l1 : ∀ a, c_l c1 a = c_l c a := fun a => by rw [e1]; rfl
  refine ⟨by rw [r1]; exact h.1, by rw [v1, r1]; exact f10.2.1, by omega, by rw [v1, l1]; omega, fun c2 e2 => ?_⟩
  rw [v1, am_i2b_b hlf] at e2
  refine ⟨by rw [e2]; show c_r c1 A = _; rw [r1]; exact h.1, by rw [e2]; show c_r c1 A = _; rw [r1]; exact h.1, fun c3 e3 => ?_⟩
  rw [e2, c_u_q (by omega), e1, c_u_q (by omega), hs, am_w_s (by omega)] at e3
  rw [e3]
  exact kk
/-- steps of the reader itself -/
theorem SE.ow {OS : Int → Prop} {OQ : Nat → Int → Prop} {m k : Nat} (h : SE c pl b n K Z U i r k0) (s : c_sm (sWr pl (zs Z i)) c c') (hc : cov OS OQ c pl Z m k) (him : m ≤ i) : tU pl OS OQ c Z c' Z ∧ cov OS OQ c' pl Z m k ∧ ZT c' pl Z := own_u h.1.2.1 s hc him h.sl.2.1
theorem pf_own {q0 : Nat} {v A : Int} (hq : q0 = 122 ∨ q0 = 125 ∨ q0 = 134 ∨ q0 = 126) : c_sm (sWr pl A) c (c_u c q0 pl 0 v) := c_sm.u c ⟨Or.inl ⟨rfl, by omega⟩, fun w => by have := fW_q w; omega⟩ _ _
theorem fl_own {x y A : Int} : c_sm (sWr pl A) c (c_fl c pl x y) := (c_fl_sm (R := A)).mono (fun q a w => eW_own w)
/-- the model with a fault: to the end -/
theorem so_8f {f p x1 x2 x3 x4 x5 x6 : Int} {d : Nat} {P : Int → ms_S → Prop} (h : MF s f p) (hd : 4 ≤ d) (hp : P 0 s) : mw (d + 1) 220 (am_blk 220 8) [159, x1, x2, x3, x4, x5, x6] [] s P :=
  w220_8 (h.needW (by omega) ⟨fun _ => w220_10 ⟨fun w => absurd h.1 w, fun _ => hp⟩, fun w => absurd h.1 w⟩)
theorem so_3f {f p x1 x2 x3 x4 x5 x6 z0 : Int} {d : Nat} {P : Int → ms_S → Prop} (h : MF s f p) (hd : 4 ≤ d) (hp : ∀ s', MF s' f p → (∀ (q : Nat) (j : Int), q ≠ 70 → s' q j = s q j) → P 0 s') : mw (d + 1) 220 (am_blk 220 3) [159, x1, x2, x3, x4, x5, x6] [z0] s P := by
  refine w220_3 (fun s1 e1 => ?_)
  have h1 : MF s1 f p := h.fr (fun q h1 h2 => by rw [e1]; exact ms_u_f _ _ _ (by omega))
  have := h1.2.2.2
  exact ⟨by omega, by omega, h1.needS (by omega) ⟨fun _ => w220_4 (so_8f h1 hd (hp s1 h1 (fun q j hq => by rw [e1]; exact ms_u_f _ _ _ hq))), fun w => absurd h1.1 w⟩⟩
/-- a state that differs in what is only at hand -/
theorem qF.hd (h : ∀ (q : Nat) (j : Int), (q < 18 ∨ q = 31 ∨ (33 ≤ q ∧ q < 69) ∨ 75 ≤ q) → s' q j = s q j) {m k : Nat} : qF m k s s' := by
  intro q j hq
  refine h q j ?_
  rcases hq with hq | hq | hq | hq | hq | ⟨i, h1, h2⟩ | ⟨i, h1, h2⟩
  · omega
  · omega
  · omega
  · omega
  · omega
  · have := sBk_q h2; omega
  · have := qBk_q h2; omega
theorem qF.fl {m k : Nat} {f p : Int} : qF m k s (m_fl s f p) := qF.hd (fun q j hq => m_fl_f (by omega) (by omega) (by omega))
theorem SM.k (h : SM s b n K U i r k0) : s 37 i = ((s_src r).length : Int) := h.sel.2.2.1.1
theorem SM.gd (h : SM s b n K U i r k0) : s 21 0 = 1 := h.me.2.1.2.2.1
theorem SM.i60 (h : SM s b n K U i r k0) : i < 60 := by have := h.2.2.1; omega
theorem so_o (h : SM s b n K U i r k0) : am_w (am_w (3 * (i : Int)) + s 37 i) = ((3 * i + (s_src r).length : Nat) : Int) := by
  have := h.i60
  have := h.bd.2.1
  have e : am_w (3 * (i : Int)) = 3 * (i : Int) := am_w_in (by omega) (by omega)
  rw [h.k, e, am_w_in (by omega) (by omega)]
  omega
theorem SM.at {k : Nat} (h : SM s b n K U i r k0) (hk : k ≤ K) : SM (ms_u s 18 0 k) b n K (w_v U (v_at (wV U) k)) i r k0 := h.pf (h.me.at hk) (fun q j hq => ms_u_f _ _ _ (by omega)) rfl
theorem SM.deep {k : Nat} (h : SM s b n K U i r k0) (hk : k ≤ 12) : SM (ms_u s 70 0 k) b n K (w_v U (v_deep (wV U) k)) i r k0 := h.pf (h.me.deep hk) (fun q j hq => ms_u_f _ _ _ (by omega)) rfl
theorem SE.at {k : Nat} (h : SE c pl b n K Z U i r k0) (hk : k ≤ K) : SE (c_u c 122 pl 0 k) pl b n K Z (w_v U (v_at (wV U) k)) i r k0 := h.pf (Or.inl rfl) (h.ce.at hk).2.2.1 rfl
theorem SE.deep {k : Nat} (h : SE c pl b n K Z U i r k0) (hk : k ≤ 12) : SE (c_u c 125 pl 0 k) pl b n K Z (w_v U (v_deep (wV U) k)) i r k0 := h.pf (by omega) (h.ce.deep hk).2.2.1 rfl
end
