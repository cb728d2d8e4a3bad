set_option maxRecDepth 100000
/-! a SELECT's record grows -/
def r_dis (r : vSel) (d : Int) : vSel := ((d, s_its r, s_src r), r.2)
def r_itm (r : vSel) (x : Nat × Int) : vSel := ((s_dis r, s_its r ++ [x], s_src r), r.2)
def r_src (r : vSel) (x : vSrc) : vSel := ((s_dis r, s_its r, s_src r ++ [x]), r.2)
def r_whr (r : vSel) (e : Int) : vSel := (r.1, (e, s_grp r, s_grs r, s_hav r), s_ags r)
def r_grp (r : vSel) (e : Int) : vSel := (r.1, (s_whr r, e, s_grs r, s_hav r), s_ags r)
def r_grs (r : vSel) (x : Nat × Nat) : vSel := (r.1, (s_whr r, s_grp r, s_grs r ++ [x], s_hav r), s_ags r)
def r_hav (r : vSel) (e : Int) : vSel := (r.1, (s_whr r, s_grp r, s_grs r, e), s_ags r)
def r_ags (r : vSel) (g : List Nat) : vSel := (r.1, r.2.1, g)
def o_set (x : vSrc) (e : Int) : vSrc := (x.1, (o_jn x, o_lf x, e))
theorem getElem?_snoc {α : Type} {l : List α} {x y : α} {k : Nat} (h : (l ++ [x])[k]? = some y) : l[k]? = some y ∧ k < l.length ∨ (k = l.length ∧ y = x) := by
  rw [List.getElem?_append] at h
  split at h
  · rename_i ck; exact Or.inl ⟨h, ck⟩
  · rename_i ck
    have hk := (List.getElem?_eq_some_iff.mp h).1
    have : k = l.length := by simp at hk; omega
    subst this
    simp at h
    exact Or.inr ⟨rfl, h.symm⟩
section
variable {c : cs_S} {pl : Int} {b : Int → Int} {n K i k0 : Nat} {Z : gZ} {U : tV} {r : vSel} {v : Int}
theorem SE.sel (h : SE c pl b n K Z U i r k0) : selC c (zq Z) (zs Z i) r := h.2.2.1
theorem SE.bd (h : SE c pl b n K Z U i r k0) : s_bd r := ⟨h.sel.2.1.2.1, h.sel.2.2.1.2.1, h.sel.2.2.2.2.2.1.2.1⟩
theorem sOw_f {A : Int} {q : Nat} (h : q = 360 ∨ q = 361 ∨ q = 365 ∨ q = 377 ∨ q = 378 ∨ q = 379 ∨ q = 382) : sOw A q A := ⟨by omega, by omega, by omega, by omega, by omega, fun w => by have := fW_q w; omega⟩
theorem sOw_a {A a : Int} {q : Nat} (h : 862 ≤ q ∧ q < 884) (h1 : A ≤ a) (h2 : a ≤ A + 16) : sOw A q a := ⟨h1, h2, by omega, by omega, by omega, fun w => by have := fW_q w; omega⟩
theorem srcC_f {A : Int} {qa : Nat → Int} {k : Nat} {x : vSrc} {q : Nat} {a j v : Int} (h : srcC c qa A k x) (hq : q < 866 ∨ 873 < q) : srcC (c_u c q a j v) qa A k x := by
  unfold srcC at h ⊢
  cases hx : o_q x with
  | some y =>
    rw [hx] at h
    simp only at h ⊢
    rw [c_u_q (by omega), c_u_q (by omega), c_u_q (by omega), c_u_q (by omega), c_u_q (by omega), c_u_q (by omega)]
    exact h
  | none =>
    rw [hx] at h
    simp only at h ⊢
    rw [c_u_q (by omega), c_u_q (by omega), c_u_q (by omega), c_u_q (by omega), c_u_q (by omega), c_u_q (by omega), c_u_q (by omega)]
    exact h
theorem SE.dis (h : SE c pl b n K Z U i r k0) : SE (c_u c 360 (zs Z i) 0 v) pl b n K Z U i (r_dis r v) k0 := by
  obtain ⟨h1, ⟨a1, a2, a3⟩, ⟨b1, b2, b3, b4⟩, h4, h5, ⟨d1, d2, d3⟩, h7⟩ := h.sel
  refine h.wr (c_sm.u c (sOw_f (by omega)) _ _) ⟨c_u_eq _ _ _ _ _, ⟨by rw [c_u_q (by omega)]; exact a1, a2, fun k x hx => by rw [c_u_q (by omega), c_u_q (by omega)]; exact a3 k x hx⟩, ⟨by rw [c_u_q (by omega)]; exact b1, b2, fun k x hx => srcC_f (b3 k x hx) (by omega), fun k h1 h2 => by rw [c_u_q (by omega)]; exact b4 k h1 h2⟩, by rw [c_u_q (by omega)]; exact h4, by rw [c_u_q (by omega)]; exact h5, ⟨by rw [c_u_q (by omega)]; exact d1, d2, fun k x hx => by rw [c_u_q (by omega), c_u_q (by omega)]; exact d3 k x hx⟩, by rw [c_u_q (by omega)]; exact h7⟩ h.2.2.2.1
theorem SE.whr (h : SE c pl b n K Z U i r k0) : SE (c_u c 377 (zs Z i) 0 v) pl b n K Z U i (r_whr r v) k0 := by
  obtain ⟨h1, ⟨a1, a2, a3⟩, ⟨b1, b2, b3, b4⟩, h4, h5, ⟨d1, d2, d3⟩, h7⟩ := h.sel
  refine h.wr (c_sm.u c (sOw_f (by omega)) _ _) ⟨by rw [c_u_q (by omega)]; exact h1, ⟨by rw [c_u_q (by omega)]; exact a1, a2, fun k x hx => by rw [c_u_q (by omega), c_u_q (by omega)]; exact a3 k x hx⟩, ⟨by rw [c_u_q (by omega)]; exact b1, b2, fun k x hx => srcC_f (b3 k x hx) (by omega), fun k h1 h2 => by rw [c_u_q (by omega)]; exact b4 k h1 h2⟩, c_u_eq _ _ _ _ _, by rw [c_u_q (by omega)]; exact h5, ⟨by rw [c_u_q (by omega)]; exact d1, d2, fun k x hx => by rw [c_u_q (by omega), c_u_q (by omega)]; exact d3 k x hx⟩, by rw [c_u_q (by omega)]; exact h7⟩ h.2.2.2.1
theorem SE.grp (h : SE c pl b n K Z U i r k0) : SE (c_u c 378 (zs Z i) 0 v) pl b n K Z U i (r_grp r v) k0 := by
  obtain ⟨h1, ⟨a1, a2, a3⟩, ⟨b1, b2, b3, b4⟩, h4, h5, ⟨d1, d2, d3⟩, h7⟩ := h.sel
  refine h.wr (c_sm.u c (sOw_f (by omega)) _ _) ⟨by rw [c_u_q (by omega)]; exact h1, ⟨by rw [c_u_q (by omega)]; exact a1, a2, fun k x hx => by rw [c_u_q (by omega), c_u_q (by omega)]; exact a3 k x hx⟩, ⟨by rw [c_u_q (by omega)]; exact b1, b2, fun k x hx => srcC_f (b3 k x hx) (by omega), fun k h1 h2 => by rw [c_u_q (by omega)]; exact b4 k h1 h2⟩, by rw [c_u_q (by omega)]; exact h4, c_u_eq _ _ _ _ _, ⟨by rw [c_u_q (by omega)]; exact d1, d2, fun k x hx => by rw [c_u_q (by omega), c_u_q (by omega)]; exact d3 k x hx⟩, by rw [c_u_q (by omega)]; exact h7⟩ h.2.2.2.1
theorem SE.hav (h : SE c pl b n K Z U i r k0) : SE (c_u c 382 (zs Z i) 0 v) pl b n K Z U i (r_hav r v) k0 := by
  obtain ⟨h1, ⟨a1, a2, a3⟩, ⟨b1, b2, b3, b4⟩, h4, h5, ⟨d1, d2, d3⟩, h7⟩ := h.sel
  refine h.wr (c_sm.u c (sOw_f (by omega)) _ _) ⟨by rw [c_u_q (by omega)]; exact h1, ⟨by rw [c_u_q (by omega)]; exact a1, a2, fun k x hx => by rw [c_u_q (by omega), c_u_q (by omega)]; exact a3 k x hx⟩, ⟨by rw [c_u_q (by omega)]; exact b1, b2, fun k x hx => srcC_f (b3 k x hx) (by omega), fun k h1 h2 => by rw [c_u_q (by omega)]; exact b4 k h1 h2⟩, by rw [c_u_q (by omega)]; exact h4, by rw [c_u_q (by omega)]; exact h5, ⟨by rw [c_u_q (by omega)]; exact d1, d2, fun k x hx => by rw [c_u_q (by omega), c_u_q (by omega)]; exact d3 k x hx⟩, c_u_eq _ _ _ _ _⟩ h.2.2.2.1
theorem SE.itm {x : Nat} {nm : Int} (h : SE c pl b n K Z U i r k0) (hl : (s_its r).length < 8) : SE (c_u (c_u (c_u c 862 (zs Z i + 1) ((s_its r).length : Int) x) 863 (zs Z i + 2) ((s_its r).length : Int) nm) 361 (zs Z i) 0 (((s_its r).length + 1 : Nat) : Int)) pl b n K Z U i (r_itm r (x, nm)) k0 := by
  obtain ⟨h1, ⟨a1, a2, a3⟩, ⟨b1, b2, b3, b4⟩, h4, h5, ⟨d1, d2, d3⟩, h7⟩ := h.sel
  refine h.wr (((c_sm.u c (sOw_a (by omega) (by omega) (by omega)) _ _).tr (c_sm.u _ (sOw_a (by omega) (by omega) (by omega)) _ _)).tr (c_sm.u _ (sOw_f (by omega)) _ _)) ⟨?_, ⟨?_, ?_, fun k y hx => ?_⟩, ⟨?_, b2, fun k x hx => srcC_f (srcC_f (srcC_f (b3 k x hx) (by omega)) (by omega)) (by omega), fun k h1 h2 => ?_⟩, ?_, ?_, ⟨?_, d2, fun k x hx => ?_⟩, ?_⟩ h.2.2.2.1
  · rw [c_u_q (by omega), c_u_q (by omega), c_u_q (by omega)]; exact h1
  · rw [c_u_eq]; show _ = ((s_its r ++ [(x, nm)]).length : Int); rw [List.length_append]; rfl
  · show (s_its r ++ [(x, nm)]).length ≤ 8; rw [List.length_append]; show _ + 1 ≤ 8; omega
  · rcases getElem?_snoc hx with ⟨q1, q2⟩ | ⟨q1, q2⟩
    · rw [c_u_q (by omega), c_u_q (by omega), c_u_j (by omega), c_u_q (by omega), c_u_j (by omega), c_u_q (by omega)]; exact a3 k y q1
    · rw [q1, q2, c_u_q (by omega), c_u_q (by omega), c_u_eq, c_u_q (by omega), c_u_eq]; exact ⟨rfl, rfl⟩
  · rw [c_u_q (by omega), c_u_q (by omega), c_u_q (by omega)]; exact b1
  · rw [c_u_q (by omega), c_u_q (by omega), c_u_q (by omega)]; exact b4 k h1 h2
  · rw [c_u_q (by omega), c_u_q (by omega), c_u_q (by omega)]; exact h4
  · rw [c_u_q (by omega), c_u_q (by omega), c_u_q (by omega)]; exact h5
  · rw [c_u_q (by omega), c_u_q (by omega), c_u_q (by omega)]; exact d1
  · rw [c_u_q (by omega), c_u_q (by omega), c_u_q (by omega), c_u_q (by omega), c_u_q (by omega), c_u_q (by omega)]; exact d3 k x hx
  · rw [c_u_q (by omega), c_u_q (by omega), c_u_q (by omega)]; exact h7
theorem SE.grs {x nm : Nat} (h : SE c pl b n K Z U i r k0) (hl : (s_grs r).length < 8) : SE (c_u (c_u (c_u c 880 (zs Z i + 14) ((s_grs r).length : Int) x) 881 (zs Z i + 15) ((s_grs r).length : Int) nm) 379 (zs Z i) 0 (((s_grs r).length + 1 : Nat) : Int)) pl b n K Z U i (r_grs r (x, nm)) k0 := by
  obtain ⟨h1, ⟨a1, a2, a3⟩, ⟨b1, b2, b3, b4⟩, h4, h5, ⟨d1, d2, d3⟩, h7⟩ := h.sel
  refine h.wr (((c_sm.u c (sOw_a (by omega) (by omega) (by omega)) _ _).tr (c_sm.u _ (sOw_a (by omega) (by omega) (by omega)) _ _)).tr (c_sm.u _ (sOw_f (by omega)) _ _)) ⟨?_, ⟨?_, a2, fun k y hx => ?_⟩, ⟨?_, b2, fun k x hx => srcC_f (srcC_f (srcC_f (b3 k x hx) (by omega)) (by omega)) (by omega), fun k h1 h2 => ?_⟩, ?_, ?_, ⟨?_, ?_, fun k y hx => ?_⟩, ?_⟩ h.2.2.2.1
  · rw [c_u_q (by omega), c_u_q (by omega), c_u_q (by omega)]; exact h1
  · rw [c_u_q (by omega), c_u_q (by omega), c_u_q (by omega)]; exact a1
  · rw [c_u_q (by omega), c_u_q (by omega), c_u_q (by omega), c_u_q (by omega), c_u_q (by omega), c_u_q (by omega)]; exact a3 k y hx
  · rw [c_u_q (by omega), c_u_q (by omega), c_u_q (by omega)]; exact b1
  · rw [c_u_q (by omega), c_u_q (by omega), c_u_q (by omega)]; exact b4 k h1 h2
  · rw [c_u_q (by omega), c_u_q (by omega), c_u_q (by omega)]; exact h4
  · rw [c_u_q (by omega), c_u_q (by omega), c_u_q (by omega)]; exact h5
  · rw [c_u_eq]; show _ = ((s_grs r ++ [(x, nm)]).length : Int); rw [List.length_append]; rfl
  · show (s_grs r ++ [(x, nm)]).length ≤ 8; rw [List.length_append]; show _ + 1 ≤ 8; omega
  · rcases getElem?_snoc hx with ⟨q1, q2⟩ | ⟨q1, q2⟩
    · rw [c_u_q (by omega), c_u_q (by omega), c_u_j (by omega), c_u_q (by omega), c_u_j (by omega), c_u_q (by omega)]; exact d3 k y q1
    · rw [q1, q2, c_u_q (by omega), c_u_q (by omega), c_u_eq, c_u_q (by omega), c_u_eq]; exact ⟨rfl, rfl⟩
  · rw [c_u_q (by omega), c_u_q (by omega), c_u_q (by omega)]; exact h7
/-- beyond the last SOURCE -/
theorem srcC_j {A : Int} {qa : Nat → Int} {k : Nat} {x : vSrc} {q : Nat} {a j v : Int} (h : srcC c qa A k x) (hj : (k : Int) ≠ j) : srcC (c_u c q a j v) qa A k x := by
  unfold srcC at h ⊢
  cases hx : o_q x with
  | some y =>
    rw [hx] at h
    simp only at h ⊢
    rw [c_u_j hj, c_u_j hj, c_u_j hj, c_u_j hj, c_u_j hj, c_u_j hj]
    exact h
  | none =>
    rw [hx] at h
    simp only at h ⊢
    rw [c_u_j hj, c_u_j hj, c_u_j hj, c_u_j hj, c_u_j hj, c_u_j hj, c_u_j hj]
    exact h
theorem SE.s1 {q : Nat} {a : Int} (h : SE c pl b n K Z U i r k0) (hq : 867 ≤ q ∧ q ≤ 873) (h1 : zs Z i ≤ a) (h2 : a ≤ zs Z i + 16) : SE (c_u c q a ((s_src r).length : Int) v) pl b n K Z U i r k0 := by
  obtain ⟨g1, ⟨a1, a2, a3⟩, ⟨b1, b2, b3, b4⟩, h4, h5, ⟨d1, d2, d3⟩, h7⟩ := h.sel
  refine h.wr (c_sm.u c (sOw_a (by omega) h1 h2) _ _) ⟨by rw [c_u_q (by omega)]; exact g1, ⟨by rw [c_u_q (by omega)]; exact a1, a2, fun k x hx => by rw [c_u_q (by omega), c_u_q (by omega)]; exact a3 k x hx⟩, ⟨by rw [c_u_q (by omega)]; exact b1, b2, fun k x hx => srcC_j (b3 k x hx) (by have := (List.getElem?_eq_some_iff.mp hx).1; omega), fun k h1 h2 => by rw [c_u_q (by omega)]; exact b4 k h1 h2⟩, by rw [c_u_q (by omega)]; exact h4, by rw [c_u_q (by omega)]; exact h5, ⟨by rw [c_u_q (by omega)]; exact d1, d2, fun k x hx => by rw [c_u_q (by omega), c_u_q (by omega)]; exact d3 k x hx⟩, by rw [c_u_q (by omega)]; exact h7⟩ h.2.2.2.1
/-- a SOURCE more: a stream -/
theorem SE.srs {tok nm : Nat} {keep jn : Int} {lf : Bool} (h : SE c pl b n K Z U i r k0) (hl : (s_src r).length < 3) (h1 : c_v c 868 (zs Z i + 6) ((s_src r).length : Int) = (tok : Int)) (h2 : c_v c 869 (zs Z i + 7) ((s_src r).length : Int) = keep) (h3 : c_v c 870 (zs Z i + 8) ((s_src r).length : Int) = (nm : Int)) : SE (c_u (c_u (c_u c 871 (zs Z i + 9) ((s_src r).length : Int) jn) 872 (zs Z i + 10) ((s_src r).length : Int) (if lf = true then 1 else 0)) 365 (zs Z i) 0 (((s_src r).length + 1 : Nat) : Int)) pl b n K Z U i (r_src r ((none, tok, keep, nm), (jn, lf, -2))) k0 := by
  have h0 := (h.s1 (q := 871) (a := zs Z i + 9) (v := jn) (by omega) (by omega) (by omega)).s1 (q := 872) (a := zs Z i + 10) (v := if lf = true then 1 else 0) (by omega) (by omega) (by omega)
  obtain ⟨g1, ⟨a1, a2, a3⟩, ⟨b1, b2, b3, b4⟩, h4, h5, ⟨d1, d2, d3⟩, h7⟩ := h0.sel
  refine h0.wr (c_sm.u _ (sOw_f (by omega)) _ _) ⟨by rw [c_u_q (by omega)]; exact g1, ⟨by rw [c_u_q (by omega)]; exact a1, a2, fun k x hx => by rw [c_u_q (by omega), c_u_q (by omega)]; exact a3 k x hx⟩, ⟨?_, ?_, fun k x hx => ?_, fun k w1 w2 => ?_⟩, by rw [c_u_q (by omega)]; exact h4, by rw [c_u_q (by omega)]; exact h5, ⟨by rw [c_u_q (by omega)]; exact d1, d2, fun k x hx => by rw [c_u_q (by omega), c_u_q (by omega)]; exact d3 k x hx⟩, by rw [c_u_q (by omega)]; exact h7⟩ ?_
  · rw [c_u_eq]; show _ = ((s_src r ++ [_]).length : Int); rw [List.length_append]; rfl
  · show (s_src r ++ [_]).length ≤ 3; rw [List.length_append]; show _ + 1 ≤ 3; omega
  · rcases getElem?_snoc hx with ⟨q1, q2⟩ | ⟨q1, q2⟩
    · exact srcC_f (b3 k x q1) (by omega)
    · rw [q1, q2]
      refine srcC_f ?_ (by omega)
      have b5 := b4 (s_src r).length (by omega) (Nat.le_refl _)
      refine ⟨⟨b5, ?_, ?_⟩, ?_, ?_, c_u_eq _ _ _ _ _, fun w => absurd rfl w⟩
      · rw [c_u_q (by omega), c_u_q (by omega)]; exact h1
      · rw [c_u_q (by omega), c_u_q (by omega)]; exact h2
      · rw [c_u_q (by omega), c_u_q (by omega)]; exact h3
      · rw [c_u_q (by omega), c_u_eq]; rfl
  · have w2 : (s_src r ++ [((none, tok, keep, nm), (jn, lf, -2))]).length ≤ k := w2
    rw [List.length_append] at w2
    rw [c_u_q (by omega)]; exact b4 k w1 (by have w2 : (s_src r).length + 1 ≤ k := w2; omega)
  · intro x hx q hq
    rcases List.mem_append.mp hx with hx | hx
    · exact h.2.2.2.1 x hx q hq
    · rw [List.mem_singleton.mp hx] at hq; cases hq
/-- a QUERY -/
theorem SE.srq {q tok nm : Nat} {jn : Int} {lf : Bool} (h : SE c pl b n K Z U i r k0) (hl : (s_src r).length < 3) (hq : q < wq U) : SE (c_u (c_u (c_u (c_u (c_u (c_u c 866 (zs Z i + 4) ((s_src r).length : Int) (zq Z q)) 867 (zs Z i + 5) ((s_src r).length : Int) tok) 870 (zs Z i + 8) ((s_src r).length : Int) nm) 871 (zs Z i + 9) ((s_src r).length : Int) jn) 872 (zs Z i + 10) ((s_src r).length : Int) (if lf = true then 1 else 0)) 365 (zs Z i) 0 (((s_src r).length + 1 : Nat) : Int)) pl b n K Z U i (r_src r ((some q, tok, 0, nm), (jn, lf, -2))) k0 := by
  obtain ⟨g1, ⟨a1, a2, a3⟩, ⟨b1, b2, b3, b4⟩, h4, h5, ⟨d1, d2, d3⟩, h7⟩ := h.sel
  have sa : ∀ {c1 : cs_S} {q : Nat} {a j v : Int}, 862 ≤ q ∧ q < 884 → zs Z i ≤ a → a ≤ zs Z i + 16 → c_sm (sOw (zs Z i)) c1 (c_u c1 q a j v) := fun h1 h2 h3 => c_sm.u _ (sOw_a h1 h2 h3) _ _
  refine h.wr ((((((sa (by omega) (by omega) (by omega)).tr (sa (by omega) (by omega) (by omega))).tr (sa (by omega) (by omega) (by omega))).tr (sa (by omega) (by omega) (by omega))).tr (sa (by omega) (by omega) (by omega))).tr (c_sm.u _ (sOw_f (by omega)) _ _)) ⟨?_, ⟨?_, a2, fun k x hx => ?_⟩, ⟨?_, ?_, fun k x hx => ?_, fun k w1 w2 => ?_⟩, ?_, ?_, ⟨?_, d2, fun k x hx => ?_⟩, ?_⟩ ?_
  · rw [c_u_q (by omega), c_u_q (by omega), c_u_q (by omega), c_u_q (by omega), c_u_q (by omega), c_u_q (by omega)]; exact g1
  · rw [c_u_q (by omega), c_u_q (by omega), c_u_q (by omega), c_u_q (by omega), c_u_q (by omega), c_u_q (by omega)]; exact a1
  · rw [c_u_q (by omega), c_u_q (by omega), c_u_q (by omega), c_u_q (by omega), c_u_q (by omega), c_u_q (by omega), c_u_q (by omega), c_u_q (by omega), c_u_q (by omega), c_u_q (by omega), c_u_q (by omega), c_u_q (by omega)]; exact a3 k x hx
  · rw [c_u_eq]; show _ = ((s_src r ++ [_]).length : Int); rw [List.length_append]; rfl
  · show (s_src r ++ [_]).length ≤ 3; rw [List.length_append]; show _ + 1 ≤ 3; omega
  · rcases getElem?_snoc hx with ⟨q1, q2⟩ | ⟨q1, q2⟩
    · exact srcC_f (srcC_j (srcC_j (srcC_j (srcC_j (srcC_j (b3 k x q1) (by omega)) (by omega)) (by omega)) (by omega)) (by omega)) (by omega)
    · rw [q1, q2]
      refine srcC_f ?_ (by omega)
      refine ⟨⟨?_, ?_⟩, ?_, ?_, c_u_eq _ _ _ _ _, fun w => absurd rfl w⟩
      · rw [c_u_q (by omega), c_u_q (by omega), c_u_q (by omega), c_u_q (by omega), c_u_eq]
      · rw [c_u_q (by omega), c_u_q (by omega), c_u_q (by omega), c_u_eq]; rfl
      · rw [c_u_q (by omega), c_u_q (by omega), c_u_eq]; rfl
      · rw [c_u_q (by omega), c_u_eq]; rfl
  · have w2 : (s_src r ++ [((some q, tok, 0, nm), (jn, lf, -2))]).length ≤ k := w2
    rw [List.length_append] at w2
    have w2 : (s_src r).length + 1 ≤ k := w2
    rw [c_u_q (by omega), c_u_q (by omega), c_u_q (by omega), c_u_q (by omega), c_u_q (by omega), c_u_j (by omega)]; exact b4 k w1 (by omega)
  · rw [c_u_q (by omega), c_u_q (by omega), c_u_q (by omega), c_u_q (by omega), c_u_q (by omega), c_u_q (by omega)]; exact h4
  · rw [c_u_q (by omega), c_u_q (by omega), c_u_q (by omega), c_u_q (by omega), c_u_q (by omega), c_u_q (by omega)]; exact h5
  · rw [c_u_q (by omega), c_u_q (by omega), c_u_q (by omega), c_u_q (by omega), c_u_q (by omega), c_u_q (by omega)]; exact d1
  · rw [c_u_q (by omega), c_u_q (by omega), c_u_q (by omega), c_u_q (by omega), c_u_q (by omega), c_u_q (by omega), c_u_q (by omega), c_u_q (by omega), c_u_q (by omega), c_u_q (by omega), c_u_q (by omega), c_u_q (by omega)]; exact d3 k x hx
  · rw [c_u_q (by omega), c_u_q (by omega), c_u_q (by omega), c_u_q (by omega), c_u_q (by omega), c_u_q (by omega)]; exact h7
  · intro x hx q' hq'
    rcases List.mem_append.mp hx with hx | hx
    · exact h.2.2.2.1 x hx q' hq'
    · rw [List.mem_singleton.mp hx] at hq'
      have : q = q' := Option.some.inj hq'
      omega
/-- what it is joined on -/
theorem SE.on {x : vSrc} {e : Nat} (h : SE c pl b n K Z U i (r_src r x) k0) : SE (c_u c 873 (zs Z i + 11) ((s_src r).length : Int) e) pl b n K Z U i (r_src r (o_set x e)) k0 := by
  obtain ⟨g1, ⟨a1, a2, a3⟩, ⟨b1, b2, b3, b4⟩, h4, h5, ⟨d1, d2, d3⟩, h7⟩ := h.sel
  have ln : (s_src (r_src r (o_set x e))).length = (s_src (r_src r x)).length := by show (s_src r ++ [_]).length = (s_src r ++ [_]).length; rw [List.length_append, List.length_append]; rfl
  refine h.wr (c_sm.u c (sOw_a (by omega) (by omega) (by omega)) _ _) ⟨by rw [c_u_q (by omega)]; exact g1, ⟨by rw [c_u_q (by omega)]; exact a1, a2, fun k x hx => by rw [c_u_q (by omega), c_u_q (by omega)]; exact a3 k x hx⟩, ⟨by rw [c_u_q (by omega), ln]; exact b1, by rw [ln]; exact b2, fun k y hx => ?_, fun k w1 w2 => by rw [c_u_q (by omega)]; exact b4 k w1 (by rw [← ln]; exact w2)⟩, by rw [c_u_q (by omega)]; exact h4, by rw [c_u_q (by omega)]; exact h5, ⟨by rw [c_u_q (by omega)]; exact d1, d2, fun k x hx => by rw [c_u_q (by omega), c_u_q (by omega)]; exact d3 k x hx⟩, by rw [c_u_q (by omega)]; exact h7⟩ ?_
  · rcases getElem?_snoc hx with ⟨q1, q2⟩ | ⟨q1, q2⟩
    · exact srcC_j (b3 k y (by show (s_src r ++ [x])[k]? = _; rw [List.getElem?_append_left q2]; exact q1)) (by omega)
    · rw [q1, q2]
      have := b3 (s_src r).length x (by show (s_src r ++ [x])[_]? = _; simp)
      unfold srcC at this ⊢
      show (match o_q x with | some q => _ | none => _) ∧ _
      cases hx : o_q x with
      | some q =>
        rw [hx] at this
        simp only at this ⊢
        rw [c_u_q (by omega), c_u_q (by omega), c_u_q (by omega), c_u_q (by omega), c_u_q (by omega)]
        exact ⟨this.1, this.2.1, this.2.2.1, this.2.2.2.1, fun _ => by rw [c_u_eq]; rfl⟩
      | none =>
        rw [hx] at this
        simp only at this ⊢
        rw [c_u_q (by omega), c_u_q (by omega), c_u_q (by omega), c_u_q (by omega), c_u_q (by omega), c_u_q (by omega)]
        exact ⟨this.1, this.2.1, this.2.2.1, this.2.2.2.1, fun _ => by rw [c_u_eq]; rfl⟩
  · intro y hy q hq
    rcases List.mem_append.mp hy with hy | hy
    · exact h.2.2.2.1 y (List.mem_append.mpr (Or.inl hy)) q hq
    · rw [List.mem_singleton.mp hy] at hq
      exact h.2.2.2.1 x (List.mem_append.mpr (Or.inr (List.mem_singleton.mpr rfl))) q hq
end
