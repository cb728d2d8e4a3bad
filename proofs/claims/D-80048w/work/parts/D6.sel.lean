set_option maxRecDepth 100000
/-! a text with its SELECTS and QUERIES: contents, and a SELECT that is read -/
def QE (c : cs_S) (pl : Int) (b : Int → Int) (n K : Nat) (Z : gZ) (W : tV) : Prop := CX c pl b n K (wV W) ∧ ZT c pl Z ∧ (c_v c 141 pl 0 = (wm W : Int) ∧ c_v c 139 pl 0 = (wq W : Int)) ∧ wm W ≤ zS Z ∧ wq W ≤ zQ Z
def s_rf (r : vSel) (k : Nat) : Prop := ∀ x ∈ s_src r, ∀ q, o_q x = some q → q < k
def q_rf (r : vQry) (m : Nat) : Prop := ∀ x ∈ q_sls r, x.1 < m
def sC (c : cs_S) (Z : gZ) (i : Nat) (r : vSel) (k : Nat) : Prop := selC c (zq Z) (zs Z i) r ∧ agS c (zs Z i) (s_ags r) ∧ s_rf r k
def qC (c : cs_S) (Z : gZ) (i : Nat) (r : vQry) (m : Nat) : Prop := qryC c (zs Z) (zq Z i) r ∧ q_rf r m
def tC (c : cs_S) (Z : gZ) (W : tV) (m0 k0 : Nat) : Prop := (∀ i, m0 ≤ i → i < wm W → sC c Z i (wS W i) (wq W)) ∧ ∀ i, k0 ≤ i → i < wq W → qC c Z i (wQ W i) (wm W)
/-- what the reader of a SELECT writes itself -/
def sWr (pl A : Int) (q : Nat) (a : Int) : Prop := ((a = pl ∧ ((122 ≤ q ∧ q ≤ 126) ∨ q = 133 ∨ q = 134)) ∨ (a = pl + 8 ∧ q = 200) ∨ (pl + 9 ≤ a ∧ a ≤ pl + 19 ∧ 701 ≤ q ∧ q ≤ 711) ∨ (a < 237 ∧ (q = 383 ∨ q = 884)) ∨ (A ≤ a ∧ a ≤ A + 16 ∧ ((360 ≤ q ∧ q < 400) ∨ (860 ≤ q ∧ q < 900)))) ∧ ¬ fW q
section
variable {c c' c2 : cs_S} {pl A : Int} {b : Int → Int} {n K : Nat} {Z Z' : gZ} {OS OS' : Int → Prop} {OQ OQ' : Nat → Int → Prop} {m k m0 k0 i j : Nat} {W : Nat → Int → Prop} {r : vSel} {t : vQry} {U U' : tV} {qa qa' sa sa' : Nat → Int} {g : List Nat} {V V' : pV}
theorem fW_q {q : Nat} (h : fW q) : q = 140 ∨ q = 138 ∨ q = 640 ∨ q = 638 ∨ (320 ≤ q ∧ q < 332) ∨ (362 ≤ q ∧ q < 385 ∧ q ≠ 365 ∧ q ≠ 377 ∧ q ≠ 378 ∧ q ≠ 379 ∧ q ≠ 382 ∧ q ≠ 383) := by
  have h1 : ∀ f ∈ qr_f, 320 ≤ f ∧ f < 332 := by decide
  have h2 : ∀ t ∈ sl_t, 362 ≤ t.1 ∧ t.1 < 385 ∧ t.1 ≠ 365 ∧ t.1 ≠ 377 ∧ t.1 ≠ 378 ∧ t.1 ≠ 379 ∧ t.1 ≠ 382 ∧ t.1 ≠ 383 := by decide
  rcases h with h | h | h | h | h | ⟨t, ht, h⟩
  · omega
  · omega
  · omega
  · omega
  · have := h1 q h; omega
  · have := h2 t ht; omega
theorem selC.qx (h : selC c qa A r) (he : ∀ x ∈ s_src r, ∀ q, o_q x = some q → qa' q = qa q) : selC c qa' A r := by
  obtain ⟨h1, h2, ⟨b1, b2, b3, b4⟩, h4⟩ := h
  refine ⟨h1, h2, ⟨b1, b2, fun k x hx => ?_, b4⟩, h4⟩
  have h3 := b3 k x hx
  have e := he x (List.mem_of_getElem? hx)
  unfold srcC at h3 ⊢
  cases hq : o_q x with
  | some q => rw [hq] at h3; simp only at h3 ⊢; rw [e q hq]; exact h3
  | none => rw [hq] at h3; exact h3
theorem qryC.sx (h : qryC c sa A t) (he : ∀ x ∈ q_sls t, sa' x.1 = sa x.1) : qryC c sa' A t := by
  obtain ⟨⟨h1, h2, h3, h4⟩, h5⟩ := h
  exact ⟨⟨h1, h2, h3, fun k x hx => by rw [he x (List.mem_of_getElem? hx)]; exact h4 k x hx⟩, h5⟩
theorem sAg2.tw (u : c_up (tW pl OS OQ) c c') (hA : slA c A) (h2 : 237 ≤ A) (hno : ∀ a, A ≤ a → a ≤ A + 16 → ¬ OS a) : sAg2 c c' A := by
  refine sAg2.up u hA.n.2 (fun q a h1 h3 h4 w => ?_)
  rcases w with w | w | w | w | w | w
  · omega
  · omega
  · omega
  · omega
  · exact hno a h1 h3 w.2
  · omega
theorem qryC.tw (h : qryC c sa A t) (hq : qrA c A) (u : c_up (tW pl OS OQ) c c') (hno : ∀ q a, oQ1 c A q a → ((320 ≤ q ∧ q < 360) ∨ (820 ≤ q ∧ q < 860)) → ¬ OQ q a) : qryC c' sa A t := by
  have no : ∀ q a, oQ1 c A q a → ((320 ≤ q ∧ q < 360) ∨ (820 ≤ q ∧ q < 860)) → ¬ tW pl OS OQ q a := by
    intro q a h1 h2 w
    rcases w with w | w | w | w | w | w
    · omega
    · omega
    · omega
    · omega
    · omega
    · exact hno q a h1 h2 w.2
  exact h.up hq u (fun f h1 h2 => no f A (Or.inl ⟨by omega, rfl⟩) (by omega)) (no _ _ (Or.inr (Or.inl ⟨rfl, rfl⟩)) (by omega)) (no _ _ (Or.inr (Or.inr (Or.inl ⟨rfl, rfl⟩))) (by omega)) (no _ _ (Or.inr (Or.inr (Or.inr (Or.inl ⟨rfl, rfl⟩)))) (by omega)) (no _ _ (Or.inr (Or.inr (Or.inr (Or.inr (Or.inl ⟨rfl, rfl⟩))))) (by omega)) (no _ _ (Or.inr (Or.inr (Or.inr (Or.inr (Or.inr (Or.inl ⟨rfl, rfl⟩)))))) (by omega))
/-- an inner act leaves what was read -/
theorem selC.inn (h : selC c (zq Z) (zs Z i) r) (hr : s_rf r k) (hz : ZT c pl Z) (him : i < m) (hmz : m ≤ zS Z) (hkz : k ≤ zQ Z) (u : tU pl (oS c Z m) (oQ c pl Z k) c Z c' Z') : selC c' (zq Z') (zs Z' i) r ∧ sAg2 c c' (zs Z i) := by
  have hsl := (hz.2.2.1.2.2.2.1 i (by omega)).2
  have ag := sAg2.tw u.1 hsl (hz.2.2.1.2.2.2.2.2.2 i (by omega)) (fun a h1 h2 => oS_no hz.2.2.1 him (by omega) h1 h2)
  rw [u.2.1.2.2.1 i (by omega)]
  exact ⟨(h.ag ag.1).qx (fun x hx q hq => u.2.1.2.2.2 q (by have := hr x hx q hq; omega)), ag⟩
theorem tC.inn (h : tC c Z U m0 k0) (hz : ZT c pl Z) (hmz : wm U ≤ zS Z) (hkz : wq U ≤ zQ Z) (u : tU pl (oS c Z (wm U)) (oQ c pl Z (wq U)) c Z c' Z') : tC c' Z' U m0 k0 := by
  refine ⟨fun i h1 h2 => ?_, fun i h1 h2 => ?_⟩
  · obtain ⟨g1, g2, g3⟩ := h.1 i h1 h2
    obtain ⟨a1, a2⟩ := g1.inn g3 hz h2 hmz hkz u
    refine ⟨a1, ?_, g3⟩
    rw [u.2.1.2.2.1 i (by omega)]
    exact g2.ag a2
  · obtain ⟨g1, g3⟩ := h.2 i h1 h2
    have hq := (hz.2.2.2.2.2.2.1 i (by omega)).2
    refine ⟨?_, g3⟩
    rw [u.2.1.2.2.2 i (by omega)]
    exact (g1.tw hq u.1 (fun q a w1 w2 => oQ_no hz.2.2.2 h2 (by omega) w1 w2 (oQ1_lt hz.2.2.2 (by omega) w1))).sx (fun x hx => u.2.1.2.2.1 _ (by have := g3 x hx; omega))
/-- what the reader of a SELECT does by itself -/
theorem own_w {q : Nat} {a : Int} (w : sWr pl A q a) : tW pl (fun a => A ≤ a ∧ a ≤ A + 16) (fun _ _ => False) q a := by
  rcases w.1 with w | w | w | w | w
  · exact Or.inl ⟨w.1, by omega⟩
  · exact Or.inr (Or.inl w)
  · exact Or.inr (Or.inr (Or.inl w))
  · exact Or.inr (Or.inr (Or.inr (Or.inl w)))
  · exact Or.inr (Or.inr (Or.inr (Or.inr (Or.inl ⟨w.2.2, w.1, w.2.1⟩))))
theorem own_u (hz : ZT c pl Z) (s : c_sm (sWr pl (zs Z i)) c c') (hc : cov OS OQ c pl Z m k) (him : m ≤ i) (hiz : i < zS Z) : tU pl OS OQ c Z c' Z ∧ cov OS OQ c' pl Z m k ∧ ZT c' pl Z :=
  ⟨tU.sm hz s (fun q a w => w.2) (fun q a w => (own_w w).mono (fun a h => hc.1 a (Or.inr ⟨i, him, hiz, h⟩)) (fun _ _ h => h.elim)), hc.sm hz s (fun q a w => w.2), (hz.up s.up (fun q a w => w.2)).1⟩
theorem own_s (hz : ZT c pl Z) (s : c_sm (sWr pl (zs Z i)) c c') (hiz : i < zS Z) (hj : j < zS Z) (hne : i ≠ j) : sAg2 c c' (zs Z j) := by
  obtain ⟨t1, t2, t3, t4, t5, t6, t7⟩ := hz.2.2.1
  refine sAg2.tw (s.up.mono (fun q a w => own_w w)) (t4 j hj).2 (t7 j hj) (fun a h1 h2 h3 => ?_)
  by_cases cc : i < j
  · have := t6 i j cc hj; omega
  · have := t6 j i (by omega) hiz; omega
theorem own_t (h : tC c Z U m0 k0) (hz : ZT c pl Z) (hmz : wm U ≤ zS Z) (hkz : wq U ≤ zQ Z) (s : c_sm (sWr pl (zs Z i)) c c') (him : i < m0) (hiz : i < zS Z) : tC c' Z U m0 k0 := by
  refine ⟨fun j h1 h2 => ?_, fun j h1 h2 => ?_⟩
  · obtain ⟨g1, g2, g3⟩ := h.1 j h1 h2
    have a := own_s hz s hiz (j := j) (by omega) (by omega)
    exact ⟨g1.ag a.1, g2.ag a, g3⟩
  · obtain ⟨g1, g3⟩ := h.2 j h1 h2
    exact ⟨g1.tw (hz.2.2.2.2.2.2.1 j (by omega)).2 (s.up.mono (fun q a w => own_w w)) (fun q a _ _ w => w), g3⟩
/-- a SELECT that is read -/
def SE (c : cs_S) (pl : Int) (b : Int → Int) (n K : Nat) (Z : gZ) (U : tV) (i : Nat) (r : vSel) (k0 : Nat) : Prop := QE c pl b n K Z U ∧ i < wm U ∧ selC c (zq Z) (zs Z i) r ∧ s_rf r (wq U) ∧ agS c (zs Z i) (vG (wV U)) ∧ c_v c 133 pl 0 = zs Z i ∧ tC c Z U (i + 1) k0
theorem SE.sl (h : SE c pl b n K Z U i r k0) : slA c (zs Z i) ∧ i < zS Z ∧ 237 ≤ zs Z i := by
  have hi : i < zS Z := by have := h.2.1; have := h.1.2.2.2.1; omega
  exact ⟨(h.1.2.1.2.2.1.2.2.2.1 i hi).2, hi, h.1.2.1.2.2.1.2.2.2.2.2.2 i hi⟩
theorem SE.ce (h : SE c pl b n K Z U i r k0) : CE c pl b n K (zs Z i) (wV U) := by
  obtain ⟨a1, a2, a3⟩ := h.sl
  obtain ⟨⟨x1, x2, x3, x4⟩, -⟩ := h.1
  obtain ⟨-, -, -, -, g, rd, -⟩ := h
  have f : c_v c 384 (zs Z i) 0 = zs Z i + 16 ∧ c_r c (zs Z i + 16) = 884 ∧ c_l c (zs Z i + 16) = 12 := a1.2 (384, 16, 12) (by decide)
  exact ⟨x1, x2, x3, x4, Or.inr ⟨a1.1, f.1, f.2.1, f.2.2, rd, g.1, g.2.1, g.2.2⟩, fun _ => by omega⟩
theorem eW_own {q : Nat} {a : Int} (w : eW pl A q a) : sWr pl A q a := by
  refine ⟨?_, fun w2 => ?_⟩
  · rcases w with w | w | w | w | w
    · exact Or.inl ⟨w.1, by omega⟩
    · exact Or.inr (Or.inl w)
    · exact Or.inr (Or.inr (Or.inl w))
    · exact Or.inr (Or.inr (Or.inr (Or.inr (by omega))))
    · exact Or.inr (Or.inr (Or.inr (Or.inr (by omega))))
  · have := fW_q w2
    unfold eW at w
    have e2 : q ≠ 884 → q ≠ 383 → q = 122 ∨ q = 123 ∨ q = 124 ∨ q = 125 ∨ q = 134 ∨ q = 200 ∨ (701 ≤ q ∧ q ≤ 711) := by intro _ _; omega
    by_cases c1 : q = 884
    · omega
    · by_cases c2 : q = 383
      · omega
      · have := e2 c1 c2; omega
/-- an EXPR was read in it -/
theorem SE.ex (h : SE c pl b n K Z U i r k0) (s : c_sm (eW pl (zs Z i)) c c') (h' : CE c' pl b n K (zs Z i) V') : SE c' pl b n K Z (w_v U V') i r k0 := by
  obtain ⟨a1, a2, a3⟩ := h.sl
  obtain ⟨⟨x1, x2, ⟨x3, x3'⟩, x4, x5⟩, h2, h3, h4, h5, h6, h7⟩ := h
  have s' := s.mono (fun q a w => eW_own w)
  have rd := h'.2.2.2.2.1
  rcases rd with q | ⟨f1, f2, f3, f4, f5, f6, f7, f8⟩
  · omega
  refine ⟨⟨h'.cx, (x2.up s'.up (fun q a w => w.2)).1, ⟨?_, ?_⟩, x4, x5⟩, h2, h3.ag (sAg.up s.up a1.n.2 ?_), h4, ⟨f6, f7, f8⟩, f5, own_t h7 x2 x4 x5 s' (by omega) a2⟩
  · rw [s.v (by unfold eW; omega)]; exact x3
  · rw [s.v (by unfold eW; omega)]; exact x3'
  · intro q a h1 h2 h3 h4 h5 w
    unfold eW at w
    omega
/-- something was written in it -/
def sOw (A : Int) (q : Nat) (a : Int) : Prop := A ≤ a ∧ a ≤ A + 16 ∧ ((360 ≤ q ∧ q < 400) ∨ (860 ≤ q ∧ q < 900)) ∧ q ≠ 383 ∧ q ≠ 884 ∧ ¬ fW q
theorem sOw_own {q : Nat} {a : Int} (w : sOw A q a) : sWr pl A q a := ⟨Or.inr (Or.inr (Or.inr (Or.inr ⟨w.1, w.2.1, w.2.2.1⟩))), w.2.2.2.2.2⟩
theorem SE.wr {r' : vSel} (h : SE c pl b n K Z U i r k0) (s : c_sm (sOw (zs Z i)) c c') (hs : selC c' (zq Z) (zs Z i) r') (hr : s_rf r' (wq U)) : SE c' pl b n K Z U i r' k0 := by
  obtain ⟨a1, a2, a3⟩ := h.sl
  obtain ⟨⟨x1, x2, ⟨x3, x3'⟩, x4, x5⟩, h2, h3, h4, ⟨h5, h5a, h5b⟩, h6, h7⟩ := h
  have s' := s.mono (fun q a w => sOw_own (pl := pl) w)
  refine ⟨⟨x1.up s.up (fun q a w => ?_), (x2.up s'.up (fun q a w => w.2)).1, ⟨?_, ?_⟩, x4, x5⟩, h2, hs, hr, ⟨?_, h5a, fun k e he => ?_⟩, ?_, own_t h7 x2 x4 x5 s' (by omega) a2⟩
  · unfold sOw at w; omega
  · rw [s.v (by unfold sOw; omega)]; exact x3
  · rw [s.v (by unfold sOw; omega)]; exact x3'
  · rw [s.v (by unfold sOw; omega)]; exact h5
  · rw [s.v (by unfold sOw; omega)]; exact h5b k e he
  · rw [s.v (by unfold sOw; omega)]; exact h6
/-- a field of the plan was written -/
theorem SE.pf {q0 : Nat} {v : Int} (h : SE c pl b n K Z U i r k0) (hq : q0 = 122 ∨ q0 = 125 ∨ q0 = 134 ∨ q0 = 126) (hc : cur (c_u c q0 pl 0 v) pl K V') (h2 : V'.2 = (wV U).2) : SE (c_u c q0 pl 0 v) pl b n K Z (w_v U V') i r k0 := by
  obtain ⟨a1, a2, a3⟩ := h.sl
  obtain ⟨⟨⟨p1, p2, p3, p4⟩, x2, ⟨x3, x3'⟩, x4, x5⟩, g2, g3, g4, ⟨g5, g5a, g5b⟩, g6, g7⟩ := h
  have s : c_sm (pfW pl q0) c (c_u c q0 pl 0 v) := c_sm.u c ⟨rfl, rfl⟩ _ _
  have s' : c_sm (sWr pl (zs Z i)) c (c_u c q0 pl 0 v) := s.mono (fun q a w => ⟨Or.inl ⟨w.2, by have := w.1; omega⟩, fun w2 => by have := fW_q w2; have := w.1; omega⟩)
  have eN : vN V' = vN (wV U) := by unfold vN; rw [h2]
  have eT : vT V' = vT (wV U) := by unfold vT; rw [h2]
  have eB : vB V' = vB (wV U) := by unfold vB; rw [h2]
  have eG : vG V' = vG (wV U) := by unfold vG; rw [h2]
  refine ⟨⟨⟨p1.sm s (fun q a w => by have := w.1; omega), p2.sm s (fun q a w => by have := w.1; omega), hc, ?_⟩, (x2.up s'.up (fun q a w => w.2)).1, ⟨?_, ?_⟩, x4, x5⟩, g2, g3.ag (sAg.up s.up a1.n.2 ?_), g4, ⟨?_, ?_, fun k e he => ?_⟩, ?_, own_t g7 x2 x4 x5 s' (by omega) a2⟩
  · have := p4.sm s (fun q a w => by have := w.1; omega)
    unfold xE at this ⊢
    show c_v _ _ _ _ = ((vN V' : Nat) : Int) ∧ vN V' ≤ 120 ∧ x_T64 (vT V') ∧ _ ∧ ∀ e, e < vN V' → xrow _ _ e (vT V' e) (vB V' e)
    rw [eN, eT, eB]
    exact this
  · rw [s.v (by unfold pfW; omega)]; exact x3
  · rw [s.v (by unfold pfW; omega)]; exact x3'
  · intro q a h1 h2 h3 h4 h5 w
    have := w.1
    omega
  · show c_v _ _ _ _ = ((vG V').length : Int)
    rw [s.v (by unfold pfW; omega), eG]; exact g5
  · show (vG V').length ≤ 12
    rw [eG]; exact g5a
  · have he : (vG V')[k]? = some e := he
    rw [eG] at he
    rw [s.v (by unfold pfW; omega)]; exact g5b k e he
  · rw [s.v (by unfold pfW; omega)]; exact g6
end
