set_option maxRecDepth 100000
/-! a text with its SELECTS and QUERIES: the model -/
def s_bd (r : vSel) : Prop := (s_its r).length ≤ 8 ∧ (s_src r).length ≤ 3 ∧ (s_grs r).length ≤ 8
def q_bd (r : vQry) : Prop := (q_sls r).length ≤ 5 ∧ (q_ors r).length ≤ 8
def sBk (i : Nat) (q : Nat) (j : Int) : Prop := ((35 ≤ q ∧ q ≤ 43) ∧ j = (i : Int)) ∨ ((q = 44 ∨ q = 45 ∨ q = 47 ∨ q = 48) ∧ 8 * (i : Int) ≤ j ∧ j < 8 * (i : Int) + 8) ∨ ((49 ≤ q ∧ q ≤ 58) ∧ 3 * (i : Int) ≤ j ∧ j < 3 * (i : Int) + 3)
def qBk (i : Nat) (q : Nat) (j : Int) : Prop := ((q = 60 ∨ q = 64 ∨ q = 65 ∨ q = 68) ∧ j = (i : Int)) ∨ ((61 ≤ q ∧ q ≤ 63) ∧ 5 * (i : Int) ≤ j ∧ j < 5 * (i : Int) + 5) ∨ ((q = 66 ∨ q = 67) ∧ 8 * (i : Int) ≤ j ∧ j < 8 * (i : Int) + 8)
def mSs (s : ms_S) (b : Int → Int) (n : Nat) (B : Nat → Nat × Nat) (i : Nat) (r : vSel) : Prop := mSel s b n i r ∧ mAgs s b n B i (s_ags r) ∧ s_bd r
def mT (s : ms_S) (b : Int → Int) (n : Nat) (U : tV) (m0 k0 : Nat) : Prop := (∀ j, m0 ≤ j → j < wm U → mSs s b n (vB (wV U)) j (wS U j) ∧ ∀ e ∈ s_ags (wS U j), e < vN (wV U)) ∧ ∀ j, k0 ≤ j → j < wq U → mQry s b n j (wQ U j) ∧ q_bd (wQ U j)
/-- what the readers of QUERIES leave -/
def qF (m0 k0 : Nat) (s s' : ms_S) : Prop := ∀ (q : Nat) (j : Int), (q < 18 ∨ q = 31 ∨ q = 33 ∨ q = 46 ∨ 75 ≤ q ∨ (∃ i, i < m0 ∧ sBk i q j) ∨ ∃ i, i < k0 ∧ qBk i q j) → s' q j = s q j
/-- what the reader of a SELECT leaves by itself -/
def oF (i : Nat) (s s' : ms_S) : Prop := ∀ (q : Nat) (j : Int), (q < 18 ∨ q = 31 ∨ (33 ≤ q ∧ q < 69) ∨ q = 73 ∨ 75 ≤ q) → ((q = 42 ∨ q = 43) → 0 ≤ j ∧ j < 60) → ¬ sBk i q j → s' q j = s q j
section
variable {s s' s2 : ms_S} {b : Int → Int} {n K i j m0 k0 m1 k1 si : Nat} {r : vSel} {t : vQry} {B B' : Nat → Nat × Nat} {g : List Nat} {U U' : tV} {V V' : pV} {R R' f p : Int}
theorem qF.rf (s : ms_S) : qF m0 k0 s s := fun _ _ _ => rfl
theorem qF.tr (h : qF m0 k0 s s') (h' : qF m0 k0 s' s2) : qF m0 k0 s s2 := fun q j hq => (h' q j hq).trans (h q j hq)
theorem qF.mono (h : qF m1 k1 s s') (hm : m0 ≤ m1) (hk : k0 ≤ k1) : qF m0 k0 s s' := by
  intro q j hq
  refine h q j ?_
  rcases hq with hq | hq | hq | hq | hq | ⟨i, h1, h2⟩ | ⟨i, h1, h2⟩
  · exact Or.inl hq
  · exact Or.inr (Or.inl hq)
  · exact Or.inr (Or.inr (Or.inl hq))
  · exact Or.inr (Or.inr (Or.inr (Or.inl hq)))
  · exact Or.inr (Or.inr (Or.inr (Or.inr (Or.inl hq))))
  · exact Or.inr (Or.inr (Or.inr (Or.inr (Or.inr (Or.inl ⟨i, by omega, h2⟩)))))
  · exact Or.inr (Or.inr (Or.inr (Or.inr (Or.inr (Or.inr ⟨i, by omega, h2⟩)))))
theorem sBk_ne {q : Nat} {x : Int} (h : sBk i q x) (h' : sBk j q x) : i = j := by
  unfold sBk at h h'
  omega
theorem qBk_ne {q : Nat} {x : Int} (h : qBk i q x) (h' : qBk j q x) : i = j := by
  unfold qBk at h h'
  omega
theorem sBk_q {q : Nat} {x : Int} (h : sBk i q x) : 35 ≤ q ∧ q ≤ 58 ∧ q ≠ 46 := by unfold sBk at h; omega
theorem qBk_q {q : Nat} {x : Int} (h : qBk i q x) : 60 ≤ q ∧ q ≤ 68 := by unfold qBk at h; omega
theorem oF.rf (s : ms_S) : oF i s s := fun _ _ _ _ _ => rfl
theorem oF.tr (h : oF i s s') (h' : oF i s' s2) : oF i s s2 := fun q j h1 h2 h3 => (h' q j h1 h2 h3).trans (h q j h1 h2 h3)
theorem oF.qf (h : oF i s s') (him : m0 ≤ i) (hi : i < 60) : qF m0 k0 s s' := by
  intro q j hq
  rcases hq with hq | hq | hq | hq | hq | ⟨i', h1, h2⟩ | ⟨i', h1, h2⟩
  · exact h q j (by omega) (by omega) (fun w => by have := sBk_q w; omega)
  · exact h q j (by omega) (by omega) (fun w => by have := sBk_q w; omega)
  · exact h q j (by omega) (by omega) (fun w => by have := sBk_q w; omega)
  · exact h q j (by omega) (by omega) (fun w => by have := sBk_q w; omega)
  · exact h q j (by omega) (by omega) (fun w => by have := sBk_q w; omega)
  · exact h q j (by have := sBk_q h2; omega) (fun w => by unfold sBk at h2; omega) (fun w => by have := sBk_ne w h2; omega)
  · exact h q j (by have := qBk_q h2; omega) (fun w => by have := qBk_q h2; omega) (fun w => by have := sBk_q w; have := qBk_q h2; omega)
theorem oF.u {q : Nat} {x v : Int} (h : sBk i q x ∨ (18 ≤ q ∧ q ≤ 32 ∧ q ≠ 31) ∨ (69 ≤ q ∧ q ≤ 74 ∧ q ≠ 73)) : oF i s (ms_u s q x v) := by
  intro q' j h1 _ h2
  unfold ms_u
  rw [if_neg]
  rintro ⟨rfl, rfl⟩
  rcases h with h | h | h
  · exact h2 h
  · omega
  · omega
theorem eF.of (h : eF si s s') (hi : si = i ∨ 60 ≤ si) : oF i s s' := by
  intro q j h1 h0 h2
  refine h q j ?_
  by_cases c : q = 42 ∨ q = 43
  · by_cases c2 : (i : Int) = j
    · exact absurd (Or.inl ⟨by omega, c2.symm⟩) h2
    · have := h0 c
      exact Or.inr (Or.inr (Or.inr ⟨c, by omega, this.1, this.2⟩))
  · omega
/-- blocks that stay -/
theorem mSel.bk (h : mSel s b n i r) (hb : s_bd r) (e : ∀ (q : Nat) (x : Int), sBk i q x → q ≠ 42 → q ≠ 43 → s' q x = s q x) : mSel s' b n i r := by
  have f : ∀ q : Nat, 35 ≤ q → q ≤ 41 → s' q (i : Int) = s q (i : Int) := fun q h1 h2 => e q _ (Or.inl ⟨by omega, rfl⟩) (by omega) (by omega)
  have f8 : ∀ (q k : Nat), (q = 44 ∨ q = 45 ∨ q = 47 ∨ q = 48) → k < 8 → s' q ((8 * i + k : Nat) : Int) = s q ((8 * i + k : Nat) : Int) := fun q k h1 h2 => e q _ (Or.inr (Or.inl ⟨h1, by omega, by omega⟩)) (by omega) (by omega)
  have f3 : ∀ (q k : Nat), 49 ≤ q → q ≤ 58 → k < 3 → s' q ((3 * i + k : Nat) : Int) = s q ((3 * i + k : Nat) : Int) := fun q k h1 h2 h3 => e q _ (Or.inr (Or.inr ⟨by omega, by omega, by omega⟩)) (by omega) (by omega)
  obtain ⟨h1, ⟨a1, a2⟩, ⟨b1, b2⟩, h4, h5, ⟨d1, d2⟩, h7⟩ := h
  obtain ⟨c1, c2, c3⟩ := hb
  refine ⟨by rw [f _ (by omega) (by omega)]; exact h1, ⟨by rw [f _ (by omega) (by omega)]; exact a1, fun k x hx => ?_⟩, ⟨by rw [f _ (by omega) (by omega)]; exact b1, fun k x hx => ?_⟩, by rw [f _ (by omega) (by omega)]; exact h4, by rw [f _ (by omega) (by omega)]; exact h5, ⟨by rw [f _ (by omega) (by omega)]; exact d1, fun k x hx => ?_⟩, by rw [f _ (by omega) (by omega)]; exact h7⟩
  · have := (List.getElem?_eq_some_iff.mp hx).1
    rw [f8 _ k (by omega) (by omega), f8 _ k (by omega) (by omega)]; exact a2 k x hx
  · have := (List.getElem?_eq_some_iff.mp hx).1
    have hk : k < 3 := by omega
    have h2 := b2 k x hx
    unfold m_src at h2 ⊢
    cases hq : o_q x with
    | some q =>
      rw [hq] at h2
      simp only at h2 ⊢
      rw [f3 _ k (by omega) (by omega) hk, f3 _ k (by omega) (by omega) hk, f3 _ k (by omega) (by omega) hk, f3 _ k (by omega) (by omega) hk, f3 _ k (by omega) (by omega) hk, f3 _ k (by omega) (by omega) hk, f3 _ k (by omega) (by omega) hk]
      exact h2
    | none =>
      rw [hq] at h2
      simp only at h2 ⊢
      rw [f3 _ k (by omega) (by omega) hk, f3 _ k (by omega) (by omega) hk, f3 _ k (by omega) (by omega) hk, f3 _ k (by omega) (by omega) hk, f3 _ k (by omega) (by omega) hk, f3 _ k (by omega) (by omega) hk, f3 _ k (by omega) (by omega) hk, f3 _ k (by omega) (by omega) hk]
      exact h2
  · have := (List.getElem?_eq_some_iff.mp hx).1
    rw [f8 _ k (by omega) (by omega), f8 _ k (by omega) (by omega)]; exact d2 k x hx
theorem g_fst_eq (h : ∀ e ∈ g, B' e = B e) : g_fst b n B' g = g_fst b n B g := by
  cases g with
  | nil => rfl
  | cons e l => show (tk_p b n (B' e).1 : Int) = _; rw [h e List.mem_cons_self]; rfl
theorem mAgs.bk (h : mAgs s b n B i g) (e : s' 42 i = s 42 i ∧ s' 43 i = s 43 i) (hB : ∀ e ∈ g, B' e = B e) : mAgs s' b n B' i g := by
  unfold mAgs
  rw [e.1, e.2, g_fst_eq hB]
  exact h
theorem mQry.bk (h : mQry s b n i t) (hb : q_bd t) (e : ∀ (q : Nat) (x : Int), qBk i q x → s' q x = s q x) : mQry s' b n i t := by
  have f : ∀ q : Nat, (q = 60 ∨ q = 64 ∨ q = 65 ∨ q = 68) → s' q (i : Int) = s q (i : Int) := fun q h1 => e q _ (Or.inl ⟨h1, rfl⟩)
  have f5 : ∀ (q k : Nat), 61 ≤ q → q ≤ 63 → k < 5 → s' q ((5 * i + k : Nat) : Int) = s q ((5 * i + k : Nat) : Int) := fun q k h1 h2 h3 => e q _ (Or.inr (Or.inl ⟨by omega, by omega, by omega⟩))
  have f8 : ∀ (q k : Nat), (q = 66 ∨ q = 67) → k < 8 → s' q ((8 * i + k : Nat) : Int) = s q ((8 * i + k : Nat) : Int) := fun q k h1 h2 => e q _ (Or.inr (Or.inr ⟨h1, by omega, by omega⟩))
  obtain ⟨⟨a1, a2⟩, h2, ⟨d1, d2⟩, h4⟩ := h
  obtain ⟨c1, c2⟩ := hb
  refine ⟨⟨by rw [f _ (by omega)]; exact a1, fun k x hx => ?_⟩, by rw [f _ (by omega)]; exact h2, ⟨by rw [f _ (by omega)]; exact d1, fun k x hx => ?_⟩, fun w1 w2 => by rw [f _ (by omega)]; exact h4 w1 w2⟩
  · have := (List.getElem?_eq_some_iff.mp hx).1
    rw [f5 _ k (by omega) (by omega) (by omega), f5 _ k (by omega) (by omega) (by omega), f5 _ k (by omega) (by omega) (by omega)]; exact a2 k x hx
  · have := (List.getElem?_eq_some_iff.mp hx).1
    rw [f8 _ k (by omega) (by omega), f8 _ k (by omega) (by omega)]; exact d2 k x hx
/-- what was read stays -/
theorem mT.bk (h : mT s b n U m0 k0) (hm : wm U' = wm U) (hq : wq U' = wq U) (hS : ∀ j, m0 ≤ j → j < wm U → wS U' j = wS U j) (hQ : ∀ j, k0 ≤ j → j < wq U → wQ U' j = wQ U j) (hN : vN (wV U) ≤ vN (wV U')) (hB : ∀ e, e < vN (wV U) → vB (wV U') e = vB (wV U) e) (es : ∀ (q : Nat) (x : Int) (j : Nat), m0 ≤ j → j < wm U → sBk j q x → s' q x = s q x) (eq : ∀ (q : Nat) (x : Int) (j : Nat), k0 ≤ j → j < wq U → qBk j q x → s' q x = s q x) : mT s' b n U' m0 k0 := by
  refine ⟨fun j h1 h2 => ?_, fun j h1 h2 => ?_⟩
  · rw [hm] at h2
    obtain ⟨⟨g1, g2, g3⟩, g4⟩ := h.1 j h1 h2
    rw [hS j h1 h2]
    refine ⟨⟨g1.bk g3 (fun q x w _ _ => es q x j h1 h2 w), g2.bk ⟨es _ _ j h1 h2 (Or.inl ⟨by omega, rfl⟩), es _ _ j h1 h2 (Or.inl ⟨by omega, rfl⟩)⟩ (fun e he => hB e (g4 e he)), g3⟩, fun e he => Nat.lt_of_lt_of_le (g4 e he) hN⟩
  · rw [hq] at h2
    obtain ⟨g1, g2⟩ := h.2 j h1 h2
    rw [hQ j h1 h2]
    exact ⟨g1.bk g2 (fun q x w => eq q x j h1 h2 w), g2⟩
theorem mT.of (h : mT s b n U m0 k0) (o : oF i s s') (him : i < m0) (hm60 : wm U ≤ 60) (hm : wm U' = wm U) (hq : wq U' = wq U) (hS : wS U' = wS U) (hQ : wQ U' = wQ U) (hN : vN (wV U) ≤ vN (wV U')) (hB : ∀ e, e < vN (wV U) → vB (wV U') e = vB (wV U) e) : mT s' b n U' m0 k0 := by
  refine h.bk hm hq (fun j _ _ => by rw [hS]) (fun j _ _ => by rw [hQ]) hN hB (fun q x j h1 h2 w => ?_) (fun q x j h1 h2 w => ?_)
  · exact o q x (by have := sBk_q w; omega) (fun w2 => by unfold sBk at w; omega) (fun w2 => by have := sBk_ne w w2; omega)
  · exact o q x (by have := qBk_q w; omega) (fun w2 => by have := qBk_q w; omega) (fun w2 => by have := qBk_q w; have := sBk_q w2; omega)
theorem ME.rr (h : ME s b n K R si V) : ME s b n K R' si V := h
theorem ME.si0 (h : ME s b n K R si V) (hM : vM V = false) : ME s b n K R j V := by
  obtain ⟨h1, h2, h3, h4, h5⟩ := h
  exact ⟨h1, h2, h3, fun q => absurd (hM.symm.trans q) (by decide), h5⟩
/-- a SELECT that is read -/
def SM (s : ms_S) (b : Int → Int) (n K : Nat) (U : tV) (i : Nat) (r : vSel) (k0 : Nat) : Prop := ME s b n K 0 i (wV U) ∧ (s 34 0 = (wm U : Int) ∧ s 59 0 = (wq U : Int) ∧ s 73 0 = 0) ∧ (i < wm U ∧ wm U ≤ 60 ∧ s_bd r) ∧ mSel s b n i r ∧ mAgs s b n (vB (wV U)) i (vG (wV U)) ∧ (∀ e ∈ vG (wV U), e < vN (wV U)) ∧ mT s b n U (i + 1) k0
/-- an EXPR was read in it -/
theorem SM.exT (h : SM s b n K U i r k0) (hM : vM (wV U) = true) (hx : eX K (wV U) V') (h' : ME s' b n K R i V') (he : eF i s s') : SM s' b n K (w_v U V') i r k0 := by
  obtain ⟨x1, ⟨x2, x2', x2''⟩, ⟨x3, x3', x3''⟩, x4, x5, x6, x7⟩ := h
  have o := he.of (i := i) (Or.inl rfl)
  obtain ⟨y1, -, -, -, -, -, y7, -⟩ := hx
  have g := h'.2.2.2.1 (by rw [y7]; exact hM)
  refine ⟨h', ⟨?_, ?_, ?_⟩, ⟨x3, x3', x3''⟩, x4.bk x3'' (fun q x w n1 n2 => he q x (by have := sBk_q w; omega)), ⟨g.2.2.1, g.2.2.2.1⟩, g.2.2.2.2, x7.of o (by omega) x3' rfl rfl rfl rfl y1.2.1 (fun e he => (y1.2.2.1 e he).2)⟩
  · rw [he _ _ (by omega)]; exact x2
  · rw [he _ _ (by omega)]; exact x2'
  · rw [he _ _ (by omega)]; exact x2''
theorem SM.exF (h : SM s b n K U i r k0) (hM : vM (wV U) = false) (hx : eX K (wV U) V') (h' : ME s' b n K R 60 V') (he : eF 60 s s') : SM s' b n K (w_v U V') i r k0 := by
  obtain ⟨x1, ⟨x2, x2', x2''⟩, ⟨x3, x3', x3''⟩, x4, x5, x6, x7⟩ := h
  have o := he.of (i := i) (Or.inr (Nat.le_refl _))
  obtain ⟨y1, -, -, -, -, -, y7, y8, -⟩ := hx
  have eG : vG V' = vG (wV U) := y8 hM
  have hB : ∀ e ∈ vG (wV U), vB V' e = vB (wV U) e := fun e he => (y1.2.2.1 e (x6 e he)).2
  refine ⟨h'.si0 (by rw [y7]; exact hM), ⟨?_, ?_, ?_⟩, ⟨x3, x3', x3''⟩, x4.bk x3'' (fun q x w n1 n2 => he q x (by have := sBk_q w; omega)), ?_, ?_, x7.of o (by omega) x3' rfl rfl rfl rfl y1.2.1 (fun e he => (y1.2.2.1 e he).2)⟩
  · rw [he _ _ (by omega)]; exact x2
  · rw [he _ _ (by omega)]; exact x2'
  · rw [he _ _ (by omega)]; exact x2''
  · show mAgs s' b n (vB V') i (vG V')
    rw [eG]
    exact x5.bk ⟨he _ _ (by omega), he _ _ (by omega)⟩ hB
  · show ∀ e ∈ vG V', e < vN V'
    rw [eG]
    exact fun e he => by have := x6 e he; have := y1.2.1; omega
/-- a count, a place, a token was written -/
theorem SM.pf {V' : pV} (h : SM s b n K U i r k0) (h' : ME s' b n K R i V') (e : ∀ (q : Nat) (j : Int), (q < 18 ∨ q = 31 ∨ (33 ≤ q ∧ q < 69) ∨ q = 73 ∨ 75 ≤ q) → s' q j = s q j) (h2 : V'.2 = (wV U).2) : SM s' b n K (w_v U V') i r k0 := by
  obtain ⟨x1, ⟨x2, x2', x2''⟩, ⟨x3, x3', x3''⟩, x4, x5, x6, x7⟩ := h
  have eN : vN V' = vN (wV U) := by unfold vN; rw [h2]
  have eB : vB V' = vB (wV U) := by unfold vB; rw [h2]
  have eG : vG V' = vG (wV U) := by unfold vG; rw [h2]
  refine ⟨h', ⟨?_, ?_, ?_⟩, ⟨x3, x3', x3''⟩, x4.bk x3'' (fun q x w _ _ => e q x (by have := sBk_q w; omega)), ?_, ?_, x7.of (i := i) (fun q j h1 _ _ => e q j h1) (by omega) x3' rfl rfl rfl rfl (by show _ ≤ vN V'; omega) (fun e _ => by show vB V' e = _; rw [eB])⟩
  · rw [e _ _ (by omega)]; exact x2
  · rw [e _ _ (by omega)]; exact x2'
  · rw [e _ _ (by omega)]; exact x2''
  · show mAgs s' b n (vB V') i (vG V')
    rw [eG, eB]
    exact x5.bk ⟨e _ _ (by omega), e _ _ (by omega)⟩ (fun _ _ => rfl)
  · show ∀ e ∈ vG V', e < vN V'
    rw [eG, eN]; exact x6
/-- something was written in its block -/
theorem SM.wr {r' : vSel} (h : SM s b n K U i r k0) (e : ∀ (q : Nat) (j : Int), ¬ (sBk i q j ∧ q ≠ 42 ∧ q ≠ 43) → s' q j = s q j) (hs : mSel s' b n i r') (hb : s_bd r') : SM s' b n K U i r' k0 := by
  obtain ⟨x1, ⟨x2, x2', x2''⟩, ⟨x3, x3', x3''⟩, x4, x5, x6, x7⟩ := h
  have e0 : ∀ (q : Nat) (j : Int), q < 35 ∨ 58 < q ∨ q = 42 ∨ q = 43 → s' q j = s q j := fun q j hq => e q j (fun w => by have := sBk_q w.1; omega)
  refine ⟨?_, ⟨?_, ?_, ?_⟩, ⟨x3, x3', hb⟩, hs, x5.bk ⟨e0 _ _ (by omega), e0 _ _ (by omega)⟩ (fun _ _ => rfl), x6, x7.of (i := i) (fun q j h1 _ h2 => e q j (fun w => h2 w.1)) (by omega) x3' rfl rfl rfl rfl (Nat.le_refl _) (fun _ _ => rfl)⟩
  · obtain ⟨p1, ⟨q1, q2, q3, q4, q5, q6⟩, ⟨g1, g2, g3⟩, aa, ⟨m1, m2, m3⟩⟩ := x1
    refine ⟨p1.fr (fun q j hq => e0 q j (by omega)), ⟨by rw [e0 _ _ (by omega)]; exact q1, q2, by rw [e0 _ _ (by omega)]; exact q3, by rw [e0 _ _ (by omega)]; exact q4, q5, by rw [e0 _ _ (by omega)]; exact q6⟩, ⟨by rw [e0 _ _ (by omega)]; exact g1, g2, fun i hi => ?_⟩, fun hq => ?_, ?_⟩
    · have := g3 i hi
      unfold mr at this ⊢
      rw [e0 _ _ (by omega), e0 _ _ (by omega), e0 _ _ (by omega), e0 _ _ (by omega), e0 _ _ (by omega), e0 _ _ (by omega), e0 _ _ (by omega), e0 _ _ (by omega), e0 _ _ (by omega)]
      exact this
    · rw [e0 _ _ (by omega), e0 _ _ (by omega), e0 _ _ (by omega)]
      exact aa hq
    · unfold mMay
      rw [e0 _ _ (by omega), e0 _ _ (by omega)]
      exact ⟨m1, m2, m3⟩
  · rw [e0 _ _ (by omega)]; exact x2
  · rw [e0 _ _ (by omega)]; exact x2'
  · rw [e0 _ _ (by omega)]; exact x2''
end
