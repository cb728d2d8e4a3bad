set_option maxRecDepth 100000
/-! objects with their arrays behind them -/
def obP (ro : Nat) (l : List (Nat × Int × Int)) (c0 : cs_S) (M : Int) (c : cs_S) : Prop := c_r c (c_n c0) = ro ∧ c_n c = c_n c0 + 1 + (l.length : Int) ∧ 0 ≤ c_n c0 ∧ c_up (fun _ _ => False) c0 c ∧ c_m c = c_m c0 + M ∧ ∀ t ∈ l, c_v c t.1 (c_n c0) 0 = c_n c0 + t.2.1 ∧ c_r c (c_n c0 + t.2.1) = t.1 + 500 ∧ c_l c (c_n c0 + t.2.1) = t.2.2
def obF (l : List (Nat × Int × Int)) (f : Nat) : Prop := ∀ t ∈ l, t.1 ≠ f ∧ 1 ≤ t.2.1 ∧ t.2.1 ≤ (l.length : Int)
section
variable {ro f r d : Nat} {l : List (Nat × Int × Int)} {c0 c c' : cs_S} {M L z v w A pl : Int} {Kt : cs_S → Prop} {Q : Int → cs_S → Prop} {Z : gZ}
theorem c_up.u0 {q : Nat} {b j v : Int} (h : c_up (fun _ _ => False) c0 c) (hb : c_n c0 ≤ b) : c_up (fun _ _ => False) c0 (c_u c q b j v) :=
  ⟨h.1, h.2.1, fun q' a j' ha hw => by rw [c_u_b (by omega)]; exact h.2.2 q' a j' ha hw⟩
theorem ob_step (h : obP ro l c0 M c) (hro : ro ≠ 0) (hf : obF l f) (hr : r = f + 500) (hk : w = (l.length : Int) + 1) (hL : 0 ≤ L) (hL1 : L ≤ 1000000) (hA : A = c_n c0) (kk : ∀ c2, obP ro (l ++ [(f, w, L)]) c0 (M + L) c2 → Kt c2) : 0 ≤ L ∧ L ≤ 1000000 ∧ 0 ≤ c_n c ∧ ∀ c1, c1 = c_a c r L z → c_r c1 A = ro ∧ ∀ c2, c2 = c_u c1 f A 0 (c_n c) → Kt c2 := by
  obtain ⟨h1, h2, h3, h4, h5, h6⟩ := h
  subst hA
  have hn : 0 ≤ c_n c := by rw [h2]; omega
  refine ⟨hL, hL1, hn, fun c1 e1 => ?_⟩
  have u1 : c_up (fun _ _ => False) c c1 := by rw [e1]; exact c_up.a c hn _ _ _
  have r1 := u1.r h1 hro
  refine ⟨r1, fun c2 e2 => kk c2 ⟨by rw [e2]; exact r1, ?_, h3, ?_, ?_, fun t ht => ?_⟩⟩
  · rw [e2, c_n_u, e1, c_n_a, h2, List.length_append]; show _ = _ + 1 + ((l.length + 1 : Nat) : Int); omega
  · rw [e2]; exact (h4.tr u1).u0 (Int.le_refl _)
  · rw [e2, c_m_u, e1, c_m_a, h5]; omega
  · rcases List.mem_append.mp ht with ht | ht
    · obtain ⟨g1, g2, g3⟩ := hf t ht
      obtain ⟨a1, a2, a3⟩ := h6 t ht
      refine ⟨?_, ?_, ?_⟩
      · rw [e2, c_u_q g1, u1.2.2 _ _ _ (by omega) (fun w => w)]; exact a1
      · rw [e2]; exact u1.r a2 (by omega)
      · rw [e2]; exact (u1.l (by rw [a2]; omega)).trans a3
    · have := List.mem_singleton.mp ht
      subst this
      have e : c_n c0 + w = c_n c := by omega
      refine ⟨?_, ?_, ?_⟩
      · rw [e2, c_u_eq]; exact e.symm
      · show c_r c2 (c_n c0 + w) = f + 500
        rw [e, e2, ← hr]
        show c_r c1 _ = _
        rw [e1]; exact c_r_an c hn _ _ _
      · show c_l c2 (c_n c0 + w) = L
        rw [e, e2]
        show c_l c1 _ = _
        rw [e1]; exact c_l_an c _ _ _
theorem ob_fld (h : obP ro l c0 M c) (hf : obF l f) (hA : A = c_n c0) (kk : ∀ c2, obP ro l c0 M c2 → Kt c2) : c_r c A = ro ∧ ∀ c2, c2 = c_u c f A 0 v → Kt c2 := by
  obtain ⟨h1, h2, h3, h4, h5, h6⟩ := h
  subst hA
  refine ⟨h1, fun c2 e2 => kk c2 ⟨by rw [e2]; exact h1, by rw [e2]; exact h2, h3, by rw [e2]; exact h4.u0 (Int.le_refl _), by rw [e2]; exact h5, fun t ht => ?_⟩⟩
  obtain ⟨a1, a2, a3⟩ := h6 t ht
  exact ⟨by rw [e2, c_u_q (hf t ht).1]; exact a1, by rw [e2]; exact a2, by rw [e2]; exact a3⟩
theorem ob_new (h : 0 ≤ c_n c) {ci : Nat} : obP (1000 + ci) [] c (am_fn ci : Int) (c_o c ci) :=
  ⟨c_r_on c h ci, by rw [c_n_o]; show _ = _ + 1 + (0 : Int); omega, h, c_up.o c h ci, rfl, fun t ht => (List.not_mem_nil ht).elim⟩
/-- a SELECT is made -/
theorem k_selinit (h : 0 ≤ c_n c) (kk : ∀ c', c_up (fun _ _ => False) c c' → c_n c' = c_n c + 17 → c_m c' = c_m c + 118 → slA c' (c_n c) → Q 0 c') : ksel_init (d + 1) (c_n c) (c_o c 9) Q := by
  have h0 := ob_new h (ci := 9)
  refine u254_e ⟨by rw [h0.1]; decide, ?_⟩
  refine ob_fld (f := 360) h0 (fun t ht => (List.not_mem_nil ht).elim) rfl (fun c1 h1 => ?_)
  refine ob_step (f := 362) (w := 1) h1 (by decide) (by unfold obF; decide) rfl (by decide) (by decide) (by decide) rfl (fun c2 h2 => ?_)
  refine ob_step (f := 363) (w := 2) h2 (by decide) (by unfold obF; decide) rfl (by decide) (by decide) (by decide) rfl (fun c3 h3 => ?_)
  refine ob_step (f := 364) (w := 3) h3 (by decide) (by unfold obF; decide) rfl (by decide) (by decide) (by decide) rfl (fun c4 h4 => ?_)
  refine ob_step (f := 366) (w := 4) h4 (by decide) (by unfold obF; decide) rfl (by decide) (by decide) (by decide) rfl (fun c5 h5 => ?_)
  refine ob_step (f := 367) (w := 5) h5 (by decide) (by unfold obF; decide) rfl (by decide) (by decide) (by decide) rfl (fun c6 h6 => ?_)
  refine ob_step (f := 368) (w := 6) h6 (by decide) (by unfold obF; decide) rfl (by decide) (by decide) (by decide) rfl (fun c7 h7 => ?_)
  refine ob_step (f := 369) (w := 7) h7 (by decide) (by unfold obF; decide) rfl (by decide) (by decide) (by decide) rfl (fun c8 h8 => ?_)
  refine ob_step (f := 370) (w := 8) h8 (by decide) (by unfold obF; decide) rfl (by decide) (by decide) (by decide) rfl (fun c9 h9 => ?_)
  refine ob_step (f := 371) (w := 9) h9 (by decide) (by unfold obF; decide) rfl (by decide) (by decide) (by decide) rfl (fun c10 h10 => ?_)
  refine ob_step (f := 372) (w := 10) h10 (by decide) (by unfold obF; decide) rfl (by decide) (by decide) (by decide) rfl (fun c11 h11 => ?_)
  refine ob_step (f := 373) (w := 11) h11 (by decide) (by unfold obF; decide) rfl (by decide) (by decide) (by decide) rfl (fun c12 h12 => ?_)
  refine ob_step (f := 374) (w := 12) h12 (by decide) (by unfold obF; decide) rfl (by decide) (by decide) (by decide) rfl (fun c13 h13 => ?_)
  refine ob_step (f := 375) (w := 13) h13 (by decide) (by unfold obF; decide) rfl (by decide) (by decide) (by decide) rfl (fun c14 h14 => ?_)
  refine ob_fld (f := 377) h14 (by unfold obF; decide) rfl (fun c15 h15 => ?_)
  refine ob_fld (f := 378) h15 (by unfold obF; decide) rfl (fun c16 h16 => ?_)
  refine ob_step (f := 380) (w := 14) h16 (by decide) (by unfold obF; decide) rfl (by decide) (by decide) (by decide) rfl (fun c17 h17 => ?_)
  refine ob_step (f := 381) (w := 15) h17 (by decide) (by unfold obF; decide) rfl (by decide) (by decide) (by decide) rfl (fun c18 h18 => ?_)
  refine ob_fld (f := 382) h18 (by unfold obF; decide) rfl (fun c19 h19 => ?_)
  refine ob_step (f := 384) (w := 16) h19 (by decide) (by unfold obF; decide) rfl (by decide) (by decide) (by decide) rfl (fun c20 h20 => ?_)
  obtain ⟨g1, g2, g3, g4, g5, g6⟩ := h20
  exact kk c20 g4 (by rw [g2]; show _ + 1 + (16 : Int) = _; omega) (by rw [g5]; exact congrArg (c_m c + ·) (by decide)) ⟨g1, g6⟩
/-- a SELECT begins anew -/
def vs0 : vSel := ((-1, [], []), (-1, -1, [], -1), [])
def sW (A : Int) (q : Nat) (a : Int) : Prop := (a = A ∧ (q = 360 ∨ q = 361 ∨ q = 365 ∨ q = 377 ∨ q = 378 ∨ q = 379 ∨ q = 382 ∨ q = 383)) ∨ (a = A + 4 ∧ q = 866)
theorem slA.sm {W : Nat → Int → Prop} (h : slA c A) (s : c_sm W c c') (hw : ∀ t ∈ sl_t, ¬ W t.1 A) : slA c' A := by
  refine ⟨by rw [s.r]; exact h.1, fun t ht => ?_⟩
  obtain ⟨h1, h2, h3⟩ := h.2 t ht
  exact ⟨by rw [s.v (hw t ht)]; exact h1, by rw [s.r]; exact h2, by rw [s.l]; exact h3⟩
theorem k_selclear (h : slA c A) (kk : ∀ c', c_sm (sW A) c c' → slA c' A → (∀ qa, selC c' qa A vs0) → agS c' A [] → Q 0 c') : ksel_clear d A c Q := by
  have hr := h.1
  refine u255_e ⟨hr, fun c1 e1 => ⟨by rw [e1]; exact hr, fun c2 e2 => ⟨by rw [e2, e1]; exact hr, fun c3 e3 => ⟨by rw [e3, e2, e1]; exact hr, fun c4 e4 => ⟨by rw [e4, e3, e2, e1]; exact hr, fun c5 e5 => ⟨by rw [e5, e4, e3, e2, e1]; exact hr, fun c6 e6 => ⟨by rw [e6, e5, e4, e3, e2, e1]; exact hr, fun c7 e7 => ⟨by rw [e7, e6, e5, e4, e3, e2, e1]; exact hr, fun c8 e8 => ?_⟩⟩⟩⟩⟩⟩⟩⟩
  have s8 : c_sm (sW A) c c8 := by
    rw [e8, e7, e6, e5, e4, e3, e2, e1]
    exact (((((((c_sm.u c (by unfold sW; omega) _ _).tr (c_sm.u _ (by unfold sW; omega) _ _)).tr (c_sm.u _ (by unfold sW; omega) _ _)).tr (c_sm.u _ (by unfold sW; omega) _ _)).tr (c_sm.u _ (by unfold sW; omega) _ _)).tr (c_sm.u _ (by unfold sW; omega) _ _)).tr (c_sm.u _ (by unfold sW; omega) _ _)).tr (c_sm.u _ (by unfold sW; omega) _ _)
  have hs : ∀ c', c_sm (sW A) c c' → slA c' A := fun c' s => h.sm s (fun t ht w => by
    have h1 : (∀ t ∈ sl_t, ¬ (t.1 = 360 ∨ t.1 = 361 ∨ t.1 = 365 ∨ t.1 = 377 ∨ t.1 = 378 ∨ t.1 = 379 ∨ t.1 = 382 ∨ t.1 = 383) ∧ t.1 ≠ 866) := by decide
    rcases w with w | w
    · exact (h1 t ht).1 w.2
    · exact (h1 t ht).2 w.2)
  have st : ∀ (x : Int) (c9 : cs_S), c_sm (sW A) c c9 → 0 ≤ x → x < 4 → cw d 255 (am_blk 255 1) [A, x + 1] [] (c_u c9 866 (A + 4) x (-1)) Q → cw d 255 (am_blk 255 1) [A, x] [] c9 Q := by
    intro x c9 s9 h0 h1 hk
    have h9 := hs c9 s9
    have hi : c_v c9 366 A 0 = A + 4 ∧ c_r c9 (A + 4) = 866 ∧ c_l c9 (A + 4) = 4 := h9.2 (366, 4, 4) (by decide)
    refine u255_1 ⟨fun w => by omega, fun _ => ⟨h9.1, by rw [hi.1]; exact hi.2.1, h0, by rw [hi.1]; have := hi.2.2; omega, fun c1 e1 => ?_⟩⟩
    rw [am_w_in (by omega) (by omega), e1, hi.1]
    exact hk
  have sn : ∀ (x : Int) (c9 : cs_S), c_sm (sW A) c c9 → c_sm (sW A) c (c_u c9 866 (A + 4) x (-1)) := fun x c9 s => s.tr (c_sm.u _ (by unfold sW; omega) _ _)
  refine st 0 c8 s8 (by omega) (by omega) (st (0 + 1) _ (sn _ _ s8) (by omega) (by omega) (st (0 + 1 + 1) _ (sn _ _ (sn _ _ s8)) (by omega) (by omega) (st (0 + 1 + 1 + 1) _ (sn _ _ (sn _ _ (sn _ _ s8))) (by omega) (by omega) (u255_1 ⟨fun _ => ?_, fun w => absurd (by omega) w⟩))))
  have s12 := sn (0 + 1 + 1 + 1) _ (sn (0 + 1 + 1) _ (sn (0 + 1) _ (sn 0 _ s8)))
  refine kk _ s12 (hs _ s12) (fun qa => ?_) ⟨?_, by decide, fun k e he => by simp at he⟩
  · refine ⟨?_, ⟨?_, by decide, fun k e he => by simp [s_its, vs0] at he⟩, ⟨?_, by decide, fun k e he => by simp [s_src, vs0] at he, fun k hk _ => ?_⟩, ?_, ?_, ⟨?_, by decide, fun k e he => by simp [s_grs, vs0] at he⟩, ?_⟩
    · rw [e8, e7, e6, e5, e4, e3, e2, e1]; simp [c_v, c_u, s_dis, vs0]
    · rw [e8, e7, e6, e5, e4, e3, e2, e1]; simp [c_v, c_u, s_its, vs0]
    · rw [e8, e7, e6, e5, e4, e3, e2, e1]; simp [c_v, c_u, s_src, vs0]
    · have : k = 0 ∨ k = 1 ∨ k = 2 ∨ k = 3 := by omega
      rcases this with rfl | rfl | rfl | rfl <;> simp [c_v, c_u]
    · rw [e8, e7, e6, e5, e4, e3, e2, e1]; simp [c_v, c_u, s_whr, vs0]
    · rw [e8, e7, e6, e5, e4, e3, e2, e1]; simp [c_v, c_u, s_grp, vs0]
    · rw [e8, e7, e6, e5, e4, e3, e2, e1]; simp [c_v, c_u, s_grs, vs0]
    · rw [e8, e7, e6, e5, e4, e3, e2, e1]; simp [c_v, c_u, s_hav, vs0]
  · rw [e8, e7, e6, e5, e4, e3, e2, e1]; simp [c_v, c_u]
/-- a SELECT of the plan -/
def zs_up (Z : gZ) (i : Nat) (A : Int) : gZ := ((fun j => if j = i then A else zs Z j), zq Z, i + 1, zQ Z)
def nsW (pl B A : Int) (q : Nat) (a : Int) : Prop := (a = pl ∧ (q = 140 ∨ q = 141)) ∨ (q = 640 ∧ a = B) ∨ sW A q a
theorem TS.sm {W : Nat → Int → Prop} (h : TS c pl Z) (s : c_sm W c c') (hw : ∀ q a, W q a → q ≠ 140 ∧ q ≠ 640 ∧ ∀ t ∈ sl_t, q ≠ t.1) : TS c' pl Z := by
  obtain ⟨h1, h2, h3, h4, h5, h6, h7⟩ := h
  have e := s.v (q := 140) (b := pl) (fun w => (hw _ _ w).1 rfl) 0
  unfold TS
  rw [e]
  refine ⟨by rw [s.r]; exact h1, by rw [s.l]; exact h2, by rw [s.l]; exact h3, fun i hi => ?_, fun i hi1 hi2 => ?_, h6, h7⟩
  · rw [s.v (fun w => (hw _ _ w).2.1 rfl)]
    exact ⟨(h4 i hi).1, (h4 i hi).2.sm s (fun t ht w => (hw _ _ w).2.2 t ht rfl)⟩
  · rw [s.l] at hi2
    rw [s.v (fun w => (hw _ _ w).2.1 rfl)]; exact h5 i hi1 hi2
theorem sl_sW : ∀ t ∈ sl_t, ¬ (t.1 = 360 ∨ t.1 = 361 ∨ t.1 = 365 ∨ t.1 = 377 ∨ t.1 = 378 ∨ t.1 = 379 ∨ t.1 = 382 ∨ t.1 = 383) ∧ t.1 ≠ 866 ∧ t.1 ≠ 140 ∧ t.1 ≠ 141 ∧ t.1 ≠ 640 := by decide
theorem sW_ts {B : Int} {q : Nat} {a : Int} (h : (a = pl ∧ q = 141) ∨ sW A q a) : q ≠ 140 ∧ q ≠ 640 ∧ ∀ t ∈ sl_t, q ≠ t.1 := by
  have h2 : q = 141 ∨ q = 360 ∨ q = 361 ∨ q = 365 ∨ q = 377 ∨ q = 378 ∨ q = 379 ∨ q = 382 ∨ q = 383 ∨ q = 866 := by
    unfold sW at h; omega
  refine ⟨by omega, by omega, fun t ht => ?_⟩
  have := sl_sW t ht
  omega
theorem k_newSelect {i : Nat} (h237 : 237 ≤ c_n c) (hp : c_r c pl = 1003) (h : TS c pl Z) (hm : c_v c 141 pl 0 = (i : Int)) (hi : i ≤ zS Z) (hi2 : i ≤ 52)
    (kk : ∀ c' A Z' B, (Z' = if i < zS Z then Z else zs_up Z i A) → zs Z' i = A → (i < zS Z ∨ A ≥ c_n c) → (B = c_v c 140 pl 0 ∨ B ≥ c_n c) → c_up (nsW pl B A) c c' → TS c' pl Z' → c_v c' 141 pl 0 = ((i + 1 : Nat) : Int) → (∀ qa, selC c' qa A vs0) → agS c' A [] → c_m c' - (118 * (zS Z' : Int) + 2 * c_l c' (c_v c' 140 pl 0)) = c_m c - (118 * (zS Z : Int) + 2 * c_l c (c_v c 140 pl 0)) → c_n c' - (17 * (zS Z' : Int) + c_l c' (c_v c' 140 pl 0)) ≤ c_n c - (17 * (zS Z : Int) + c_l c (c_v c 140 pl 0)) → c_v c' 140 pl 0 = B → Q A c') : kplan_newSelect (d + 2) pl c Q := by
  have zp : c_r c pl ≠ 0 := by rw [hp]; decide
  have np := c_r_in zp
  -- the last acts
  have fin : ∀ (x1 : Int) (c2 : cs_S) (Z' : gZ) (B : Int), c_r c2 pl = 1003 → TS c2 pl Z' → i < zS Z' → c_v c2 140 pl 0 = B → c_v c2 141 pl 0 = (i : Int) → (∀ c', c_sm (fun q a => (a = pl ∧ q = 141) ∨ sW (zs Z' i) q a) c2 c' → TS c' pl Z' → c_v c' 141 pl 0 = ((i + 1 : Nat) : Int) → (∀ qa, selC c' qa (zs Z' i) vs0) → agS c' (zs Z' i) [] → Q (zs Z' i) c') → cw (d + 2) 50 (am_blk 50 2) [pl, x1] [] c2 Q := by
    intro x1 c2 Z' B hr ts hi eB em hk
    obtain ⟨t1, t2, t3, t4, t5, t6, t6'⟩ := id ts
    have t7 := t4 i hi
    refine u50_2 ⟨hr, hr, t1, by omega, by omega, hr, hr, fun c3 e3 => ?_⟩
    rw [em, t7.1]
    rw [em, am_w_s (by omega)] at e3
    have s3 : c_sm (fun q a => (a = pl ∧ q = 141) ∨ sW (zs Z' i) q a) c2 c3 := by rw [e3]; exact c_sm.u c2 (Or.inl ⟨rfl, rfl⟩) _ _
    have ts3 := ts.sm s3 (fun q a w => sW_ts (B := B) w)
    refine ⟨(ts3.2.2.2.1 i hi).2.1, k_selclear (ts3.2.2.2.1 i hi).2 (fun c4 s4 _ g1 g2 => ?_)⟩
    have s34 := s3.tr (s4.mono (fun q a w => Or.inr w))
    refine hk c4 s34 (ts.sm s34 (fun q a w => sW_ts (B := B) w)) ?_ g1 g2
    rw [s4.v (by unfold sW; omega), e3, c_u_eq]
  have mid : ∀ (x1 : Int) (c2 : cs_S) (B : Int), c_up (fun q a => a = pl ∧ q = 140) c c2 → (B = c_v c 140 pl 0 ∨ B ≥ c_n c) → TS c2 pl Z → c_v c2 140 pl 0 = B → (i : Int) < c_l c2 B → c_m c2 - 2 * c_l c2 B = c_m c - 2 * c_l c (c_v c 140 pl 0) → c_n c2 - c_l c2 B ≤ c_n c - c_l c (c_v c 140 pl 0) → cw (d + 2) 50 (am_blk 50 1) [pl, x1] [] c2 Q := by
    intro x1 c2 B u2 hB ts eB hlt em en
    obtain ⟨t1, t2, t3, t4, t5, t6, t6'⟩ := id ts
    have hr2 := u2.r hp (by decide)
    have hm2 : c_v c2 141 pl 0 = (i : Int) := by rw [u2.v zp (by omega)]; exact hm
    have u2' : ∀ A, c_up (nsW pl B A) c c2 := fun A => u2.mono (fun q a w => Or.inl ⟨w.1, Or.inl w.2⟩)
    by_cases ci : i < zS Z
    · have t7 := t4 i ci
      refine u50_1 ⟨hr2, hr2, t1, by omega, by rw [hm2, eB]; exact hlt, fun _ => ?_, fun w => ?_⟩
      · refine fin x1 c2 Z B hr2 ts ci eB hm2 (fun c' s' ts' em' g1 g2 => ?_)
        have e3 : c_v c' 140 pl 0 = B := by rw [s'.v (by unfold sW; omega)]; exact eB
        refine kk c' (zs Z i) Z B (by rw [if_pos ci]) rfl (Or.inl ci) hB ((u2' _).tr (s'.up.mono (fun q a w => ?_))) ts' em' g1 g2 ?_ ?_ e3
        · rcases w with w | w
          · exact Or.inl ⟨w.1, Or.inr w.2⟩
          · exact Or.inr (Or.inr w)
        · rw [e3, s'.l, s'.m]; omega
        · rw [e3, s'.l, s'.n]; omega
      · exfalso
        rw [hm2, t7.1] at w
        have := t7.2.n; omega
    · have ci : i = zS Z := by omega
      have t7 := t5 i (by omega) (by rw [eB]; exact hlt)
      refine u50_1 ⟨hr2, hr2, t1, by omega, by rw [hm2, eB]; exact hlt, fun w => absurd (by rw [hm2]; exact t7) w, fun _ => ⟨hr2, hr2, ?_⟩⟩
      have n0 := c_r_in (c := c2) (a := pl) (by rw [hr2]; decide)
      have hn2 : 0 ≤ c_n c2 := by omega
      refine ⟨hn2, fun c3 e3 => ⟨by rw [e3]; exact c_r_on c2 hn2 9, ?_⟩⟩
      rw [e3]
      refine k_selinit hn2 (fun c4 u4 n4 m4 sl4 => ?_)
      rw [eB, hm2]
      rw [eB] at t1 t2 t3 t5
      have zb : c_r c2 B ≠ 0 := by rw [t1]; decide
      have nb := c_r_in zb
      have r4 := u4.r t1 (by decide)
      have l4 := u4.l zb
      refine ⟨r4, by omega, by rw [l4]; exact hlt, fun c5 e5 => ?_⟩
      have s5 : c_sm (fun q a => q = 640 ∧ a = B) c4 c5 := by rw [e5]; exact c_sm.u c4 ⟨rfl, rfl⟩ _ _
      have hr5 : c_r c5 pl = 1003 := by rw [s5.r]; exact u4.r hr2 (by decide)
      have eB5 : c_v c5 140 pl 0 = B := by rw [s5.v (by omega), u4.v (by rw [hr2]; decide) (fun w => w)]; exact eB
      have hm5 : c_v c5 141 pl 0 = (i : Int) := by rw [s5.v (by omega), u4.v (by rw [hr2]; decide) (fun w => w)]; exact hm2
      have slu : ∀ A, slA c2 A → slA c5 A := fun A hA => (hA.ag (sAg.up u4 hA.n.2 (fun _ _ _ _ _ _ _ w => w))).sm s5 (fun t ht w => by have := (sl_sW t ht).2.2.2.2; exact this w.1)
      have ts5 : TS c5 pl (zs_up Z i (c_n c2)) := by
        unfold TS
        rw [eB5]
        refine ⟨by rw [s5.r]; exact r4, by rw [s5.l, l4]; exact t2, ⟨by rw [s5.l, l4]; show ((i + 1 : Nat) : Int) ≤ _; omega, by show i + 1 ≤ 53; omega⟩, fun j hj => ?_, fun j hj1 hj2 => ?_, fun j k hj hk => ?_, fun j hj => ?_⟩
        · have hj : j < i + 1 := hj
          show c_v c5 _ B j = (if j = i then c_n c2 else zs Z j) ∧ slA c5 (if j = i then c_n c2 else zs Z j)
          by_cases cj : j = i
          · rw [if_pos cj, cj, e5, c_u_eq]
            exact ⟨rfl, by rw [← e5]; exact sl4.sm s5 (fun t ht w => by have := (sl_sW t ht).2.2.2.2; exact this w.1)⟩
          · rw [if_neg cj]
            have t8 := t4 j (by omega)
            refine ⟨?_, slu _ t8.2⟩
            rw [e5, c_u_j (by omega), u4.v zb (fun w => w)]
            rw [eB] at t8
            exact t8.1
        · have hj1 : i + 1 ≤ j := hj1
          rw [s5.l, l4] at hj2
          rw [e5, c_u_j (by omega), u4.v zb (fun w => w)]
          exact t5 j (by omega) hj2
        · have hk : k < i + 1 := hk
          show (if j = i then c_n c2 else zs Z j) + 17 ≤ (if k = i then c_n c2 else zs Z k) ∨ (if k = i then c_n c2 else zs Z k) + 17 ≤ (if j = i then c_n c2 else zs Z j)
          rw [if_neg (c := j = i) (by omega)]
          by_cases ck : k = i
          · rw [if_pos ck]
            have := (t4 j (by omega)).2.n
            omega
          · rw [if_neg ck]; exact t6 j k hj (by omega)
        · have hj : j < i + 1 := hj
          show 237 ≤ (if j = i then c_n c2 else zs Z j)
          by_cases cj : j = i
          · rw [if_pos cj]; have := u2.1; omega
          · rw [if_neg cj]; exact t6' j (by omega)
      have ez : zs (zs_up Z i (c_n c2)) i = c_n c2 := if_pos rfl
      refine fin x1 c5 (zs_up Z i (c_n c2)) B hr5 ts5 (by show i < i + 1; omega) eB5 hm5 (fun c' s' ts' em' g1 g2 => ?_)
      rw [ez] at g1 g2 s' ⊢
      have e3 : c_v c' 140 pl 0 = B := by rw [s'.v (by unfold sW; omega)]; exact eB5
      refine kk c' (c_n c2) (zs_up Z i (c_n c2)) B (by rw [if_neg (by omega)]) ez (Or.inr (by have := u2.1; omega)) hB ?_ ts' em' g1 g2 ?_ ?_ e3
      · refine (u2' _).tr ((u4.mono (fun q a w => w.elim)).tr ((s5.up.mono (fun q a w => Or.inr (Or.inl w))).tr (s'.up.mono (fun q a w => ?_))))
        rcases w with w | w
        · exact Or.inl ⟨w.1, Or.inr w.2⟩
        · exact Or.inr (Or.inr w)
      · rw [e3, s'.l, s'.m, s5.l, s5.m, l4, m4]; show _ - (118 * ((i + 1 : Nat) : Int) + _) = _; omega
      · rw [e3, s'.l, s'.n, s5.l, s5.n, l4, n4]; show _ - (17 * ((i + 1 : Nat) : Int) + _) ≤ _; omega
  obtain ⟨t1, t2, t3, t4, t5, t6, t6'⟩ := id h
  refine u50_e ⟨hp, hp, t1, by omega, fun w => mid 0 c _ (c_up.rf _ c) (Or.inl rfl) h rfl (by omega) rfl (Int.le_refl _), fun w => ⟨hp, ?_⟩⟩
  have w : c_v c 141 pl 0 = c_l c (c_v c 140 pl 0) := Classical.not_not.mp w
  rw [hm, am_w_in (by omega) (by omega)]
  have hn : 0 ≤ c_n c := by omega
  refine ⟨by omega, by omega, hn, fun c1 e1 => ?_⟩
  have u1 : c_up (fun _ _ => False) c c1 := by rw [e1]; exact c_up.a c hn _ _ _
  have hp1 := u1.r hp (by decide)
  have zb : c_r c (c_v c 140 pl 0) ≠ 0 := by rw [t1]; decide
  have ev1 : c_v c1 140 pl 0 = c_v c 140 pl 0 := u1.v zp (fun w => w) 0
  have em1 : c_v c1 141 pl 0 = (i : Int) := by rw [u1.v zp (fun w => w)]; exact hm
  rw [ev1, em1]
  have rn : c_r c1 (c_n c) = 640 := by rw [e1]; exact c_r_an c hn _ _ _
  have ln : c_l c1 (c_n c) = 2 * (i : Int) := by rw [e1]; exact c_l_an c _ _ _
  refine ⟨hp1, hp1, u1.r t1 (by decide), rn, by omega, by omega, by omega, by rw [u1.l zb]; omega, by rw [ln]; omega, fun c2 e2 => ?_⟩
  have s2 : c_sm (fun q a => q = 640 ∧ a = c_n c) c1 c2 := by rw [e2]; exact c_sm.c c1 ⟨rfl, rfl⟩ _ _ _ _
  have hp2 : c_r c2 pl = 1003 := by rw [s2.r]; exact hp1
  refine ⟨hp2, fun c3 e3 => ?_⟩
  have s3 : c_sm (fun q a => a = pl ∧ q = 140) c2 c3 := by rw [e3]; exact c_sm.u c2 ⟨rfl, rfl⟩ _ _
  have eB3 : c_v c3 140 pl 0 = c_n c := by rw [e3]; exact c_u_eq _ _ _ _ _
  have vn : ∀ j : Int, c_v c3 640 (c_n c) j = if 0 ≤ j ∧ j < (i : Int) then c_v c 640 (c_v c 140 pl 0) j else -1 := by
    intro j
    rw [e3, c_u_q (by omega), e2]
    show (if _ ∧ _ ∧ _ ∧ _ then _ else _) = _
    by_cases cj : 0 ≤ j ∧ j < (i : Int)
    · rw [if_pos ⟨rfl, rfl, cj.1, by omega⟩, if_pos cj]
      show c_v c1 _ _ (0 + (j - 0)) = _
      rw [show (0 + (j - 0) : Int) = j by omega, u1.v zb (fun w => w)]
    · rw [if_neg (fun w => cj ⟨w.2.2.1, by omega⟩), if_neg cj]
      show c_v c1 _ _ _ = _
      rw [e1, c_v_a, if_pos rfl]
  have slu : ∀ A, slA c A → slA c3 A := fun A hA => ((hA.ag (sAg.up u1 hA.n.2 (fun _ _ _ _ _ _ _ w => w))).sm s2 (fun t ht w => (sl_sW t ht).2.2.2.2 w.1)).sm s3 (fun t ht w => (sl_sW t ht).2.2.1 w.2)
  have l3 : c_l c3 (c_n c) = 2 * (i : Int) := by rw [s3.l, s2.l]; exact ln
  have iz : zS Z = i := by omega
  have ts3 : TS c3 pl Z := by
    unfold TS
    rw [eB3]
    refine ⟨by rw [s3.r, s2.r]; exact rn, by omega, ⟨by omega, t3.2⟩, fun j hj => ?_, fun j hj1 hj2 => ?_, t6, t6'⟩
    · rw [vn, if_pos (by omega)]; exact ⟨(t4 j hj).1, slu _ (t4 j hj).2⟩
    · rw [vn, if_neg (by omega)]
  refine mid _ c3 (c_n c) ?_ (Or.inr (Int.le_refl _)) ts3 eB3 (by omega) ?_ ?_
  · refine ⟨by rw [s3.n, s2.n]; exact u1.1, fun a ha => by rw [s3.r, s3.l, s2.r, s2.l]; exact u1.2.1 a ha, fun q a j ha hw => ?_⟩
    rw [s3.v hw, s2.v (by omega)]
    exact u1.2.2 q a j ha (fun w => w)
  · rw [l3, s3.m, s2.m, e1, c_m_a]; omega
  · rw [l3, s3.n, s2.n, e1, c_n_a]; omega
theorem TS.up {W : Nat → Int → Prop} (h : TS c pl Z) (hp : c_r c pl = 1003) (u : c_up W c c') (w1 : ¬ W 140 pl) (w2 : ¬ W 640 (c_v c 140 pl 0)) (w3 : ∀ i, i < zS Z → ∀ t ∈ sl_t, ¬ W t.1 (zs Z i)) : TS c' pl Z ∧ c_v c' 140 pl 0 = c_v c 140 pl 0 ∧ c_l c' (c_v c 140 pl 0) = c_l c (c_v c 140 pl 0) := by
  obtain ⟨h1, h2, h3, h4, h5, h6, h7⟩ := h
  have e := u.v (q := 140) (a := pl) (by rw [hp]; decide) w1 0
  have z1 : c_r c (c_v c 140 pl 0) ≠ 0 := by rw [h1]; decide
  unfold TS
  rw [e, u.l z1]
  refine ⟨⟨u.r h1 (by decide), h2, h3, fun i hi => ?_, fun i hi1 hi2 => ?_, h6, h7⟩, rfl, rfl⟩
  · rw [u.v z1 w2]
    obtain ⟨g1, g2⟩ := h4 i hi
    refine ⟨g1, u.r g2.1 (by decide), fun t ht => ?_⟩
    obtain ⟨a1, a2, a3⟩ := g2.2 t ht
    exact ⟨by rw [u.v (by rw [g2.1]; decide) (w3 i hi t ht)]; exact a1, u.r a2 (by omega), by rw [u.l (by rw [a2]; omega)]; exact a3⟩
  · rw [u.v z1 w2]; exact h5 i hi1 hi2
end
