set_option maxRecDepth 100000
/-! readers: ONE, what it begins with -/
section
variable {K k : Nat} {V W : pV} {b : Int → Int} {n : Nat}
theorem eX.fin {r : Int × Int × Int × Int × Int × Int} {tok beg : Nat} (y : eY K (vN V) V W) (hA : vA V < vA W) (hK : vA W ≤ K) (hD : vD W = vD V) (hS : vS W = vS V) (hM : vM W = vM V) (hG : vM V = false → vG W = vG V) (hp : x_p (x_up (vT W) (vN W) r) K (vN V) (vN W)) (h25 : r.1 < 25) (h3 : r.1 ≠ 3) (hn : r.2.2.2.2.1 = -1) (ht : tok ≤ K) (hb : beg ≤ K) (hxo : xo (x_up (vT W) (vN W) r) (vN V) (vN W + 1) (fun e => e + 1 = vN W + 1)) : eX K V (v_add W r tok beg) := by
  have yn := y.2.1
  refine ⟨y.tr (eY.add hp ht hb h25), hA, hK, by show vN V < vN W + 1; omega, hD, hS, hM, hG, ?_, fun q => ?_, hxo⟩
  · show x_n (x_up (vT W) (vN W) r) (vN W + 1 - 1) = -1
    rw [Nat.add_sub_cancel]
    unfold x_n
    rw [x_up_eq]
    exact hn
  · exfalso
    have q : x_act (x_up (vT W) (vN W) r) (vN W + 1 - 1) = 3 := q
    rw [Nat.add_sub_cancel] at q
    unfold x_act at q
    rw [x_up_eq] at q
    exact h3 q
theorem eX.col {x2 z : Int} (hk : k ≤ K) (h : (x2 = -1 ∧ k = vA V + 1) ∨ (x2 = ((vA V + 2 : Nat) : Int) ∧ k = vA V + 3)) : eX K V (v_add (v_at V k) (3, (vA V : Int), x2, -1, -1, z) (vA V) (vA V)) := by
  have xe : x_up (vT V) (vN V) (3, (vA V : Int), x2, -1, -1, z) (vN V) = (3, (vA V : Int), x2, -1, -1, z) := x_up_eq _ _ _
  have hp : x_p (x_up (vT V) (vN V) (3, (vA V : Int), x2, -1, -1, z)) K (vN V) (vN V) := by
    refine ⟨fun _ => Or.inr (Or.inl ⟨?_, ?_, ?_, ?_⟩), ?_, fun q => ?_⟩
    · unfold x_act; rw [xe]
    · unfold x_a; rw [xe]; show (0 : Int) ≤ vA V; omega
    · unfold x_a; rw [xe]; show ((vA V : Nat) : Int) ≤ K; omega
    · unfold x_b; rw [xe]; show x2 = -1 ∨ (0 ≤ x2 ∧ x2 ≤ K); omega
    · unfold x_act; rw [xe]; show (3 : Int) ≤ 29; omega
    · unfold x_act at q; rw [xe] at q; have q : (26 : Int) ≤ 3 := q; omega
  refine ⟨(eY.at V (by omega)).tr (eY.add (V := v_at V k) hp (by omega) (by omega) (by show (3 : Int) < 25; omega)), by show vA V < k; omega, hk, by show vN V < vN V + 1; omega, rfl, rfl, rfl, fun _ => rfl, ?_, fun _ => ⟨0, ?_, ?_, ?_, ?_⟩, (xo.nil (vT V) (vN V) (fun _ => False)).add (fun e he => he.elim)⟩
  · show x_n (x_up (vT V) (vN V) _) (vN V + 1 - 1) = -1
    rw [Nat.add_sub_cancel]
    unfold x_n
    rw [xe]
  · show (if vN V + 1 - 1 = vN V then (vA V, vA V) else vB V (vN V + 1 - 1)).1 = _
    rw [if_pos (by omega)]; omega
  · show k = vA V + 2 * 0 + (if x_b (x_up (vT V) (vN V) _) (vN V + 1 - 1) = -1 then 1 else 3)
    rw [Nat.add_sub_cancel]
    unfold x_b
    rw [xe]
    show k = vA V + 2 * 0 + (if x2 = -1 then 1 else 3)
    rcases h with h | h
    · rw [if_pos h.1]; omega
    · rw [if_neg (by omega)]; omega
  · show x_a (x_up (vT V) (vN V) _) (vN V + 1 - 1) = _
    rw [Nat.add_sub_cancel]
    unfold x_a
    rw [xe]
    rfl
  · show x_b (x_up (vT V) (vN V) _) (vN V + 1 - 1) = -1 ∨ x_b (x_up (vT V) (vN V) _) (vN V + 1 - 1) = _
    rw [Nat.add_sub_cancel]
    unfold x_b
    rw [xe]
    show x2 = -1 ∨ x2 = ((vA V + 0 + 2 : Nat) : Int)
    omega
theorem v_row_add {r r' : Int × Int × Int × Int × Int × Int} {tok g1 : Nat} : v_row (v_add V r tok g1) (vN V) r' = v_add V r' tok g1 := by
  unfold v_row v_add
  show (V.1, (vN V + 1, x_up (x_up (vT V) (vN V) r) (vN V) r', _), vG V) = _
  refine congrArg (fun z => (V.1, (vN V + 1, z, fun i => if i = vN V then (tok, g1) else vB V i), vG V)) ?_
  funext i
  unfold x_up
  by_cases ci : i = vN V
  · rw [if_pos ci, if_pos ci]
  · rw [if_neg ci, if_neg ci, if_neg ci]
theorem tk_ne {y1 y2 : Int} (h : tk_is b n k (st_str y1)) (hne : st_str y2 ≠ st_str y1) : ¬ tk_is b n k (st_str y2) := fun q => hne (q.2.symm.trans h.2)
theorem tk_nm_ne {y : Int} (h : tk_nm b n k) (ht : tkn (st_str y)) : ¬ tk_is b n k (st_str y) := fun q => h.2 (by rw [q.2]; exact ht)
theorem tk_sg_ne {y x : Int} {w : List Int} (tw : tk_is b n k w ↔ (tk_s b n k = 1 ∧ tk_w b n k = st_str y)) (hs : tk_s b n k = x) (hx : x ≠ 1) : ¬ tk_is b n k w := fun q => hx (hs.symm.trans (tw.mp q).1)
end
/-! the model -/
section
variable {s : ms_S} {b : Int → Int} {n K si d' : Nat} {R : Int} {V : pV} {P : Int → ms_S → Prop} {f p : Int}
theorem mo_23 {s0 : ms_S} {x1 x2 x3 x4 x5 : Int} (h : MF s f p) (he : eF si s0 s) (hP : ∀ v' s', MF s' f p → eF si s0 s' → P v' s') : mw (d' + 1) 211 (am_blk 211 23) [159, x1, x2, x3, x4, x5] [] s P := by
  refine w211_23 (fun s6 e6 => ?_)
  rw [e6]
  exact hP _ _ (h.fr (fun q h1 h2 => ms_u_f _ _ _ (by omega))) (he.tr (eF.u (by omega)))
/-- to the end with a fault: brackets -/
theorem mo_7 {s0 : ms_S} {x1 x2 x3 x4 x5 z0 : Int} (h : MF s f p) (hd : 4 ≤ d') (he : eF si s0 s) (hP : ∀ v' s', MF s' f p → eF si s0 s' → P v' s') : mw (d' + 1) 211 (am_blk 211 7) [159, x1, x2, x3, x4, x5] [z0] s P := by
  refine w211_7 (fun s1 e1 => ?_)
  have h1 : MF s1 f p := h.fr (fun q h1 h2 => by rw [e1]; exact ms_u_f _ _ _ (by omega))
  exact h1.needS (by omega) (mo_23 h1 (he.tr (by rw [e1]; exact eF.u (by omega))) hP)
theorem mo_14 {s0 : ms_S} {x1 x2 x3 x4 x5 z0 : Int} (h : MF s f p) (hd : 4 ≤ d') (he : eF si s0 s) (hP : ∀ v' s', MF s' f p → eF si s0 s' → P v' s') : mw (d' + 1) 211 (am_blk 211 14) [159, x1, x2, x3, x4, x5] [z0] s P := by
  refine w211_14 (h.needW (by omega) (fun s1 e1 => ?_))
  have h1 : MF s1 f p := h.fr (fun q h1 h2 => by rw [e1]; exact ms_u_f _ _ _ (by omega))
  exact h1.make (by omega) (mo_23 h1 (he.tr (by rw [e1]; exact eF.u (by omega))) hP)
theorem mo_12 {s0 : ms_S} {x1 x2 x3 x4 x5 z0 : Int} (h : MF s f p) (hd : 4 ≤ d') (he : eF si s0 s) (hP : ∀ v' s', MF s' f p → eF si s0 s' → P v' s') : mw (d' + 1) 211 (am_blk 211 12) [159, x1, x2, x3, x4, x5] [z0] s P :=
  w211_12 (h.needW (by omega) ⟨fun _ => mo_14 h hd he hP, fun w => absurd h.1 w⟩)
theorem mo_10 {s0 : ms_S} {x1 x2 x3 x4 x5 z0 : Int} (h : MF s f p) (hd : 4 ≤ d') (he : eF si s0 s) (hP : ∀ v' s', MF s' f p → eF si s0 s' → P v' s') : mw (d' + 1) 211 (am_blk 211 10) [159, x1, x2, x3, x4, x5] [z0] s P :=
  w211_10 (h.needW (by omega) ⟨fun _ => mo_12 h hd he hP, fun w => absurd h.1 w⟩)
theorem mo_19 {s0 : ms_S} {x1 x2 x3 x4 x5 z0 : Int} (h : MF s f p) (hd : 4 ≤ d') (he : eF si s0 s) (hP : ∀ v' s', MF s' f p → eF si s0 s' → P v' s') : mw (d' + 1) 211 (am_blk 211 19) [159, x1, x2, x3, x4, x5] [z0] s P := by
  refine w211_19 (h.needS (by omega) (fun s1 e1 => ?_))
  have h1 : MF s1 f p := h.fr (fun q h1 h2 => by rw [e1]; exact ms_u_f _ _ _ (by omega))
  exact h1.make (by omega) (mo_23 h1 (he.tr (by rw [e1]; exact eF.u (by omega))) hP)
theorem mo_17 {s0 : ms_S} {x1 x2 x3 x4 x5 z0 : Int} (h : MF s f p) (hd : 4 ≤ d') (he : eF si s0 s) (hP : ∀ v' s', MF s' f p → eF si s0 s' → P v' s') : mw (d' + 1) 211 (am_blk 211 17) [159, x1, x2, x3, x4, x5] [z0] s P :=
  w211_17 (h.needS (by omega) ⟨fun _ => mo_19 h hd he hP, fun w => absurd h.1 w⟩)
/-- the end of ONE -/
theorem me_23 {s0 : ms_S} {V' : pV} {v x3 x4 x5 : Int} (h : ME s b n K R si V') (he : eF si s0 s) (hP : ∀ s', ME s' b n K R si V' → eF si s0 s' → s' 74 0 = (tk_p b n (vA V) : Int) → P v s') : mw (d' + 1) 211 (am_blk 211 23) [159, (tk_p b n (vA V) : Int), v, x3, x4, x5] [] s P := by
  refine w211_23 (fun s6 e6 => ?_)
  rw [e6]
  exact hP _ h.sp (he.tr (eF.u (by omega))) (ms_u_eq _ _ _ _)
theorem m1_num (h : ME s b n K R si V) (hs : tk_s b n (vA V) = 2) (kk : md_make d' 1 (-1) (-1) (-1) (tk_p b n (vA V) : Int) (tk_p b n (vA V) : Int) (ms_u s 18 0 ((vA V + 1 : Nat) : Int)) (fun v18 s27 => 0 ≤ v18 ∧ v18 < 121 ∧ ∀ s28, s28 = ms_u s27 28 v18 (tk_v b n (vA V)) → ∀ x3, mw (d' + 1) 211 (am_blk 211 23) [159, (tk_p b n (vA V) : Int), v18, x3, 0, 0] [] s28 P)) : md_one (d' + 1) s P := by
  have hl := h.le
  have e18 := h.2.1.1
  refine w211_e ⟨by omega, by omega, fun _ => ⟨by omega, by omega, fun w => absurd (by rw [h.so]; exact hs) w, fun _ => ⟨by omega, by omega, fun s26 e26 => ?_⟩⟩, fun w => absurd (by rw [h.2.1.2.2.1]; decide) w⟩
  rw [e18, am_w_s (by omega)] at e26
  rw [e26, h.pl, show s 17 (s 18 0) = tk_v b n (vA V) by rw [e18]; exact (h.1.2.2.2 _ hl.1).2.2.2 hs]
  exact mw.mono kk (fun v s1 h1 => ⟨h1.1, h1.2.1, fun s28 e28 => h1.2.2 s28 e28 _⟩)
theorem m1_null (h : ME s b n K R si V) (hd : 3 ≤ d') (hi : tk_is b n (vA V) (st_str (-30))) (kk : md_make d' 2 (-1) (-1) (-1) (tk_p b n (vA V) : Int) (tk_p b n (vA V) : Int) (ms_u s 18 0 ((vA V + 1 : Nat) : Int)) (fun v17 s25 => mw (d' + 1) 211 (am_blk 211 23) [159, (tk_p b n (vA V) : Int), v17, 0, 0, 0] [] s25 P)) : md_one (d' + 1) s P := by
  have hl := h.le
  have e18 := h.2.1.1
  have hs := (tw_null.mp hi).1
  refine w211_e ⟨by omega, by omega, fun _ => ⟨by omega, by omega, fun _ => ?_, fun w => absurd (by rw [h.so]; omega) w⟩, fun w => absurd (by rw [h.2.1.2.2.1]; decide) w⟩
  rw [h.pl]
  exact h.takeW1 (by omega) tw_null (sty (by omega)) hi ⟨fun w => absurd w (by omega), fun _ => kk⟩
theorem m1_true (h : ME s b n K R si V) (hd : 3 ≤ d') (hi : tk_is b n (vA V) (st_str (-32))) (kk : md_make d' 3 (-1) (-1) (-1) (tk_p b n (vA V) : Int) (tk_p b n (vA V) : Int) (ms_u s 18 0 ((vA V + 1 : Nat) : Int)) (fun v17 s25 => mw (d' + 1) 211 (am_blk 211 23) [159, (tk_p b n (vA V) : Int), v17, 0, 0, 0] [] s25 P)) : md_one (d' + 1) s P := by
  have hl := h.le
  have e18 := h.2.1.1
  have hs := (tw_true.mp hi).1
  refine w211_e ⟨by omega, by omega, fun _ => ⟨by omega, by omega, fun _ => ?_, fun w => absurd (by rw [h.so]; omega) w⟩, fun w => absurd (by rw [h.2.1.2.2.1]; decide) w⟩
  rw [h.pl]
  exact h.takeW0 (by omega) tw_null (sty (by omega)) (tk_ne hi (by decide +kernel)) ⟨fun _ => h.takeW1 (by omega) tw_true (sty (by omega)) hi ⟨fun w => absurd w (by omega), fun _ => kk⟩, fun w => absurd rfl w⟩
theorem m1_false (h : ME s b n K R si V) (hd : 3 ≤ d') (hi : tk_is b n (vA V) (st_str (-34))) (kk : md_make d' 4 (-1) (-1) (-1) (tk_p b n (vA V) : Int) (tk_p b n (vA V) : Int) (ms_u s 18 0 ((vA V + 1 : Nat) : Int)) (fun v17 s25 => mw (d' + 1) 211 (am_blk 211 23) [159, (tk_p b n (vA V) : Int), v17, 0, 0, 0] [] s25 P)) : md_one (d' + 1) s P := by
  have hl := h.le
  have e18 := h.2.1.1
  have hs := (tw_false.mp hi).1
  refine w211_e ⟨by omega, by omega, fun _ => ⟨by omega, by omega, fun _ => ?_, fun w => absurd (by rw [h.so]; omega) w⟩, fun w => absurd (by rw [h.2.1.2.2.1]; decide) w⟩
  rw [h.pl]
  exact h.takeW0 (by omega) tw_null (sty (by omega)) (tk_ne hi (by decide +kernel)) ⟨fun _ => h.takeW0 (by omega) tw_true (sty (by omega)) (tk_ne hi (by decide +kernel)) ⟨fun _ => h.takeW1 (by omega) tw_false (sty (by omega)) hi ⟨fun w => absurd w (by omega), fun _ => kk⟩, fun w => absurd rfl w⟩, fun w => absurd rfl w⟩
/-- none of null, true, false -/
def tk_n3 (b : Int → Int) (n k : Nat) : Prop := tk_s b n k ≠ 2 ∧ ¬ tk_is b n k (st_str (-30)) ∧ ¬ tk_is b n k (st_str (-32)) ∧ ¬ tk_is b n k (st_str (-34))
theorem m1_n3 (h : ME s b n K R si V) (hd : 3 ≤ d') (hi : tk_n3 b n (vA V)) (kk : md_isSign d' 40 s (fun v4 s4 => (v4 = 0 → md_isWord d' (-142) s4 (fun v5 s5 => (v5 = 0 → md_isWord d' (-144) s5 (fun v6 s6 => (v6 = 0 → md_isWord d' (-128) s6 (fun v7 s7 => (v7 ≠ 0 → mw (d' + 1) 211 (am_blk 211 21) [159, (tk_p b n (vA V) : Int), 0, 0, 0, 0] [] s7 P) ∧ (¬ (v7 ≠ 0) → md_isWord d' (-130) s7 (fun v8 s8 => (v8 ≠ 0 → mw (d' + 1) 211 (am_blk 211 21) [159, (tk_p b n (vA V) : Int), 0, 0, 0, 0] [] s8 P) ∧ (¬ (v8 ≠ 0) → md_isWord d' (-132) s8 (fun v9 s9 => (v9 ≠ 0 → mw (d' + 1) 211 (am_blk 211 21) [159, (tk_p b n (vA V) : Int), 0, 0, 0, 0] [] s9 P) ∧ (¬ (v9 ≠ 0) → md_isWord d' (-134) s9 (fun v10 s10 => (v10 = 0 → md_columnOf d' (tk_p b n (vA V) : Int) s10 (fun v11 s11 => mw (d' + 1) 211 (am_blk 211 23) [159, (tk_p b n (vA V) : Int), v11, 0, 0, 0] [] s11 P)) ∧ (¬ (v10 = 0) → mw (d' + 1) 211 (am_blk 211 21) [159, (tk_p b n (vA V) : Int), 0, 0, 0, 0] [] s10 P))))))))) ∧ (¬ (v6 = 0) → md_deeper d' (tk_p b n (vA V) : Int) s6 (fun _ s12 => ∀ s13, s13 = ms_u s12 18 0 (am_w ((s12 18 0) + 1)) → md_needSign d' 40 s13 (fun _ s14 => ((s14 21 0) = 0 → mw (d' + 1) 211 (am_blk 211 17) [159, (tk_p b n (vA V) : Int), 0, 0, 0, 0] [0] s14 P) ∧ (¬ ((s14 21 0) = 0) → md_expr d' s14 (fun v12 s15 => mw (d' + 1) 211 (am_blk 211 17) [159, (tk_p b n (vA V) : Int), 0, 0, 0, 0] [v12] s15 P))))))) ∧ (¬ (v5 = 0) → md_deeper d' (tk_p b n (vA V) : Int) s5 (fun _ s16 => ∀ s17, s17 = ms_u s16 18 0 (am_w ((s16 18 0) + 1)) → md_needWord d' (-152) s17 (fun _ s18 => ((s18 21 0) = 0 → mw (d' + 1) 211 (am_blk 211 10) [159, (tk_p b n (vA V) : Int), 0, 0, 0, 0] [0] s18 P) ∧ (¬ ((s18 21 0) = 0) → md_expr d' s18 (fun v13 s19 => mw (d' + 1) 211 (am_blk 211 10) [159, (tk_p b n (vA V) : Int), 0, 0, 0, 0] [v13] s19 P))))))) ∧ (¬ (v4 = 0) → md_deeper d' (tk_p b n (vA V) : Int) s4 (fun _ s20 => ∀ s21, s21 = ms_u s20 18 0 (am_w ((s20 18 0) + 1)) → ((s21 21 0) = 0 → mw (d' + 1) 211 (am_blk 211 7) [159, (tk_p b n (vA V) : Int), 0, 0, 0, 0] [0] s21 P) ∧ (¬ ((s21 21 0) = 0) → md_expr d' s21 (fun v14 s22 => mw (d' + 1) 211 (am_blk 211 7) [159, (tk_p b n (vA V) : Int), 0, 0, 0, 0] [v14] s22 P)))))) : md_one (d' + 1) s P := by
  have hl := h.le
  have e18 := h.2.1.1
  obtain ⟨n0, n1, n2, n3⟩ := hi
  refine w211_e ⟨by omega, by omega, fun _ => ⟨by omega, by omega, fun _ => ?_, fun w => absurd (by rw [h.so]; exact n0) w⟩, fun w => absurd (by rw [h.2.1.2.2.1]; decide) w⟩
  rw [h.pl]
  exact h.takeW0 (by omega) tw_null (sty (by omega)) n1 ⟨fun _ => h.takeW0 (by omega) tw_true (sty (by omega)) n2 ⟨fun _ => h.takeW0 (by omega) tw_false (sty (by omega)) n3 ⟨fun _ => kk, fun w => absurd rfl w⟩, fun w => absurd rfl w⟩, fun w => absurd rfl w⟩
/-- one more within another, the next token -/
theorem m1_deep {x : Int} (h : ME s b n K R si V) (hd : 1 ≤ d') (h12 : vD V < 12) (hK : vA V < K) {F : ms_S → Prop} (kk : ∀ s3, ME s3 b n K R si (v_at (v_deep V (vD V + 1)) (vA V + 1)) → eF si s s3 → F s3) : md_deeper d' x s (fun _ s2 => ∀ s3, s3 = ms_u s2 18 0 (am_w ((s2 18 0) + 1)) → F s3) := by
  have hsl := h.le
  refine h.deeper1 hd h12 (fun s3 e3 => ?_)
  rw [ms_u_f _ _ _ (by omega), h.2.1.1, am_w_s (by omega)] at e3
  exact kk s3 (by rw [e3]; exact (h.deep (k := vD V + 1) (by omega)).at (k := vA V + 1) (by omega)) (by rw [e3]; exact (eF.u (by omega)).tr (eF.u (by omega)))
theorem m1_deep0 {x : Int} (h : ME s b n K R si V) (hd : 1 ≤ d') (h12 : vD V = 12) (hK : vA V < K) {F : ms_S → Prop} (kk : ∀ s3, MF s3 7 x → eF si s s3 → F s3) : md_deeper d' x s (fun _ s2 => ∀ s3, s3 = ms_u s2 18 0 (am_w ((s2 18 0) + 1)) → F s3) := by
  have hsl := h.le
  refine h.deeper0 hd h12 (fun s3 e3 => ?_)
  have hf2 : MF (m_fl (ms_u s 70 0 13) 7 x) 7 x := m_fl_MF (by rw [ms_u_f _ _ _ (by omega), h.2.1.1]; omega) (by rw [ms_u_f _ _ _ (by omega), h.2.1.1]; omega)
  have e18 : m_fl (ms_u s 70 0 13) 7 x 18 0 = (vA V : Int) := by rw [m_fl_f (by omega) (by omega) (by omega), ms_u_f _ _ _ (by omega)]; exact h.2.1.1
  rw [e18, am_w_s (by omega)] at e3
  refine kk s3 ?_ (by rw [e3]; exact (eF.u (by omega)).tr (eF.fl.tr (eF.u (by omega))))
  obtain ⟨f1, f2, f3, f4, f5⟩ := hf2
  rw [e3]
  exact ⟨by rw [ms_u_f _ _ _ (by omega)]; exact f1, by rw [ms_u_f _ _ _ (by omega)]; exact f2, by rw [ms_u_f _ _ _ (by omega)]; exact f3, by rw [ms_u_eq]; omega, by rw [ms_u_eq]; omega⟩
end
