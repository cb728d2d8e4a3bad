set_option maxRecDepth 100000
/-! readers: ONE: brackets, case, span, read -/
section
variable {L B B' D : Nat} {pl : Int} {b : Int → Int} {n K : Nat} {R : Int} {c : cs_S} {V : pV} {Q : Int → cs_S → Prop}
/-- signs and words that begin ONE, in the model -/
theorem m1_case {si : Nat} {s : ms_S} {d' : Nat} {P : Int → ms_S → Prop} (h : ME s b n K R si V) (hd : 4 ≤ d') (hi : tk_is b n (vA V) (st_str (-38))) (kk : md_deeper d' (tk_p b n (vA V) : Int) s (fun _ s16 => ∀ s17, s17 = ms_u s16 18 0 (am_w ((s16 18 0) + 1)) → md_needWord d' (-152) s17 (fun _ s18 => ((s18 21 0) = 0 → mw (d' + 1) 211 (am_blk 211 10) [159, (tk_p b n (vA V) : Int), 0, 0, 0, 0] [0] s18 P) ∧ (¬ ((s18 21 0) = 0) → md_expr d' s18 (fun v13 s19 => mw (d' + 1) 211 (am_blk 211 10) [159, (tk_p b n (vA V) : Int), 0, 0, 0, 0] [v13] s19 P))))) : md_one (d' + 1) s P := by
  have hs := (tw_case.mp hi).1
  refine m1_n3 h (by omega) ⟨by omega, tk_ne hi (by decide +kernel), tk_ne hi (by decide +kernel), tk_ne hi (by decide +kernel)⟩ ?_
  refine h.isS0 ts_40 (fun q => by have := ts_40.mp q; omega) ⟨fun _ => ?_, fun w => absurd rfl w⟩
  exact h.isW1 (by omega) tw_case (sty (by omega)) hi ⟨fun w => absurd w (by omega), fun _ => kk⟩
theorem m1_span {si : Nat} {s : ms_S} {d' : Nat} {P : Int → ms_S → Prop} (h : ME s b n K R si V) (hd : 4 ≤ d') (hi : tk_is b n (vA V) (st_str (-40))) (kk : md_deeper d' (tk_p b n (vA V) : Int) s (fun _ s12 => ∀ s13, s13 = ms_u s12 18 0 (am_w ((s12 18 0) + 1)) → md_needSign d' 40 s13 (fun _ s14 => ((s14 21 0) = 0 → mw (d' + 1) 211 (am_blk 211 17) [159, (tk_p b n (vA V) : Int), 0, 0, 0, 0] [0] s14 P) ∧ (¬ ((s14 21 0) = 0) → md_expr d' s14 (fun v12 s15 => mw (d' + 1) 211 (am_blk 211 17) [159, (tk_p b n (vA V) : Int), 0, 0, 0, 0] [v12] s15 P))))) : md_one (d' + 1) s P := by
  have hs := (tw_span.mp hi).1
  refine m1_n3 h (by omega) ⟨by omega, tk_ne hi (by decide +kernel), tk_ne hi (by decide +kernel), tk_ne hi (by decide +kernel)⟩ ?_
  refine h.isS0 ts_40 (fun q => by have := ts_40.mp q; omega) ⟨fun _ => ?_, fun w => absurd rfl w⟩
  refine h.isW0 (by omega) tw_case (sty (by omega)) (tk_ne hi (by decide +kernel)) ⟨fun _ => ?_, fun w => absurd rfl w⟩
  exact h.isW1 (by omega) tw_span (sty (by omega)) hi ⟨fun w => absurd w (by omega), fun _ => kk⟩
theorem m1_par {si : Nat} {s : ms_S} {d' : Nat} {P : Int → ms_S → Prop} (h : ME s b n K R si V) (hd : 4 ≤ d') (hi : tk_is b n (vA V) (st_str (-36))) (kk : md_deeper d' (tk_p b n (vA V) : Int) s (fun _ s20 => ∀ s21, s21 = ms_u s20 18 0 (am_w ((s20 18 0) + 1)) → ((s21 21 0) = 0 → mw (d' + 1) 211 (am_blk 211 7) [159, (tk_p b n (vA V) : Int), 0, 0, 0, 0] [0] s21 P) ∧ (¬ ((s21 21 0) = 0) → md_expr d' s21 (fun v14 s22 => mw (d' + 1) 211 (am_blk 211 7) [159, (tk_p b n (vA V) : Int), 0, 0, 0, 0] [v14] s22 P)))) : md_one (d' + 1) s P := by
  have hs := ts_40.mp hi
  refine m1_n3 h (by omega) ⟨by omega, tk_ne hi (by decide +kernel), tk_ne hi (by decide +kernel), tk_ne hi (by decide +kernel)⟩ ?_
  exact h.isS1 ts_40 hi ⟨fun w => absurd w (by omega), fun _ => kk⟩
theorem gd {si : Nat} {s : ms_S} {V : pV} (h : ME s b n K R si V) : ¬ s 21 0 = 0 := fun w => absurd (h.2.1.2.2.1.symm.trans w) (by decide)
/-- brackets -/
theorem o_par (hB : 9 ≤ B) (hB' : B' ≤ B) (hE : ∀ L', L = L' + 1 → rX bgE kplan_readExpression md_expr B' L') (h : CE c pl b n K R V) (hL : vD V + L = 12) (hd : B ≤ D) (hi : tk_is b n (vA V) (st_str (-36))) (kk : ∀ v c', c_sm (eW pl R) c c' → rP tk_bs md_one (B + 1) pl b n K R V v c' → Q v c') : kplan_opens D pl c (fun v17 c18 => (v17 ≠ 0 → c_r c18 pl = 1003 ∧ c_r c18 pl = 1003 ∧ ∀ c19, c19 = c_u c18 122 pl 0 (am_w ((c_v c18 122 pl 0) + 1)) → c_r c19 pl = 1003 ∧ kplan_readExpression D pl c19 (fun v18 c20 => c_r c20 pl = 1003 ∧ kplan_want D pl (-48) c20 (fun _ c21 => c_r c21 pl = 1003 ∧ c_r c21 pl = 1003 ∧ ∀ c22, c22 = c_u c21 125 pl 0 (am_w ((c_v c21 125 pl 0) - 1)) → Q v18 c22))) ∧ (¬ (v17 ≠ 0) → Q 0 c18)) := by
  have hl := h.le
  have ha := h.2.2.1.1
  have hK := tk_is_lt h.2.1.2.1 hl.1 hi
  have hbs : tk_bs b n (vA V) (vM V) := Or.inr (Or.inr (Or.inr (Or.inr (Or.inr (Or.inr (Or.inl hi))))))
  refine k_opens h (by omega) (fun h12 => ⟨fun _ => ?_, fun w => absurd (by omega : (1 : Int) ≠ 0) w⟩) (fun h12 => ⟨fun w => absurd rfl w, fun _ => kk 0 _ c_fl_sm (mFa.rP (f := 7) (p := (tk_p b n (vA V) : Int)) ?_ (h.cf (by omega)))⟩)
  · have h1 := h.deep (k := vD V + 1) (by omega)
    refine ⟨h1.r, h1.r, fun c19 e19 => ?_⟩
    rw [c_u_q (by omega), ha, am_w_s (by omega)] at e19
    have h2 : CE c19 pl b n K R (v_at (v_deep V (vD V + 1)) (vA V + 1)) := by rw [e19]; exact h1.at (k := vA V + 1) (by omega)
    have s2 : c_sm (eW pl R) c c19 := by rw [e19]; exact (c_sm.u c (by unfold eW; omega) _ _).tr (c_sm.u _ (by unfold eW; omega) _ _)
    have bt0 := bt.st (K := K) (V := V) hK
    have T0 : mTo b n K R B V (v_at (v_deep V (vD V + 1)) (vA V + 1)) md_one (fun d' s P => md_expr d' s (fun v14 s22 => mw (d' + 1) 211 (am_blk 211 7) [159, (tk_p b n (vA V) : Int), 0, 0, 0, 0] [v14] s22 P)) := fun si s d' P hME hd' hP => m1_par hME (by omega) hi (m1_deep hME (by omega) h12 hK (fun s3 hME3 he3 => ⟨fun w => absurd w (gd hME3), fun _ => hP s3 hME3 he3⟩))
    obtain ⟨L', rfl⟩ : ∃ L', L = L' + 1 := ⟨L - 1, by omega⟩
    refine ⟨h2.r, hE L' rfl pl b n K R c19 _ D _ h2 (by show vD V + 1 + L' = 12; omega) (by omega) (fun v18 c20 s20 hP => ?_)⟩
    rcases hP with ⟨W, h3, ⟨x3, -⟩, ev, mg⟩ | ⟨f, p, hf, mf⟩
    · have T1 : mTo b n K R B V W md_one (fun d' s P => mw (d' + 1) 211 (am_blk 211 7) [159, (tk_p b n (vA V) : Int), 0, 0, 0, 0] [v18] s P) := T0.go (fun si s0 s d' P hME hd' hP => mg si s d' _ hME (by omega) (fun s' a1 a2 _ => hP s' a1 a2))
      obtain ⟨bt1, bn1, bn2⟩ := bt0.ex x3
      have h3l := h3.le
      have eD : vD W = vD V + 1 := bt1.2.2.2.1
      refine ⟨h3.r, k_want h3 (by omega) (sty (by omega)) (fun q => ?_) (fun q => ?_)⟩
      · have hlt := tk_is_lt h3.2.1.2.1 h3l.1 q
        have h4 := h3.at (k := vA W + 1) (by omega)
        refine ⟨h4.r, h4.r, fun c22 e22 => ?_⟩
        rw [h4.2.2.1.2.2.2.1, show vD (v_at W (vA W + 1)) = vD V + 1 from eD, am_w_in (by omega) (by omega), show ((vD V + 1 : Nat) : Int) - 1 = (vD V : Int) by omega] at e22
        have h5 : CE c22 pl b n K R (v_deep (v_at W (vA W + 1)) (vD V)) := by rw [e22]; exact h4.deep (by omega)
        have s5 : c_sm (eW pl R) c c22 := (s2.tr s20).tr (by rw [e22]; exact (c_sm.u _ (by unfold eW; omega) _ _).tr (c_sm.u _ (by unfold eW; omega) _ _))
        refine kk _ _ s5 (Or.inl ⟨_, h5, ⟨?_, hbs⟩, ev, fun si s D P hME hD hP => ?_⟩)
        · obtain ⟨a1, a2, a3, a4, a5, a6, a7⟩ := bt1
          have ox : xo (vT W) (vN V) (vN W) (fun e => e + 1 = vN W) := x3.ox
          obtain ⟨-, -, -, b4, -, -, -, -, b9, b10, -⟩ := x3
          have b4 : vN V < vN W := b4
          refine ⟨(a1.tr (eY.at W (by omega))).tr (eY.deep _), by show vA V < vA W + 1; omega, by show vA W + 1 ≤ K; omega, b4, rfl, a5, a6, a7, b9, fun q3 => ?_, ox⟩
          obtain ⟨j, j1, j2, j3, j4⟩ := b10 q3
          have j1 : (vB W (vN W - 1)).1 = vA V + 1 + j := j1
          have j2 : vA W = vA V + 1 + 2 * j + v_wd W (vN W - 1) := j2
          have j3 : x_a (vT W) (vN W - 1) = ((vA V + 1 + j : Nat) : Int) := j3
          have j4 : x_b (vT W) (vN W - 1) = -1 ∨ x_b (vT W) (vN W - 1) = ((vA V + 1 + j + 2 : Nat) : Int) := j4
          refine ⟨j + 1, ?_, ?_, ?_, ?_⟩
          · show (vB W (vN W - 1)).1 = vA V + (j + 1); omega
          · show vA W + 1 = vA V + 2 * (j + 1) + v_wd W (vN W - 1); omega
          · show x_a (vT W) (vN W - 1) = _; rw [j3]; congr 1; omega
          · show x_b (vT W) (vN W - 1) = -1 ∨ x_b (vT W) (vN W - 1) = _
            rcases j4 with j4 | j4
            · exact Or.inl j4
            · right; rw [j4]; congr 1; omega
        · obtain ⟨d', rfl⟩ : ∃ d', D = d' + 1 := ⟨D - 1, by omega⟩
          refine T1 si s d' P hME (by omega) (fun s1 hME1 he1 => w211_7 (fun s2 e2 => ?_))
          rw [hME1.2.1.2.2.2.1, eD, am_w_in (by omega) (by omega), show ((vD V + 1 : Nat) : Int) - 1 = (vD V : Int) by omega] at e2
          have hME2 : ME s2 b n K R si (v_deep W (vD V)) := by rw [e2]; exact hME1.deep (by omega)
          refine hME2.needS1 (by omega) ts_41 q (me_23 (hME2.at (k := vA W + 1) (by omega)) (he1.tr ?_) hP)
          rw [e2]
          exact (eF.u (by omega)).tr (eF.u (by omega))
      · have hf := h3.cf (x := 1) (y := (tk_p b n (vA W) : Int)) (by omega)
        refine ⟨hf.1, hf.1, fun c22 e22 => kk _ _ ((s2.tr s20).tr (by rw [e22]; exact c_fl_sm.tr (c_sm.u _ (by unfold eW; omega) _ _))) (mFa.rP (f := 1) (p := (tk_p b n (vA W) : Int)) ?_ (by rw [e22]; exact hf.deep))⟩
        refine T1.fa (fun si s0 s d' P hME hd' he hP => w211_7 (fun s2 e2 => ?_))
        rw [hME.2.1.2.2.2.1, eD, am_w_in (by omega) (by omega), show ((vD V + 1 : Nat) : Int) - 1 = (vD V : Int) by omega] at e2
        have hME2 : ME s2 b n K R si (v_deep W (vD V)) := by rw [e2]; exact hME.deep (by omega)
        refine hME2.needS0 (by omega) ts_41 q (mo_23 hME2.mf (he.tr ?_) hP)
        rw [e2]
        exact (eF.u (by omega)).tr eF.fl
    · refine ⟨hf.1, k_want0 hf (by omega) ⟨hf.1, hf.1, fun c22 e22 => kk _ _ ((s2.tr s20).tr (by rw [e22]; exact c_sm.u _ (by unfold eW; omega) _ _)) (mFa.rP (f := f) (p := p) ?_ (by rw [e22]; exact hf.deep))⟩⟩
      exact T0.fa (fun si s0 s d' P hME hd' he hP => mf si s d' _ hME (by omega) (fun v' s1 hf1 he1 => mo_7 hf1 (by omega) (he.tr he1) hP))
  · exact fun si s d' P hME hd' hP => m1_par hME (by omega) hi (m1_deep0 hME (by omega) h12 hK (fun s3 hf3 he3 => ⟨fun _ => mo_7 hf3 (by omega) he3 hP, fun w => absurd hf3.1 w⟩))
theorem x_p_3 {T : xt} {lo e : Nat} {v2 v3 v4 z : Int} (h2 : (lo : Int) ≤ v2 ∧ v2 < e) (h3 : (lo : Int) ≤ v3 ∧ v3 < e) (h4 : (lo : Int) ≤ v4 ∧ v4 < e) : x_p (x_up T e (23, v2, v3, v4, -1, z)) K lo e := by
  have xe : x_up T e (23, v2, v3, v4, -1, z) e = (23, v2, v3, v4, -1, z) := x_up_eq _ _ _
  refine ⟨fun _ => Or.inr (Or.inr (Or.inr (Or.inr (Or.inr ⟨?_, ?_, ?_, ?_⟩)))), ?_, fun q => ?_⟩
  · unfold x_act; rw [xe]
  · unfold x_a; rw [xe]; exact h2
  · unfold x_b; rw [xe]; exact h3
  · unfold x_c; rw [xe]; exact h4
  · unfold x_act; rw [xe]; show (23 : Int) ≤ 29; omega
  · unfold x_act at q; rw [xe] at q; have q : (26 : Int) ≤ 23 := q; omega
theorem x_p_2 {T : xt} {lo e : Nat} {act v2 v3 z : Int} (ha : x_two act) (h2 : (lo : Int) ≤ v2 ∧ v2 < e) (h3 : (lo : Int) ≤ v3 ∧ v3 < e) : x_p (x_up T e (act, v2, v3, -1, -1, z)) K lo e := by
  have xe : x_up T e (act, v2, v3, -1, -1, z) e = (act, v2, v3, -1, -1, z) := x_up_eq _ _ _
  have ha' := ha
  unfold x_two at ha'
  refine ⟨fun _ => Or.inr (Or.inr (Or.inl ⟨?_, ?_, ?_⟩)), ?_, fun q => ?_⟩
  · unfold x_act; rw [xe]; exact ha
  · unfold x_a; rw [xe]; exact h2
  · unfold x_b; rw [xe]; exact h3
  · unfold x_act; rw [xe]; show act ≤ 29; omega
  · unfold x_act at q; rw [xe] at q; have q : 26 ≤ act := q; omega
/-- the model's node behind one within another -/
theorem mr_3 {s : ms_S} {e act v2 v3 v4 z : Int} (h1 : s 23 e = mk_kind act 0) (h3 : s 24 e = v2) (h4 : s 25 e = v3) (h5 : s 26 e = v4) (h6 : s 32 e = -1) (h : act = 23 ∨ act = 24) (h0 : -1 ≤ v3) : mr s e (act, v2, v3, v4, -1, z) := by
  refine ⟨by rw [h1]; exact (mk_kind_a (by show act ≠ 2; omega)).symm, fun q => ?_, fun q1 q2 => ?_, fun _ => ⟨h3, h4⟩, h5, h6, fun q => ?_, ?_, h0⟩
  · have q : act = 0 := q; omega
  · have q2 : act ≤ 16 := q2; omega
  · have q : act = 3 := q; omega
  · show (-1 : Int) ≤ -1; omega
theorem o_mk3 {si : Nat} {s s0 : ms_S} {d' : Nat} {P : Int → ms_S → Prop} {W : pV} {act v2 v3 v4 z x3 x4 x5 : Int} (h : ME s b n K R si W) (he : eF si s0 s) (hd : 1 ≤ d') (hN : vN W < 120) (ha : act = 23 ∨ act = 24) (h0 : -1 ≤ v3) (hP : ∀ s', ME s' b n K R si (v_add W (act, v2, v3, v4, -1, z) (vA V) (vA V)) → eF si s0 s' → s' 74 0 = (tk_p b n (vA V) : Int) → P (vN W : Int) s') : md_make d' (mk_kind act 0) v2 v3 v4 (tk_p b n (vA V) : Int) (tk_p b n (vA V) : Int) s (fun v1 s3 => mw (d' + 1) 211 (am_blk 211 23) [159, (tk_p b n (vA V) : Int), v1, x3, x4, x5] [] s3 P) := by
  refine h.make hd hN (fun s6 fr6 h22 rw6 => ?_)
  obtain ⟨w1, w2, w3, w4, w5, w6, w7, w8, w9⟩ := rw6
  exact me_23 (h.add hN fr6 h22 (mr_3 w1 w2 w3 w4 w9 ha h0) w7) (he.tr fr6.eF) hP
theorem o_case (hB : 9 ≤ B) (hB' : B' ≤ B) (hE : ∀ L', L = L' + 1 → rX bgE kplan_readExpression md_expr B' L') (h : CE c pl b n K R V) (hL : vD V + L = 12) (hd : B + 1 ≤ D) (hi : tk_is b n (vA V) (st_str (-38))) (kk : ∀ v c', c_sm (eW pl R) c c' → rP tk_bs md_one (B + 1) pl b n K R V v c' → Q v c') : kplan_readCase D pl c Q := by
  obtain ⟨d, rfl⟩ : ∃ d', D = d' + 1 := ⟨D - 1, by omega⟩
  have hr := h.r
  have hl := h.le
  have ha := h.2.2.1.1
  have hK := tk_is_lt h.2.1.2.1 hl.1 hi
  have hbs : tk_bs b n (vA V) (vM V) := Or.inr (Or.inr (Or.inr (Or.inr (Or.inr (Or.inr (Or.inr (Or.inl hi)))))))
  refine u67_e ?_
  repeat refine ⟨hr, ?_⟩
  rw [ha]
  refine k_opens h (by omega) (fun h12 => ⟨fun _ => ?_, fun w => absurd (by omega : (1 : Int) ≠ 0) w⟩) (fun h12 => ⟨fun w => absurd rfl w, fun _ => kk 0 _ c_fl_sm (mFa.rP (f := 7) (p := (tk_p b n (vA V) : Int)) ?_ (h.cf (by omega)))⟩)
  · have h1 := h.deep (k := vD V + 1) (by omega)
    refine ⟨h1.r, h1.r, fun c2 e2 => ?_⟩
    rw [c_u_q (by omega), ha, am_w_s (by omega)] at e2
    have h2 : CE c2 pl b n K R (v_at (v_deep V (vD V + 1)) (vA V + 1)) := by rw [e2]; exact h1.at (k := vA V + 1) (by omega)
    have s2 : c_sm (eW pl R) c c2 := by rw [e2]; exact (c_sm.u c (by unfold eW; omega) _ _).tr (c_sm.u _ (by unfold eW; omega) _ _)
    have bt0 := bt.st (K := K) (V := V) hK
    obtain ⟨L', rfl⟩ : ∃ L', L = L' + 1 := ⟨L - 1, by omega⟩
    have T0 : mTo b n K R B V (v_at (v_deep V (vD V + 1)) (vA V + 1)) md_one (fun d' s P => md_needWord d' (-152) s (fun _ s18 => ((s18 21 0) = 0 → mw (d' + 1) 211 (am_blk 211 10) [159, (tk_p b n (vA V) : Int), 0, 0, 0, 0] [0] s18 P) ∧ (¬ ((s18 21 0) = 0) → md_expr d' s18 (fun v13 s19 => mw (d' + 1) 211 (am_blk 211 10) [159, (tk_p b n (vA V) : Int), 0, 0, 0, 0] [v13] s19 P)))) := fun si s d' P hME hd' hP => m1_case hME (by omega) hi (m1_deep hME (by omega) h12 hK (fun s3 hME3 he3 => hP s3 hME3 he3))
    generalize hW0 : v_at (v_deep V (vD V + 1)) (vA V + 1) = W0 at h2 bt0 T0
    -- how it ends with a fault
    have ff : ∀ {c' : cs_S} {f p : Int}, c_sm (eW pl R) c c' → mFa b n K R B V md_one f p → ∀ c'', c_sm (eW pl R) c' c'' → CF c'' pl f p → Q 0 c'' := fun s' m c'' s'' hf => kk 0 _ (s'.tr s'') (m.rP hf)
    -- an expression
    have exx : ∀ {N : Int → mN} {W : pV} {c' : cs_S} {Q' : Int → cs_S → Prop}, CE c' pl b n K R W → c_sm (eW pl R) c c' → bt K V W → mTo b n K R B V W md_one (fun d' s P => md_expr d' s (fun v s1 => N v d' s1 P)) → (∀ (v : Int) (W' : pV) (c'' : cs_S), CE c'' pl b n K R W' → c_sm (eW pl R) c c'' → bt K V W' → v = ((vN W' - 1 : Nat) : Int) → vN W < vN W' → eX K W W' → mTo b n K R B V W' md_one (N v) → Q' v c'') → (∀ (v : Int) (f p : Int) (c'' : cs_S), CF c'' pl f p → c_sm (eW pl R) c c'' → ((∀ (si : Nat) (s0 s : ms_S) (d' : Nat) (P : Int → ms_S → Prop) (v' : Int), MF s f p → B ≤ d' → eF si s0 s → (∀ v' s', MF s' f p → eF si s0 s' → P v' s') → N v' d' s P) → mFa b n K R B V md_one f p) → Q' v c'') → kplan_readExpression d pl c' Q' := by
      intro N W c' Q' hW sW btW T good bad
      refine hE L' rfl pl b n K R c' W d _ hW (by have := btW.2.2.2.1; omega) (by omega) (fun v c'' s'' hP => ?_)
      rcases hP with ⟨W', h3, ⟨x3, -⟩, ev, mg⟩ | ⟨f, p, hf, mf⟩
      · obtain ⟨b1, b2, b3⟩ := btW.ex x3
        exact good v W' c'' h3 (sW.tr s'') b1 ev b2 x3 (T.go (fun si s0 s d' P hME hd' hP => mg si s d' _ hME (by omega) (fun s' a1 a2 _ => hP s' a1 a2)))
      · exact bad v f p c'' hf (sW.tr s'') (fun k => T.fa (fun si s0 s d' P hME hd' he hP => mf si s d' _ hME (by omega) (fun v' s1 hf1 he1 => k si s0 s1 d' P v' hf1 hd' (he.tr he1) hP)))
    have hW2 : vN V ≤ vN W0 := bt0.1.2.1
    -- when
    refine ⟨h2.r, k_want h2 (by omega) (sty (by omega)) (fun q => ?_) (fun q => oc0_f (by omega) (h2.cf (by omega)) (ff (s2.tr c_fl_sm) (T0.fa (fun si s0 s d' P hME hd' he hP => hME.needW0 (by omega) tw_when (sty (by omega)) q ⟨fun _ => mo_10 hME.mf (by omega) (he.tr eF.fl) hP, fun w => absurd hME.mf.1 w⟩))))⟩
    have hlt := tk_is_lt h2.2.1.2.1 h2.le.1 q
    have h3 := h2.at (k := vA W0 + 1) (by omega)
    have s3 := s2.tr (c_sm.u (W := eW pl R) c2 (q := 122) (b := pl) (by unfold eW; omega) 0 ((vA W0 + 1 : Nat) : Int))
    have T1 : mTo b n K R B V (v_at W0 (vA W0 + 1)) md_one (fun d' s P => md_expr d' s (fun v s1 => mw (d' + 1) 211 (am_blk 211 10) [159, (tk_p b n (vA V) : Int), 0, 0, 0, 0] [v] s1 P)) := T0.go (fun si s0 s d' P hME hd' hP => hME.needW1 (by omega) tw_when (sty (by omega)) q ⟨fun w => absurd w (gd (hME.at (k := vA W0 + 1) (by omega))), fun _ => hP _ (hME.at (by omega)) (eF.u (by omega))⟩)
    refine ⟨h3.r, exx (N := fun v d' s1 P => mw (d' + 1) 211 (am_blk 211 10) [159, (tk_p b n (vA V) : Int), 0, 0, 0, 0] [v] s1 P) h3 s3 (bt0.at (by omega) (by omega)) T1 (fun v2 W1 c4 h4 s4 bt1 ev2 bn1 xx1 T2 => ?_) (fun v f p c4 hf s4 k => oc1_f (by omega) hf (ff s4 (k (fun si s0 s d' P v' hf1 hd' he hP => mo_10 hf1 (by omega) he hP))))⟩
    -- then
    refine ⟨h4.r, k_want h4 (by omega) (sty (by omega)) (fun q => ?_) (fun q => oc2_f (by omega) (h4.cf (by omega)) (ff (s4.tr c_fl_sm) (T2.fa (fun si s0 s d' P hME hd' he hP => w211_10 (hME.needW0 (by omega) tw_then (sty (by omega)) q ⟨fun _ => mo_12 hME.mf (by omega) (he.tr eF.fl) hP, fun w => absurd hME.mf.1 w⟩)))))⟩
    have hlt := tk_is_lt h4.2.1.2.1 h4.le.1 q
    have h5 := h4.at (k := vA W1 + 1) (by omega)
    have s5 := s4.tr (c_sm.u (W := eW pl R) c4 (q := 122) (b := pl) (by unfold eW; omega) 0 ((vA W1 + 1 : Nat) : Int))
    have T3 : mTo b n K R B V (v_at W1 (vA W1 + 1)) md_one (fun d' s P => md_expr d' s (fun v s1 => mw (d' + 1) 211 (am_blk 211 12) [159, (tk_p b n (vA V) : Int), 0, v2, 0, 0] [v] s1 P)) := T2.go (fun si s0 s d' P hME hd' hP => w211_10 (hME.needW1 (by omega) tw_then (sty (by omega)) q ⟨fun w => absurd w (gd (hME.at (k := vA W1 + 1) (by omega))), fun _ => hP _ (hME.at (by omega)) (eF.u (by omega))⟩))
    refine ⟨h5.r, exx (N := fun v d' s1 P => mw (d' + 1) 211 (am_blk 211 12) [159, (tk_p b n (vA V) : Int), 0, v2, 0, 0] [v] s1 P) h5 s5 (bt1.at (by omega) (by omega)) T3 (fun v3 W2 c6 h6 s6 bt2 ev3 bn2 xx2 T4 => ?_) (fun v f p c6 hf s6 k => oc3_f (by omega) hf (ff s6 (k (fun si s0 s d' P v' hf1 hd' he hP => mo_12 hf1 (by omega) he hP))))⟩
    -- else
    refine ⟨h6.r, k_want h6 (by omega) (sty (by omega)) (fun q => ?_) (fun q => oc4_f (by omega) (h6.cf (by omega)) (ff (s6.tr c_fl_sm) (T4.fa (fun si s0 s d' P hME hd' he hP => w211_12 (hME.needW0 (by omega) tw_else (sty (by omega)) q ⟨fun _ => mo_14 hME.mf (by omega) (he.tr eF.fl) hP, fun w => absurd hME.mf.1 w⟩)))))⟩
    have hlt := tk_is_lt h6.2.1.2.1 h6.le.1 q
    have h7 := h6.at (k := vA W2 + 1) (by omega)
    have s7 := s6.tr (c_sm.u (W := eW pl R) c6 (q := 122) (b := pl) (by unfold eW; omega) 0 ((vA W2 + 1 : Nat) : Int))
    have T5 : mTo b n K R B V (v_at W2 (vA W2 + 1)) md_one (fun d' s P => md_expr d' s (fun v s1 => mw (d' + 1) 211 (am_blk 211 14) [159, (tk_p b n (vA V) : Int), 0, v2, v3, 0] [v] s1 P)) := T4.go (fun si s0 s d' P hME hd' hP => w211_12 (hME.needW1 (by omega) tw_else (sty (by omega)) q ⟨fun w => absurd w (gd (hME.at (k := vA W2 + 1) (by omega))), fun _ => hP _ (hME.at (by omega)) (eF.u (by omega))⟩))
    refine ⟨h7.r, exx (N := fun v d' s1 P => mw (d' + 1) 211 (am_blk 211 14) [159, (tk_p b n (vA V) : Int), 0, v2, v3, 0] [v] s1 P) h7 s7 (bt2.at (by omega) (by omega)) T5 (fun v4 W3 c8 h8 s8 bt3 ev4 bn3 xx3 T6 => ?_) (fun v f p c8 hf s8 k => oc5_f (by omega) hf (ff s8 (k (fun si s0 s d' P v' hf1 hd' he hP => mo_14 hf1 (by omega) he hP))))⟩
    have bn1 : vN W0 < vN W1 := bn1
    have bn2 : vN W1 < vN W2 := bn2
    have bn3 : vN W2 < vN W3 := bn3
    have eN0 : vN W0 = vN V := by rw [← hW0]; rfl
    have ox : xo (vT W3) (vN V) (vN W3) (fun e => (e + 1 = vN W1 ∨ e + 1 = vN W2) ∨ e + 1 = vN W3) := by
      have o2 : xo (vT W2) (vN W0) (vN W2) (fun e => e + 1 = vN W1 ∨ e + 1 = vN W2) := xx1.ox2 xx2
      have ag : ∀ e, e < vN W2 → vT W3 e = vT W2 e ∧ vB W3 e = vB W2 e := xx3.1.2.2.1
      have o3 : xo (vT W3) (vN W2) (vN W3) (fun e => e + 1 = vN W3) := xx3.ox
      rw [← eN0]
      exact (o2.of_eq (fun i hi => (ag i hi).1)).app o3 (by omega)
    -- end
    have eD : vD W3 = vD V + 1 := bt3.2.2.2.1
    refine ⟨h8.r, k_want h8 (by omega) (sty (by omega)) (fun q => ?_) (fun q => oc6_f (by omega) (h8.cf (by omega)) (ff (s8.tr c_fl_sm) (T6.fa (fun si s0 s d' P hME hd' he hP => w211_14 (hME.needW0 (by omega) tw_end (sty (by omega)) q (fun s2 e2 => ?_))))))⟩
    · have hlt := tk_is_lt h8.2.1.2.1 h8.le.1 q
      have h9 := h8.at (k := vA W3 + 1) (by omega)
      refine ⟨h9.r, h9.r, fun c10 e10 => ?_⟩
      rw [h9.2.2.1.2.2.2.1, show vD (v_at W3 (vA W3 + 1)) = vD V + 1 from eD, am_w_in (by omega) (by omega), show ((vD V + 1 : Nat) : Int) - 1 = (vD V : Int) by omega] at e10
      have h10 : CE c10 pl b n K R (v_deep (v_at W3 (vA W3 + 1)) (vD V)) := by rw [e10]; exact h9.deep (by omega)
      have s10 : c_sm (eW pl R) c c10 := s8.tr (by rw [e10]; exact (c_sm.u _ (by unfold eW; omega) _ _).tr (c_sm.u _ (by unfold eW; omega) _ _))
      have T7 : mTo b n K R B V (v_deep (v_at W3 (vA W3 + 1)) (vD V)) md_one (fun d' s P => md_make d' 18 v2 v3 v4 (tk_p b n (vA V) : Int) (tk_p b n (vA V) : Int) s (fun v1 s3 => mw (d' + 1) 211 (am_blk 211 23) [159, (tk_p b n (vA V) : Int), v1, v2, v3, v4] [] s3 P)) := by
        refine T6.go (fun si s0 s d' P hME hd' hP => w211_14 (hME.needW1 (by omega) tw_end (sty (by omega)) q (fun s2 e2 => ?_)))
        have hMEa := hME.at (k := vA W3 + 1) (by omega)
        rw [hMEa.2.1.2.2.2.1, show vD (v_at W3 (vA W3 + 1)) = vD V + 1 from eD, am_w_in (by omega) (by omega), show ((vD V + 1 : Nat) : Int) - 1 = (vD V : Int) by omega] at e2
        exact hP s2 (by rw [e2]; exact hMEa.deep (by omega)) (by rw [e2]; exact (eF.u (by omega)).tr (eF.u (by omega)))
      refine ⟨h10.r, k_node h10 (by omega) (by omega) (fun hN c11 z s11 h11 => kk _ _ (s10.tr s11) (Or.inl ⟨_, h11, ⟨(bt3.at (by omega) (by omega)).fin (x_p_3 ?_ ?_ ?_) (by show (23 : Int) < 25; omega) (by show (23 : Int) ≠ 3; omega) rfl (by omega) (by omega) (ox.add (fun e he h1 h2 => ?_)), hbs⟩, rfl, fun si s D P hME hD hP => ?_⟩)) (fun hN => kk _ _ (s10.tr c_fl_sm) (mFa.rP (f := 7) (p := (tk_p b n (vA V) : Int)) ?_ (h10.cf (by omega))))⟩
      · show (vN V : Int) ≤ v2 ∧ v2 < (vN W3 : Int); omega
      · show (vN V : Int) ≤ v3 ∧ v3 < (vN W3 : Int); omega
      · show (vN V : Int) ≤ v4 ∧ v4 < (vN W3 : Int); omega
      · rcases he with (he | he) | he
        · exact x_kid_a ⟨by show (4 : Int) ≤ 23; omega, by show (23 : Int) ≤ 24; omega⟩ (by show v2 = _; omega)
        · exact x_kid_b ⟨by show (4 : Int) ≤ 23; omega, by show (23 : Int) ≤ 24; omega, by show (23 : Int) ≠ 15; omega, by show (23 : Int) ≠ 16; omega⟩ (by show v3 = _; omega)
        · exact x_kid_c rfl (by show v4 = _; omega)
      · obtain ⟨d', rfl⟩ : ∃ d', D = d' + 1 := ⟨D - 1, by omega⟩
        exact T7 si s d' P hME (by omega) (fun s1 hME1 he1 => o_mk3 (act := 23) hME1 he1 (by omega) hN (Or.inl rfl) (by omega) hP)
      · exact T7.fa (fun si s0 s d' P hME hd' he hP => hME.full (by omega) hN (mo_23 hME.mf (he.tr eF.fl) hP))
    · have hf := hME.mf (f := 1) (p := (tk_p b n (vA W3) : Int))
      have hf2 : MF s2 1 (tk_p b n (vA W3)) := hf.fr (fun q h1 h2 => by rw [e2]; exact ms_u_f _ _ _ (by omega))
      exact hf2.make (by omega) (mo_23 hf2 (he.tr (eF.fl.tr (by rw [e2]; exact eF.u (by omega)))) hP)
  · exact fun si s d' P hME hd' hP => m1_case hME (by omega) hi (m1_deep0 hME (by omega) h12 hK (fun s3 hf3 he3 => hf3.needW (by omega) ⟨fun _ => mo_10 hf3 (by omega) he3 hP, fun w => absurd hf3.1 w⟩))
theorem o_span (hB : 9 ≤ B) (hB' : B' ≤ B) (hE : ∀ L', L = L' + 1 → rX bgE kplan_readExpression md_expr B' L') (h : CE c pl b n K R V) (hL : vD V + L = 12) (hd : B + 1 ≤ D) (hi : tk_is b n (vA V) (st_str (-40))) (kk : ∀ v c', c_sm (eW pl R) c c' → rP tk_bs md_one (B + 1) pl b n K R V v c' → Q v c') : kplan_readSpan D pl c Q := by
  obtain ⟨d, rfl⟩ : ∃ d', D = d' + 1 := ⟨D - 1, by omega⟩
  have hr := h.r
  have hl := h.le
  have ha := h.2.2.1.1
  have hK := tk_is_lt h.2.1.2.1 hl.1 hi
  have hbs : tk_bs b n (vA V) (vM V) := Or.inr (Or.inr (Or.inr (Or.inr (Or.inr (Or.inr (Or.inr (Or.inr (Or.inl hi))))))))
  refine u68_e ?_
  repeat refine ⟨hr, ?_⟩
  rw [ha]
  refine k_opens h (by omega) (fun h12 => ⟨fun _ => ?_, fun w => absurd (by omega : (1 : Int) ≠ 0) w⟩) (fun h12 => ⟨fun w => absurd rfl w, fun _ => kk 0 _ c_fl_sm (mFa.rP (f := 7) (p := (tk_p b n (vA V) : Int)) ?_ (h.cf (by omega)))⟩)
  · have h1 := h.deep (k := vD V + 1) (by omega)
    refine ⟨h1.r, h1.r, fun c2 e2 => ?_⟩
    rw [c_u_q (by omega), ha, am_w_s (by omega)] at e2
    have h2 : CE c2 pl b n K R (v_at (v_deep V (vD V + 1)) (vA V + 1)) := by rw [e2]; exact h1.at (k := vA V + 1) (by omega)
    have s2 : c_sm (eW pl R) c c2 := by rw [e2]; exact (c_sm.u c (by unfold eW; omega) _ _).tr (c_sm.u _ (by unfold eW; omega) _ _)
    have bt0 := bt.st (K := K) (V := V) hK
    obtain ⟨L', rfl⟩ : ∃ L', L = L' + 1 := ⟨L - 1, by omega⟩
    have T0 : mTo b n K R B V (v_at (v_deep V (vD V + 1)) (vA V + 1)) md_one (fun d' s P => md_needSign d' 40 s (fun _ s18 => ((s18 21 0) = 0 → mw (d' + 1) 211 (am_blk 211 17) [159, (tk_p b n (vA V) : Int), 0, 0, 0, 0] [0] s18 P) ∧ (¬ ((s18 21 0) = 0) → md_expr d' s18 (fun v13 s19 => mw (d' + 1) 211 (am_blk 211 17) [159, (tk_p b n (vA V) : Int), 0, 0, 0, 0] [v13] s19 P)))) := fun si s d' P hME hd' hP => m1_span hME (by omega) hi (m1_deep hME (by omega) h12 hK (fun s3 hME3 he3 => hP s3 hME3 he3))
    generalize hW0 : v_at (v_deep V (vD V + 1)) (vA V + 1) = W0 at h2 bt0 T0
    have ff : ∀ {c' : cs_S} {f p : Int}, c_sm (eW pl R) c c' → mFa b n K R B V md_one f p → ∀ c'', c_sm (eW pl R) c' c'' → CF c'' pl f p → Q 0 c'' := fun s' m c'' s'' hf => kk 0 _ (s'.tr s'') (m.rP hf)
    have exx : ∀ {N : Int → mN} {W : pV} {c' : cs_S} {Q' : Int → cs_S → Prop}, CE c' pl b n K R W → c_sm (eW pl R) c c' → bt K V W → mTo b n K R B V W md_one (fun d' s P => md_expr d' s (fun v s1 => N v d' s1 P)) → (∀ (v : Int) (W' : pV) (c'' : cs_S), CE c'' pl b n K R W' → c_sm (eW pl R) c c'' → bt K V W' → v = ((vN W' - 1 : Nat) : Int) → vN W < vN W' → eX K W W' → mTo b n K R B V W' md_one (N v) → Q' v c'') → (∀ (v : Int) (f p : Int) (c'' : cs_S), CF c'' pl f p → c_sm (eW pl R) c c'' → ((∀ (si : Nat) (s0 s : ms_S) (d' : Nat) (P : Int → ms_S → Prop) (v' : Int), MF s f p → B ≤ d' → eF si s0 s → (∀ v' s', MF s' f p → eF si s0 s' → P v' s') → N v' d' s P) → mFa b n K R B V md_one f p) → Q' v c'') → kplan_readExpression d pl c' Q' := by
      intro N W c' Q' hW sW btW T good bad
      refine hE L' rfl pl b n K R c' W d _ hW (by have := btW.2.2.2.1; omega) (by omega) (fun v c'' s'' hP => ?_)
      rcases hP with ⟨W', h3, ⟨x3, -⟩, ev, mg⟩ | ⟨f, p, hf, mf⟩
      · obtain ⟨b1, b2, b3⟩ := btW.ex x3
        exact good v W' c'' h3 (sW.tr s'') b1 ev b2 x3 (T.go (fun si s0 s d' P hME hd' hP => mg si s d' _ hME (by omega) (fun s' a1 a2 _ => hP s' a1 a2)))
      · exact bad v f p c'' hf (sW.tr s'') (fun k => T.fa (fun si s0 s d' P hME hd' he hP => mf si s d' _ hME (by omega) (fun v' s1 hf1 he1 => k si s0 s1 d' P v' hf1 hd' (he.tr he1) hP)))
    have hW2 : vN V ≤ vN W0 := bt0.1.2.1
    refine ⟨h2.r, k_want h2 (by omega) (sty (by omega)) (fun q => ?_) (fun q => os0_f (by omega) (h2.cf (by omega)) (ff (s2.tr c_fl_sm) (T0.fa (fun si s0 s d' P hME hd' he hP => hME.needS0 (by omega) ts_40 q ⟨fun _ => mo_17 hME.mf (by omega) (he.tr eF.fl) hP, fun w => absurd hME.mf.1 w⟩))))⟩
    have hlt := tk_is_lt h2.2.1.2.1 h2.le.1 q
    have h3 := h2.at (k := vA W0 + 1) (by omega)
    have s3 := s2.tr (c_sm.u (W := eW pl R) c2 (q := 122) (b := pl) (by unfold eW; omega) 0 ((vA W0 + 1 : Nat) : Int))
    have T1 : mTo b n K R B V (v_at W0 (vA W0 + 1)) md_one (fun d' s P => md_expr d' s (fun v s1 => mw (d' + 1) 211 (am_blk 211 17) [159, (tk_p b n (vA V) : Int), 0, 0, 0, 0] [v] s1 P)) := T0.go (fun si s0 s d' P hME hd' hP => hME.needS1 (by omega) ts_40 q ⟨fun w => absurd w (gd (hME.at (k := vA W0 + 1) (by omega))), fun _ => hP _ (hME.at (by omega)) (eF.u (by omega))⟩)
    refine ⟨h3.r, exx (N := fun v d' s1 P => mw (d' + 1) 211 (am_blk 211 17) [159, (tk_p b n (vA V) : Int), 0, 0, 0, 0] [v] s1 P) h3 s3 (bt0.at (by omega) (by omega)) T1 (fun v2 W1 c4 h4 s4 bt1 ev2 bn1 xx1 T2 => ?_) (fun v f p c4 hf s4 k => os1_f (by omega) hf (ff s4 (k (fun si s0 s d' P v' hf1 hd' he hP => mo_17 hf1 (by omega) he hP))))⟩
    refine ⟨h4.r, k_want h4 (by omega) (sty (by omega)) (fun q => ?_) (fun q => os2_f (by omega) (h4.cf (by omega)) (ff (s4.tr c_fl_sm) (T2.fa (fun si s0 s d' P hME hd' he hP => w211_17 (hME.needS0 (by omega) ts_44 q ⟨fun _ => mo_19 hME.mf (by omega) (he.tr eF.fl) hP, fun w => absurd hME.mf.1 w⟩)))))⟩
    have hlt := tk_is_lt h4.2.1.2.1 h4.le.1 q
    have h5 := h4.at (k := vA W1 + 1) (by omega)
    have s5 := s4.tr (c_sm.u (W := eW pl R) c4 (q := 122) (b := pl) (by unfold eW; omega) 0 ((vA W1 + 1 : Nat) : Int))
    have T3 : mTo b n K R B V (v_at W1 (vA W1 + 1)) md_one (fun d' s P => md_expr d' s (fun v s1 => mw (d' + 1) 211 (am_blk 211 19) [159, (tk_p b n (vA V) : Int), 0, v2, 0, 0] [v] s1 P)) := T2.go (fun si s0 s d' P hME hd' hP => w211_17 (hME.needS1 (by omega) ts_44 q ⟨fun w => absurd w (gd (hME.at (k := vA W1 + 1) (by omega))), fun _ => hP _ (hME.at (by omega)) (eF.u (by omega))⟩))
    refine ⟨h5.r, exx (N := fun v d' s1 P => mw (d' + 1) 211 (am_blk 211 19) [159, (tk_p b n (vA V) : Int), 0, v2, 0, 0] [v] s1 P) h5 s5 (bt1.at (by omega) (by omega)) T3 (fun v3 W3 c8 h8 s8 bt3 ev3 bn3 xx3 T6 => ?_) (fun v f p c6 hf s6 k => os3_f (by omega) hf (ff s6 (k (fun si s0 s d' P v' hf1 hd' he hP => mo_19 hf1 (by omega) he hP))))⟩
    have bn1 : vN W0 < vN W1 := bn1
    have bn3 : vN W1 < vN W3 := bn3
    have eN0 : vN W0 = vN V := by rw [← hW0]; rfl
    have ox : xo (vT W3) (vN V) (vN W3) (fun e => e + 1 = vN W1 ∨ e + 1 = vN W3) := by
      have o2 : xo (vT W3) (vN W0) (vN W3) (fun e => e + 1 = vN W1 ∨ e + 1 = vN W3) := xx1.ox2 xx3
      rw [← eN0]; exact o2
    have eD : vD W3 = vD V + 1 := bt3.2.2.2.1
    refine ⟨h8.r, k_want h8 (by omega) (sty (by omega)) (fun q => ?_) (fun q => os4_f (by omega) (h8.cf (by omega)) (ff (s8.tr c_fl_sm) (T6.fa (fun si s0 s d' P hME hd' he hP => w211_19 (hME.needS0 (by omega) ts_41 q (fun s2 e2 => ?_))))))⟩
    · have hlt := tk_is_lt h8.2.1.2.1 h8.le.1 q
      have h9 := h8.at (k := vA W3 + 1) (by omega)
      refine ⟨h9.r, h9.r, fun c10 e10 => ?_⟩
      rw [h9.2.2.1.2.2.2.1, show vD (v_at W3 (vA W3 + 1)) = vD V + 1 from eD, am_w_in (by omega) (by omega), show ((vD V + 1 : Nat) : Int) - 1 = (vD V : Int) by omega] at e10
      have h10 : CE c10 pl b n K R (v_deep (v_at W3 (vA W3 + 1)) (vD V)) := by rw [e10]; exact h9.deep (by omega)
      have s10 : c_sm (eW pl R) c c10 := s8.tr (by rw [e10]; exact (c_sm.u _ (by unfold eW; omega) _ _).tr (c_sm.u _ (by unfold eW; omega) _ _))
      have T7 : mTo b n K R B V (v_deep (v_at W3 (vA W3 + 1)) (vD V)) md_one (fun d' s P => md_make d' 19 v2 v3 (-1) (tk_p b n (vA V) : Int) (tk_p b n (vA V) : Int) s (fun v1 s3 => mw (d' + 1) 211 (am_blk 211 23) [159, (tk_p b n (vA V) : Int), v1, v2, v3, 0] [] s3 P)) := by
        refine T6.go (fun si s0 s d' P hME hd' hP => w211_19 (hME.needS1 (by omega) ts_41 q (fun s2 e2 => ?_)))
        have hMEa := hME.at (k := vA W3 + 1) (by omega)
        rw [hMEa.2.1.2.2.2.1, show vD (v_at W3 (vA W3 + 1)) = vD V + 1 from eD, am_w_in (by omega) (by omega), show ((vD V + 1 : Nat) : Int) - 1 = (vD V : Int) by omega] at e2
        exact hP s2 (by rw [e2]; exact hMEa.deep (by omega)) (by rw [e2]; exact (eF.u (by omega)).tr (eF.u (by omega)))
      refine ⟨h10.r, k_node h10 (by omega) (by omega) (fun hN c11 z s11 h11 => kk _ _ (s10.tr s11) (Or.inl ⟨_, h11, ⟨(bt3.at (by omega) (by omega)).fin (x_p_2 (Or.inr (Or.inr (Or.inr (Or.inr rfl)))) ?_ ?_) (by show (24 : Int) < 25; omega) (by show (24 : Int) ≠ 3; omega) rfl (by omega) (by omega) (ox.add (fun e he h1 h2 => ?_)), hbs⟩, rfl, fun si s D P hME hD hP => ?_⟩)) (fun hN => kk _ _ (s10.tr c_fl_sm) (mFa.rP (f := 7) (p := (tk_p b n (vA V) : Int)) ?_ (h10.cf (by omega))))⟩
      · show (vN V : Int) ≤ v2 ∧ v2 < (vN W3 : Int); omega
      · show (vN V : Int) ≤ v3 ∧ v3 < (vN W3 : Int); omega
      · rcases he with he | he
        · exact x_kid_a ⟨by show (4 : Int) ≤ 24; omega, by show (24 : Int) ≤ 24; omega⟩ (by show v2 = _; omega)
        · exact x_kid_b ⟨by show (4 : Int) ≤ 24; omega, by show (24 : Int) ≤ 24; omega, by show (24 : Int) ≠ 15; omega, by show (24 : Int) ≠ 16; omega⟩ (by show v3 = _; omega)
      · obtain ⟨d', rfl⟩ : ∃ d', D = d' + 1 := ⟨D - 1, by omega⟩
        exact T7 si s d' P hME (by omega) (fun s1 hME1 he1 => o_mk3 (act := 24) hME1 he1 (by omega) hN (Or.inr rfl) (by omega) hP)
      · exact T7.fa (fun si s0 s d' P hME hd' he hP => hME.full (by omega) hN (mo_23 hME.mf (he.tr eF.fl) hP))
    · have hf := hME.mf (f := 1) (p := (tk_p b n (vA W3) : Int))
      have hf2 : MF s2 1 (tk_p b n (vA W3)) := hf.fr (fun q h1 h2 => by rw [e2]; exact ms_u_f _ _ _ (by omega))
      exact hf2.make (by omega) (mo_23 hf2 (he.tr (eF.fl.tr (by rw [e2]; exact eF.u (by omega)))) hP)
  · exact fun si s d' P hME hd' hP => m1_span hME (by omega) hi (m1_deep0 hME (by omega) h12 hK (fun s3 hf3 he3 => hf3.needS (by omega) ⟨fun _ => mo_17 hf3 (by omega) he3 hP, fun w => absurd hf3.1 w⟩))
end
