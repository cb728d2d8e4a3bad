set_option maxRecDepth 100000
/-! readers: ONE, and all of EXPR -/
section
variable {L B B' D : Nat} {pl : Int} {b : Int → Int} {n K : Nat} {R : Int} {c : cs_S} {V : pV} {Q : Int → cs_S → Prop}
theorem mk_kind_ag {act : Int} (h : 25 ≤ act ∧ act ≤ 29) : mk_kind act 0 = act - 5 := by
  have : act = 25 ∨ act = 26 ∨ act = 27 ∨ act = 28 ∨ act = 29 := by omega
  rcases this with rfl | rfl | rfl | rfl | rfl <;> rfl
theorem o_agg (hB : 10 ≤ B) (hB' : B' + 1 ≤ B) (hE : ∀ L', L = L' + 1 → rX bgE kplan_readExpression md_expr B' L') (h : CE c pl b n K R V) (hL : vD V + L = 12) (hd : B + 1 ≤ D) (hi : tk_ag b n (vA V)) (kk : ∀ v c', c_sm (eW pl R) c c' → rP tk_bs md_one (B + 1) pl b n K R V v c' → Q v c') : kplan_readAggregate D pl c Q := by
  obtain ⟨d, rfl⟩ : ∃ d', D = d' + 1 := ⟨D - 1, by omega⟩
  have hr := h.r
  have hl := h.le
  have ha := h.2.2.1.1
  have hK : vA V < K := by rcases hi with q | q | q | q <;> exact tk_is_lt h.2.1.2.1 hl.1 q
  have hmay := h.2.2.1.2.2.2.2.2.2
  refine u69_e ?_
  repeat refine ⟨hr, ?_⟩
  rw [hmay]
  cases hm : vM V with
  | false =>
    refine ⟨fun w => absurd rfl w, fun _ => ?_⟩
    repeat refine ⟨hr, ?_⟩
    refine k_failTok h (by omega) (kk _ _ c_fl_sm (mFa.rP (f := 1) (p := (tk_p b n (vA V) : Int)) ?_ (h.cf (by omega))))
    intro si s d' P hME hd' hP
    refine m1_ag hME (by omega) hi ?_
    obtain ⟨e, rfl⟩ : ∃ e, d' = e + 1 := ⟨d' - 1, by omega⟩
    obtain ⟨m1, m2, m3⟩ := hME.2.2.2.2
    have fin : mw (e + 1) 216 (am_blk 216 1) [159, (tk_p b n (vA V) : Int), 0, 0] [] s (fun v1 s1 => mw (e + 1 + 1) 211 (am_blk 211 23) [159, (tk_p b n (vA V) : Int), v1, 0, 0, 0] [] s1 P) := w216_1 (hME.wrong (by omega) (mo_23 hME.mf eF.fl hP))
    refine w216_e ⟨fun _ => fin, fun w => ⟨fun w2 => ?_, fun _ => fin⟩⟩
    exfalso
    have := m3.mpr ⟨by omega, w2⟩
    rw [hm] at this
    cases this
  | true =>
    have hRn : R ≠ -1 := h.2.2.2.2.2 hm
    have hrd := h.2.2.2.2.1
    have hrd : c_r c R = 1009 ∧ c_v c 384 R 0 = R + 16 ∧ c_r c (R + 16) = 884 ∧ c_l c (R + 16) = 12 ∧ c_v c 133 pl 0 = R ∧ c_v c 383 R 0 = ((vG V).length : Int) ∧ (vG V).length ≤ 12 ∧ ∀ (k e : Nat), (vG V)[k]? = some e → c_v c 884 (R + 16) k = (e : Int) := by
      rcases hrd with q | q
      · exact absurd q hRn
      · exact q
    obtain ⟨d1, d2, d3, d4, d5, d6, d7, d8⟩ := hrd
    have hbs : tk_bs b n (vA V) (vM V) := Or.inr (Or.inr (Or.inr (Or.inr (Or.inr (Or.inr (Or.inr (Or.inr (Or.inr (Or.inr ⟨hi, hm⟩)))))))))
    refine ⟨fun _ => ⟨hr, ?_⟩, fun w => absurd (by omega : (1 : Int) ≠ 0) w⟩
    rw [d5, d6]
    -- told, in the model
    have tm : ((vG V).length = 12 ∨ ((vG V).length < 12 ∧ vD V = 12)) → mFa b n K R B V md_one 7 (tk_p b n (vA V) : Int) := by
      intro hc si s d' P hME hd' hP
      obtain ⟨e, rfl⟩ : ∃ e, d' = e + 1 := ⟨d' - 1, by omega⟩
      exact m1_ag hME (by omega) hi (ag_in0 hME hm (by omega) hK hc (fun s' hf' he' => mo_23 hf' he' hP))
    refine ⟨d1, fun w => ⟨hr, k_opens h (by omega) (fun h12 => ⟨fun _ => ?_, fun w => absurd (by omega : (1 : Int) ≠ 0) w⟩) (fun h12 => ⟨fun w => absurd rfl w, fun _ => kk 0 _ c_fl_sm (mFa.rP (tm (Or.inr ⟨by omega, h12⟩)) (h.cf (by omega)))⟩)⟩, fun w => ?_⟩
    · have hg12 : (vG V).length < 12 := by omega
      have h1 := h.deep (k := vD V + 1) (by omega)
      have s1 : c_sm (eW pl R) c (c_u c 125 pl 0 ((vD V + 1 : Nat) : Int)) := c_sm.u c (by unfold eW; omega) _ _
      have hr1 := h1.r
      obtain ⟨L', rfl⟩ : ∃ L', L = L' + 1 := ⟨L - 1, by omega⟩
      have ff : ∀ {c' : cs_S} {f p : Int}, c_sm (eW pl R) c c' → mFa b n K R B V md_one f p → ∀ c'', c_sm (eW pl R) c' c'' → CF c'' pl f p → Q 0 c'' := fun s' m c'' s'' hf => kk 0 _ (s'.tr s'') (m.rP hf)
      -- behind the word
      have b7 : ∀ (act x2 : Int), ((tk_is b n (vA V) (st_str (-20)) ∧ act = 26 ∧ x2 ≠ 0) ∨ (tk_is b n (vA V) (st_str (-22)) ∧ act = 27 ∧ x2 = 0) ∨ (tk_is b n (vA V) (st_str (-24)) ∧ act = 28 ∧ x2 = 0) ∨ (tk_is b n (vA V) (st_str (-26)) ∧ act = 29 ∧ x2 = 0)) → cw (d + 1) 69 (am_blk 69 7) [pl, (vA V : Int), x2, 0, 0, 0] [act] (c_u c 125 pl 0 ((vD V + 1 : Nat) : Int)) Q := by
        intro act x2 hax
        have hkd : (tk_is b n (vA V) (st_str (-20)) ∧ act - 5 = 21) ∨ (tk_is b n (vA V) (st_str (-22)) ∧ act - 5 = 22) ∨ (tk_is b n (vA V) (st_str (-24)) ∧ act - 5 = 23) ∨ (tk_is b n (vA V) (st_str (-26)) ∧ act - 5 = 24) := by
          rcases hax with q | q | q | q
          · exact Or.inl ⟨q.1, by omega⟩
          · exact Or.inr (Or.inl ⟨q.1, by omega⟩)
          · exact Or.inr (Or.inr (Or.inl ⟨q.1, by omega⟩))
          · exact Or.inr (Or.inr (Or.inr ⟨q.1, by omega⟩))
        have hact : 26 ≤ act ∧ act ≤ 29 := by rcases hax with q | q | q | q <;> omega
        have hx2 : (x2 ≠ 0 ∧ act - 5 = 21) ∨ (x2 = 0 ∧ act - 5 ≠ 21) := by rcases hax with q | q | q | q <;> omega
        clear hax
        -- the model up to there
        have F0 : ∀ (si : Nat) (s : ms_S) (e : Nat) (P : Int → ms_S → Prop), ME s b n K R si V → B ≤ e + 1 → (∀ s4, MA s s4 si V b n (vA V) → mw (e + 1) 216 (am_blk 216 8) [159, (tk_p b n (vA V) : Int), 0, 0] [act - 5] s4 (fun v1 s1 => mw (e + 1 + 1) 211 (am_blk 211 23) [159, (tk_p b n (vA V) : Int), v1, 0, 0, 0] [] s1 P)) → md_one (e + 1 + 1) s P := fun si s e P hME he hk => m1_ag hME (by omega) hi (ag_in hME hm (by omega) hg12 h12 (act - 5) hkd hk)
        refine u69_7 ⟨hr1, hr1, fun c2 e2 => ?_⟩
        rw [c_u_q (by omega), ha, am_w_s (by omega)] at e2
        have h2 : CE c2 pl b n K R (v_at (v_deep V (vD V + 1)) (vA V + 1)) := by rw [e2]; exact h1.at (k := vA V + 1) (by omega)
        have s2 : c_sm (eW pl R) c c2 := s1.tr (by rw [e2]; exact c_sm.u _ (by unfold eW; omega) _ _)
        refine ⟨h2.r, k_want h2 (by omega) (sty (by omega)) (fun qp => ?_) (fun qp => ?_)⟩
        · -- the bracket
          have hK1 : vA V + 1 < K := tk_is_lt h2.2.1.2.1 h2.le.1 qp
          rw [show vA (v_at (v_deep V (vD V + 1)) (vA V + 1)) + 1 = vA V + 1 + 1 from rfl]
          have h3 : CE (c_u c2 122 pl 0 ((vA V + 1 + 1 : Nat) : Int)) pl b n K R (v_at (v_deep V (vD V + 1)) (vA V + 1 + 1)) := h2.at (k := vA V + 1 + 1) (by omega)
          have s3 : c_sm (eW pl R) c (c_u c2 122 pl 0 ((vA V + 1 + 1 : Nat) : Int)) := s2.tr (c_sm.u _ (by unfold eW; omega) _ _)
          refine ⟨h3.r, fun c4 e4 => ?_⟩
          have h4 : CE c4 pl b n K R (v_may (v_at (v_deep V (vD V + 1)) (vA V + 1 + 1)) false) := by rw [e4]; exact h3.may rfl (fun q => by cases q)
          have s4 : c_sm (eW pl R) c c4 := s3.tr (by rw [e4]; exact c_sm.u _ (by unfold eW; omega) _ _)
          have F1 : ∀ (si : Nat) (s : ms_S) (e : Nat) (P : Int → ms_S → Prop), ME s b n K R si V → B ≤ e + 1 → (∀ s2, MA s s2 si V b n (vA V + 1 + 1) → ((act - 5) ≠ 21 → mw (e + 1) 216 (am_blk 216 9) [159, (tk_p b n (vA V) : Int), act - 5, (-1)] [] s2 (fun v1 s1 => mw (e + 1 + 1) 211 (am_blk 211 23) [159, (tk_p b n (vA V) : Int), v1, 0, 0, 0] [] s1 P)) ∧ (¬ ((act - 5) ≠ 21) → md_takeSign e 42 s2 (fun v1 s3 => (v1 = 0 → mw (e + 1) 216 (am_blk 216 9) [159, (tk_p b n (vA V) : Int), act - 5, (-1)] [] s3 (fun v1 s1 => mw (e + 1 + 1) 211 (am_blk 211 23) [159, (tk_p b n (vA V) : Int), v1, 0, 0, 0] [] s1 P)) ∧ (¬ (v1 = 0) → mw (e + 1) 216 (am_blk 216 12) [159, (tk_p b n (vA V) : Int), 20, (-1)] [] s3 (fun v1 s1 => mw (e + 1 + 1) 211 (am_blk 211 23) [159, (tk_p b n (vA V) : Int), v1, 0, 0, 0] [] s1 P))))) → md_one (e + 1 + 1) s P := by
            intro si s e P hME he hk
            refine F0 si s e P hME he (fun s4 hMA => w216_8 (fun s5 e5 => ?_))
            have hsl := hME.le
            rw [hMA.2.1, am_w_s (by omega)] at e5
            have hMA5 : MA s s5 si V b n (vA V + 1) := by rw [e5]; exact hMA.at
            obtain ⟨t1, t2⟩ := hMA5.tk hME
            obtain ⟨e', rfl⟩ : ∃ e', e = e' + 2 := ⟨e - 2, by omega⟩
            exact k_mneedSign t1 hMA5.2.1 (by omega) t2 (fun _ => hk _ hMA5.at) (fun q => absurd (ts_40.mp qp) q)
          -- what it is of
          have b9 : ∀ (W : pV) (act' a : Int) (c5 : cs_S) (x5 : Int), CE c5 pl b n K R W → c_sm (eW pl R) c c5 → eY K (vN V) V W → vA V < vA W → vD W = vD V + 1 → vS W = vS V → vM W = false → vG W = vG V → xo (vT W) (vN V) (vN W) (fun e => 26 ≤ act' ∧ act' ≤ 29 ∧ a = (e : Int)) → (act' = 25 ∨ (26 ≤ act' ∧ act' ≤ 29 ∧ ∃ l x : Nat, a = x ∧ vN V ≤ l ∧ x < vN W ∧ x_na (vT W) K l x)) → (∀ (si : Nat) (s : ms_S) (e : Nat) (P : Int → ms_S → Prop), ME s b n K R si V → B ≤ e + 1 → (∀ s2, MZ s s2 b n K si V W (vA W) → mw (e + 1) 216 (am_blk 216 12) [159, (tk_p b n (vA V) : Int), mk_kind act' 0, a] [] s2 (fun v1 s1 => mw (e + 1 + 1) 211 (am_blk 211 23) [159, (tk_p b n (vA V) : Int), v1, 0, 0, 0] [] s1 P)) → md_one (e + 1 + 1) s P) → cw (d + 1) 69 (am_blk 69 9) [pl, (vA V : Int), x2, act', a, x5] [] c5 Q := by
            intro W act' a c5 x5 h5 s5 yW hAW hDW hSW hMW hGW hox ha' F2
            have hWl := h5.le
            refine u69_9 ⟨h5.r, fun c6 e6 => ?_⟩
            have h6 : CE c6 pl b n K R (v_may W true) := by rw [e6]; exact h5.may rfl (fun _ => hRn)
            have s6 : c_sm (eW pl R) c c6 := s5.tr (by rw [e6]; exact c_sm.u _ (by unfold eW; omega) _ _)
            refine ⟨h6.r, k_want h6 (by omega) (sty (by omega)) (fun qc => ?_) (fun qc => ?_)⟩
            · have hKc : vA W < K := tk_is_lt h6.2.1.2.1 h6.le.1 qc
              have h7 := h6.at (k := vA W + 1) (by omega)
              refine ⟨h7.r, h7.r, fun c8 e8 => ?_⟩
              rw [show vA (v_may W true) + 1 = vA W + 1 from rfl] at e8
              rw [h7.2.2.1.2.2.2.1, show vD (v_at (v_may W true) (vA W + 1)) = vD V + 1 from hDW, am_w_in (by omega) (by omega), show ((vD V + 1 : Nat) : Int) - 1 = (vD V : Int) by omega] at e8
              have h8 : CE c8 pl b n K R (v_deep (v_at (v_may W true) (vA W + 1)) (vD V)) := by rw [e8]; exact h7.deep (by omega)
              have s8 : c_sm (eW pl R) c c8 := s6.tr (by rw [e8]; exact (c_sm.u _ (by unfold eW; omega) _ _).tr (c_sm.u _ (by unfold eW; omega) _ _))
              have y8 : eY K (vN V) V (v_deep (v_at (v_may W true) (vA W + 1)) (vD V)) := ((yW.tr (eY.may W)).tr (eY.at _ (by show vA W ≤ vA W + 1; omega))).tr (eY.deep _)
              refine ⟨h8.r, k_node h8 (by omega) (by omega) (fun hN c9 z s9 h9 => ?_) (fun hN => ?_)⟩
              · have hN : vN W < 120 := hN
                have hr9 := h9.r
                refine ⟨hr9, k_good1 hr9 h9.2.2.1.2.2.1 ⟨fun w => absurd w (by omega), fun _ => ⟨hr9, ?_⟩⟩⟩
                have hrd9 := h9.2.2.2.2.1
                rcases hrd9 with q | ⟨f1, f2, f3, f4, f5, f6, f7, f8⟩
                · exact absurd q hRn
                have eG : vG (v_add (v_deep (v_at (v_may W true) (vA W + 1)) (vD V)) (act', a, -1, -1, -1, z) (vA V) (vA V)) = vG W := rfl
                rw [eG] at f6 f7
                have hglt : (vG W).length < 12 := by rw [hGW]; exact hg12
                rw [f5, f2, f3, f4, f6]
                refine ⟨f1, hr9, f1, rfl, by omega, by omega, fun c10 e10 => ?_⟩
                have r5 : c_v c10 133 pl 0 = R := by rw [e10, c_u_q (by omega)]; exact f5
                have r6 : c_v c10 383 R 0 = ((vG W).length : Int) := by rw [e10, c_u_q (by omega)]; exact f6
                rw [r5, r6]
                refine ⟨by rw [e10]; exact hr9, by rw [e10]; exact f1, by rw [e10]; exact f1, fun c11 e11 => u69_10 (kk _ _ ((s8.tr s9).tr (by rw [e11, e10]; exact (c_sm.u _ (by unfold eW; omega) _ _).tr (c_sm.u _ (by unfold eW; omega) _ _))) (Or.inl ⟨_, ?_, ⟨eX.ag (W := v_deep (v_at (v_may W true) (vA W + 1)) (vD V)) y8 (by show vA V < vA W + 1; omega) (by show vA W + 1 ≤ K; omega) rfl hSW rfl hm (x_p_ag (z := z) ha') (by show (25 : Int) ≤ act'; rcases ha' with q | q <;> omega) rfl (tok := vA V) (beg := vA V) (by omega) (by omega) (xo.add (T := vT W) (hi := vN W) hox (fun e he h1 h2 => x_kid_g ⟨he.1, he.2.1⟩ he.2.2)), hbs⟩, rfl, fun si s D P hME hD hP => ?_⟩))⟩
                · have := h9.ag (e := vN W) hRn (by rw [eG]; exact hglt)
                  rw [eG] at this
                  rw [e11, e10, am_w_s (by omega)]
                  exact this
                · obtain ⟨e, rfl⟩ : ∃ e, D = e + 1 + 1 := ⟨D - 2, by omega⟩
                  refine F2 si s e P hME (by omega) (fun s2 hMZ => hMZ.ends (x3 := 0) (act := act') (z := z) (R := R) (by omega) hKc (ts_41.mp qc) hN (by omega) hm rfl (by rcases ha' with q | q <;> omega) hGW (fun i hi => ?_) hSW (fun s' hME' he' => me_23 hME' he' hP))
                  obtain ⟨a1, a2, a3, a4, a5⟩ := hME.2.2.2.1 hm
                  have := a5 i hi
                  exact ⟨by have := yW.2.1; omega, (yW.2.2.1 i this).2⟩
              · have hN : vN W = 120 := hN
                have hf := h8.cf (x := 7) (y := (tk_p b n (vA V) : Int)) (by omega)
                refine ⟨hf.1, k_good0 hf.1 hf.nz ⟨fun _ => u69_10 (kk _ _ (s8.tr c_fl_sm) (mFa.rP (f := 7) (p := (tk_p b n (vA V) : Int)) ?_ hf)), fun w => absurd rfl w⟩⟩
                intro si s d' P hME hd' hP
                obtain ⟨e, rfl⟩ : ∃ e, d' = e + 1 := ⟨d' - 1, by omega⟩
                exact F2 si s e P hME (by omega) (fun s2 hMZ => hMZ.ends0 (x3 := 0) (by omega) (by omega) (Or.inr ⟨ts_41.mp qc, hKc, hN, rfl, rfl⟩) (fun s' hf' he' => mo_23 hf' he' hP))
            · have hf := h6.cf (x := 1) (y := (tk_p b n (vA W) : Int)) (by omega)
              refine ⟨hf.1, hf.1, fun c8 e8 => ?_⟩
              have hf8 : CF c8 pl 1 (tk_p b n (vA W)) := by rw [e8]; exact hf.deep
              refine ⟨hf8.1, k_node0 hf8 (by omega) ⟨hf8.1, k_good0 hf8.1 hf8.nz ⟨fun _ => u69_10 (kk _ _ (s6.tr (by rw [e8]; exact c_fl_sm.tr (c_sm.u _ (by unfold eW; omega) _ _))) (mFa.rP (f := 1) (p := (tk_p b n (vA W) : Int)) ?_ hf8)), fun w => absurd rfl w⟩⟩⟩
              intro si s d' P hME hd' hP
              obtain ⟨e, rfl⟩ : ∃ e, d' = e + 1 := ⟨d' - 1, by omega⟩
              exact F2 si s e P hME (by omega) (fun s2 hMZ => hMZ.ends0 (x3 := 0) (by omega) (by omega) (Or.inl ⟨fun q => qc (ts_41.mpr q), rfl, rfl⟩) (fun s' hf' he' => mo_23 hf' he' hP))
          -- an expression
          have b8 : (∀ (si : Nat) (s : ms_S) (e : Nat) (P : Int → ms_S → Prop), ME s b n K R si V → B ≤ e + 1 → (∀ s2, MA s s2 si V b n (vA V + 1 + 1) → mw (e + 1) 216 (am_blk 216 9) [159, (tk_p b n (vA V) : Int), act - 5, (-1)] [] s2 (fun v1 s1 => mw (e + 1 + 1) 211 (am_blk 211 23) [159, (tk_p b n (vA V) : Int), v1, 0, 0, 0] [] s1 P)) → md_one (e + 1 + 1) s P) → ∀ x5 : Int, cw (d + 1) 69 (am_blk 69 8) [pl, (vA V : Int), x2, act, (-1), x5] [] c4 Q := by
            intro F2 x5
            refine u69_8 ⟨h4.r, hE L' rfl pl b n K R c4 _ d _ h4 (by show vD V + 1 + L' = 12; omega) (by omega) (fun v c5 s5 hP => ?_)⟩
            rcases hP with ⟨W, h5, ⟨x5', -⟩, ev, mg⟩ | ⟨f, p, hf, mf⟩
            · have oxx := x5'.ox
              have na := x5'.na rfl
              obtain ⟨e1, e2, e3, e4, e5, e6, e7, e8, -⟩ := x5'
              have e1 : eY K (vN V) (v_may (v_at (v_deep V (vD V + 1)) (vA V + 1 + 1)) false) W := e1
              have e2 : vA V + 1 + 1 < vA W := e2
              have e4 : vN V < vN W := e4
              have na : x_na (vT W) K (vN V) (vN W - 1) := na
              rw [ev]
              refine b9 W act ((vN W - 1 : Nat) : Int) c5 x5 h5 (s4.tr s5) ((((eY.deep V).tr (eY.at _ (by show vA V ≤ vA V + 1 + 1; omega))).tr (eY.may _)).tr e1) (by omega) e5 e6 e7 (e8 rfl) ((show xo (vT W) (vN V) (vN W) (fun e => e + 1 = vN W) from oxx).mono (fun e he => ⟨hact.1, hact.2, by omega⟩)) (Or.inr ⟨hact.1, hact.2, vN V, vN W - 1, rfl, Nat.le_refl _, by omega, na⟩) (fun si s e P hME he hk => ?_)
              refine F2 si s e P hME he (fun s2 hMA => w216_9 (fun s3 e3' => ?_))
              have hME3 : ME s3 b n K R 100 (v_may (v_at (v_deep V (vD V + 1)) (vA V + 1 + 1)) false) := by rw [e3']; exact hMA.me hME hm (by omega) h12
              refine ⟨fun w => absurd w (gd hME3), fun _ => mg 100 s3 e _ hME3 (by omega) (fun s4 hME4 he4 _ => w216_11 (fun s5 e5' => ?_))⟩
              rw [ev, ← mk_kind_ag (by omega)]
              exact hk s5 (MZ.of hMA hME hm hME4 (by rw [← e3']; exact he4) e5' e5 e6)
            · refine og9_f (by omega) hf (ff (s4.tr s5) ?_)
              intro si s d' P hME hd' hP
              obtain ⟨e, rfl⟩ : ∃ e, d' = e + 1 := ⟨d' - 1, by omega⟩
              refine F2 si s e P hME (by omega) (fun s2 hMA => w216_9 (fun s3 e3' => ?_))
              have hME3 : ME s3 b n K R 100 (v_may (v_at (v_deep V (vD V + 1)) (vA V + 1 + 1)) false) := by rw [e3']; exact hMA.me hME hm (by omega) h12
              have h73 : s2 73 0 = 0 := by rw [hMA.1 _ _ (by omega) (by omega) (by omega)]; exact (hME.2.2.2.2.2.2.mp hm).2
              refine ⟨fun w => absurd w (gd hME3), fun _ => mf 100 s3 e _ hME3 (by omega) (fun v' s4 hf4 he4 => w216_11 (fun s5 e5' => ?_))⟩
              have hf5 : MF s5 f p := hf4.fr (fun q h1 h2 => by rw [e5']; exact ms_u_f _ _ _ (by omega))
              refine ag_f12 (by omega) hf5 (fun s6 hf6 e6 => mo_23 hf6 (hMA.eF.tr (fun q j hq => ?_)) hP)
              have hsi : si < 60 := (hME.2.2.2.1 hm).2.1
              rw [e6 q j (by omega) (by omega), e5']
              by_cases c73 : q = 73
              · subst c73
                by_cases cj : j = 0
                · subst cj; rw [ms_u_eq]; exact h73.symm
                · rw [ms_u_i _ cj, he4 _ _ (by omega), e3', ms_u_i _ cj]
              · rw [ms_u_f _ _ _ c73, he4 q j (by omega), e3', ms_u_f _ _ _ c73]
          rcases hx2 with ⟨hx, hk⟩ | ⟨hx, hk⟩
          · -- count
            refine ⟨fun w => absurd w hx, fun _ => ⟨h4.r, k_eats h4 (by omega) (sty (by omega)) (fun qs => ⟨fun w => absurd w (by omega), fun _ => ?_⟩) (fun qs => ⟨fun _ => b8 (fun si s e P hME he hk2 => ?_) _, fun w => absurd rfl w⟩)⟩⟩
            · have hKs : vA V + 1 + 1 < K := tk_is_lt h4.2.1.2.1 h4.le.1 qs
              have h5 := h4.at (k := vA V + 1 + 1 + 1) (by omega)
              refine b9 (v_at (v_may (v_at (v_deep V (vD V + 1)) (vA V + 1 + 1)) false) (vA V + 1 + 1 + 1)) 25 (-1) _ 0 h5 (s4.tr (c_sm.u _ (by unfold eW; omega) _ _)) ((((eY.deep V).tr (eY.at _ (by show vA V ≤ vA V + 1 + 1; omega))).tr (eY.may _)).tr (eY.at _ (by show vA V + 1 + 1 ≤ vA V + 1 + 1 + 1; omega))) (by show vA V < vA V + 1 + 1 + 1; omega) rfl rfl rfl rfl (xo.nil _ _ _) (Or.inl rfl) (fun si s e P hME he hk2 => ?_)
              refine F1 si s e P hME he (fun s2 hMA => ⟨fun w => absurd hk w, fun _ => ?_⟩)
              obtain ⟨t1, t2⟩ := hMA.tk hME
              obtain ⟨e', rfl⟩ : ∃ e', e = e' + 1 := ⟨e - 1, by omega⟩
              refine k_mtakeSign t1 hMA.2.1 (by omega) t2 (fun _ => ⟨fun w => absurd w (by omega), fun _ => ?_⟩) (fun q => absurd (ts_42.mp qs) q)
              exact hk2 _ ((hMA.at (k' := vA V + 1 + 1 + 1)).mz hME hm rfl)
            · refine F1 si s e P hME he (fun s2 hMA => ⟨fun w => absurd hk w, fun _ => ?_⟩)
              obtain ⟨t1, t2⟩ := hMA.tk hME
              obtain ⟨e', rfl⟩ : ∃ e', e = e' + 1 := ⟨e - 1, by omega⟩
              exact k_mtakeSign t1 hMA.2.1 (by omega) t2 (fun q => absurd (ts_42.mpr q) qs) (fun _ => ⟨fun _ => hk2 s2 hMA, fun w => absurd rfl w⟩)
          · refine ⟨fun _ => b8 (fun si s e P hME he hk2 => F1 si s e P hME he (fun s2 hMA => ⟨fun _ => hk2 s2 hMA, fun w => absurd hk w⟩)) _, fun w => absurd hx w⟩
        · -- no bracket
          have hf := h2.cf (x := 1) (y := (tk_p b n (vA V + 1) : Int)) (by omega)
          have mfa : mFa b n K R B V md_one 1 (tk_p b n (vA V + 1) : Int) := by
            intro si s d' P hME hd' hP
            obtain ⟨e, rfl⟩ : ∃ e, d' = e + 1 := ⟨d' - 1, by omega⟩
            refine F0 si s e P hME (by omega) (fun s4 hMA => w216_8 (fun s5 e5 => ?_))
            have hsl := hME.le
            rw [hMA.2.1, am_w_s (by omega)] at e5
            have hMA5 : MA s s5 si V b n (vA V + 1) := by rw [e5]; exact hMA.at
            obtain ⟨t1, t2⟩ := hMA5.tk hME
            obtain ⟨e', rfl⟩ : ∃ e', e = e' + 2 := ⟨e - 2, by omega⟩
            have h73 : s5 73 0 = 0 := by rw [hMA5.1 _ _ (by omega) (by omega) (by omega)]; exact (hME.2.2.2.2.2.2.mp hm).2
            have hf6 : MF (m_fl s5 1 (tk_p b n (vA V + 1))) 1 (tk_p b n (vA V + 1)) := m_fl_MF (by rw [hMA5.2.1]; omega) (by rw [hMA5.2.1]; omega)
            have nx : ∀ z x : Int, mw (e' + 2 + 1) 216 (am_blk 216 9) [159, (tk_p b n (vA V) : Int), z, x] [] (m_fl s5 1 (tk_p b n (vA V + 1))) (fun v1 s1 => mw (e' + 2 + 1 + 1) 211 (am_blk 211 23) [159, (tk_p b n (vA V) : Int), v1, 0, 0, 0] [] s1 P) := fun z x => ag_f9 (by omega) hf6 (by rw [m_fl_f (by omega) (by omega) (by omega)]; exact h73) (fun s' hf' e' => mo_23 hf' (hMA5.eF.tr (eF.fl.tr (fun q j hq => e' q j (by omega) (by omega)))) hP)
            exact k_mneedSign t1 hMA5.2.1 (by omega) t2 (fun q => absurd (ts_40.mpr q) qp) (fun _ => ⟨fun _ => nx _ _, fun _ => hf6.takeS (by omega) ⟨fun _ => nx _ _, fun w => absurd rfl w⟩⟩)
          refine ⟨hf.1, fun c4 e4 => ?_⟩
          have hf4 : CF c4 pl 1 (tk_p b n (vA V + 1)) := by rw [e4]; exact hf.may
          have s4 : c_sm (eW pl R) c c4 := s2.tr (by rw [e4]; exact c_fl_sm.tr (c_sm.u _ (by unfold eW; omega) _ _))
          exact ⟨fun _ => og8_f (by omega) hf4 (ff s4 mfa), fun _ => ⟨hf4.1, k_eats0 hf4 (by omega) ⟨fun _ => og8_f (by omega) hf4 (ff s4 mfa), fun w => absurd rfl w⟩⟩⟩
      refine ⟨hr1, ?_⟩
      rw [ha]
      refine k_is h1 (by omega) (sty (by omega)) (fun q => ⟨fun w => absurd w (by omega), fun _ => b7 26 1 (Or.inl ⟨q, rfl, by omega⟩)⟩) (fun q1 => ⟨fun _ => ⟨hr1, ?_⟩, fun w => absurd rfl w⟩)
      refine k_is h1 (by omega) (sty (by omega)) (fun q => ⟨fun w => absurd w (by omega), fun _ => b7 27 0 (Or.inr (Or.inl ⟨q, rfl, rfl⟩))⟩) (fun q2 => ⟨fun _ => ⟨hr1, ?_⟩, fun w => absurd rfl w⟩)
      refine k_is h1 (by omega) (sty (by omega)) (fun q => ⟨fun w => absurd w (by omega), fun _ => b7 28 0 (Or.inr (Or.inr (Or.inl ⟨q, rfl, rfl⟩)))⟩) (fun q3 => ⟨fun _ => b7 29 0 (Or.inr (Or.inr (Or.inr ⟨?_, rfl, rfl⟩))), fun w => absurd rfl w⟩)
      rcases hi with q | q | q | q
      · exact absurd q q1
      · exact absurd q q2
      · exact absurd q q3
      · exact q
    · repeat refine ⟨hr, ?_⟩
      rw [h.t.1, ha]
      exact ⟨h.t.2, k_tplace h.2.1 hl.1 ⟨hr, k_fail hr h.2.2.1.2.2.1 (kk _ _ c_fl_sm (mFa.rP (tm (Or.inl (by omega))) (h.cf (by omega))))⟩⟩
end
