set_option maxRecDepth 100000
/-! readers: TEST -/
section
variable {B L : Nat}
theorem r_test (hB : 8 ≤ B) (hS : rX tk_bs kplan_readSum md_sum B L) : rX tk_bs kplan_readTest md_test (B + 1) L := by
  intro pl b n K R c V D Q h hL hD kk
  obtain ⟨d, rfl⟩ : ∃ d', D = d' + 1 := ⟨D - 1, by omega⟩
  have hr := h.r
  have hl := h.le
  have ha := h.2.2.1.1
  refine u59_e ?_
  repeat refine ⟨hr, ?_⟩
  rw [ha]
  refine hS pl b n K R c V d _ h hL (by omega) (fun v c1 s1 hP => ?_)
  rcases hP with ⟨V1, h1, ⟨hx, hbg⟩, ev, mg⟩ | ⟨f, p, hf, mf⟩
  · have hr1 := h1.r
    have hl1 := h1.le
    have ha1 := h1.2.2.1.1
    have hx1 := hx.2.1
    have hx3 := hx.2.2.1
    have hxd := hx.2.2.2.2.1
    repeat refine ⟨hr1, ?_⟩
    rw [ha1]
    -- the model up to there
    have mod : ∀ (si : Nat) (s : ms_S) (d' : Nat) (P : Int → ms_S → Prop), ME s b n K R si V → B ≤ d' → (∀ (s1 : ms_S), ME s1 b n K R si V1 → eF si s s1 → ((∃ act, op_cmp b n (vA V1) act) → mw (d' + 1) 206 (am_blk 206 1) [159, v, (tk_p b n (vA V) : Int), (tk_p b n (vA V1) : Int), tk_s b n (vA V1), 0, 0, 0, 0, 0, 0] [] s1 P) ∧ ((∀ act, ¬ op_cmp b n (vA V1) act) → mw (d' + 1) 206 (am_blk 206 2) [159, v, (tk_p b n (vA V) : Int), (tk_p b n (vA V1) : Int), tk_s b n (vA V1), 0, 0, 0, 0, 0, 0] [] s1 P)) → md_test (d' + 1) s P := by
      intro si s d' P hME hd' hk
      refine w206_e (mg si s d' _ hME hd' (fun s1 hME1 he1 hsp => ?_))
      have hsl := hME1.le
      obtain ⟨hk1, hk2⟩ := hk s1 hME1 he1
      rw [hsp, hME1.pl, hME1.so]
      have e18 := hME1.2.1.1
      have no : ¬ (tk_s b n (vA V1) = 61 ∨ tk_s b n (vA V1) = 400 ∨ tk_s b n (vA V1) = 60 ∨ tk_s b n (vA V1) = 401 ∨ tk_s b n (vA V1) = 62 ∨ tk_s b n (vA V1) = 402) → ∀ act, ¬ op_cmp b n (vA V1) act := fun q act ho => q (op_cmp_i.mp ⟨act, ho⟩)
      refine ⟨by omega, by omega, by omega, by omega, fun w => absurd (hME1.2.1.2.2.1.symm.trans w) (by decide), fun _ => ⟨fun q => hk1 (op_cmp_i.mpr (Or.inl q)), fun q1 => ⟨fun q => hk1 (op_cmp_i.mpr (Or.inr (Or.inl q))), fun q2 => ⟨fun q => hk1 (op_cmp_i.mpr (Or.inr (Or.inr (Or.inl q)))), fun q3 => ⟨fun q => hk1 (op_cmp_i.mpr (Or.inr (Or.inr (Or.inr (Or.inl q))))), fun q4 => ⟨fun q => hk1 (op_cmp_i.mpr (Or.inr (Or.inr (Or.inr (Or.inr (Or.inl q)))))), fun q5 => ⟨fun q => hk2 (no (by omega)), fun q => hk1 (op_cmp_i.mpr (Or.inr (Or.inr (Or.inr (Or.inr (Or.inr (Classical.not_not.mp q)))))))⟩⟩⟩⟩⟩⟩⟩
    -- behind a node of the model
    have e14 : ∀ (si : Nat) (s0 s' : ms_S) (d' : Nat) (P : Int → ms_S → Prop) (V' : pV) (x3 x4 x5 x6 x7 x8 x9 x10 : Int), ME s' b n K R si V' → eF si s0 s' → (∀ s', ME s' b n K R si V' → eF si s0 s' → s' 74 0 = (tk_p b n (vA V) : Int) → P ((vN V' - 1 : Nat) : Int) s') → mw (d' + 1) 206 (am_blk 206 14) [159, ((vN V' - 1 : Nat) : Int), (tk_p b n (vA V) : Int), x3, x4, x5, x6, x7, x8, x9, x10] [] s' P := by
      intro si s0 s' d' P V' x3 x4 x5 x6 x7 x8 x9 x10 hME' he' hP
      refine w206_14 (fun s6 e6 => ?_)
      rw [e6]
      exact hP _ hME'.sp (he'.tr (eF.u (by omega))) (ms_u_eq _ _ _ _)
    have f14 : ∀ (si : Nat) (s0 s' : ms_S) (d' : Nat) (P : Int → ms_S → Prop) (f p : Int) (x1 x2 x3 x4 x5 x6 x7 x8 x9 x10 : Int), MF s' f p → eF si s0 s' → (∀ v' s', MF s' f p → eF si s0 s' → P v' s') → mw (d' + 1) 206 (am_blk 206 14) [159, x1, x2, x3, x4, x5, x6, x7, x8, x9, x10] [] s' P := by
      intro si s0 s' d' P f p x1 x2 x3 x4 x5 x6 x7 x8 x9 x10 hf he' hP
      refine w206_14 (fun s6 e6 => ?_)
      rw [e6]
      exact hP _ _ (hf.fr (fun q h1 h2 => ms_u_f _ _ _ (by omega))) (he'.tr (eF.u (by omega)))
    refine k_comp h1 (by omega) (fun act hop => ⟨fun w => absurd w (by have := (op_cmp_s hop).1; omega), fun _ => ?_⟩) (fun hno => ⟨fun _ => ?_, fun w => absurd (by omega) w⟩)
    · -- a comparison
      obtain ⟨ha7, ha12, hhow⟩ := op_cmp_s hop
      have hlt : vA V1 < K := by
        rcases hop with q | q | q | q | q | q <;> exact tk_is_lt h1.2.1.2.1 hl1.1 q.1
      repeat refine ⟨hr1, ?_⟩
      intro c9 e9
      rw [ha1, am_w_s (by omega)] at e9
      have h9 : CE c9 pl b n K R (v_at V1 (vA V1 + 1)) := by rw [e9]; exact h1.at (by omega)
      have s9 : c_sm (eW pl R) c c9 := s1.tr (by rw [e9]; exact c_sm.u _ (by unfold eW; omega) _ _)
      have modc : ∀ (si : Nat) (s : ms_S) (d' : Nat) (P : Int → ms_S → Prop), ME s b n K R si V → B ≤ d' → (∀ (s2 : ms_S), ME s2 b n K R si (v_at V1 (vA V1 + 1)) → eF si s s2 → md_sum d' s2 (fun v1 s2 => md_make d' 9 v v1 (-1) (tk_p b n (vA V) : Int) (tk_p b n (vA V1) : Int) s2 (fun v2 s3 => 0 ≤ v2 ∧ v2 < 121 ∧ ∀ s4, s4 = ms_u s3 27 v2 (tk_s b n (vA V1)) → mw (d' + 1) 206 (am_blk 206 14) [159, v2, (tk_p b n (vA V) : Int), (tk_p b n (vA V1) : Int), tk_s b n (vA V1), v1, 0, 0, 0, 0, 0] [] s4 P))) → md_test (d' + 1) s P := by
        intro si s d' P hME hd' hk
        refine mod si s d' P hME hd' (fun s1 hME1 he1 => ⟨fun _ => w206_1 (fun s2 e2 => ?_), fun q => absurd hop (q act)⟩)
        have hsl := hME1.le
        rw [hME1.2.1.1, am_w_s (by omega)] at e2
        exact hk s2 (by rw [e2]; exact hME1.at (by omega)) (he1.tr (by rw [e2]; exact eF.u (by omega)))
      refine ⟨h9.r, hS pl b n K R c9 _ d _ h9 (by show vD V1 + L = 12; omega) (by omega) (fun v7 c10 s10 hP => ?_)⟩
      have s910 := s9.tr s10
      rcases hP with ⟨V2, h2, ⟨x2, -⟩, ev2, mg2⟩ | ⟨f, p, hf, mf2⟩
      · have b2 : vA V1 + 1 < vA V2 := x2.2.1
        refine ⟨h2.r, k_between h2 (by omega) (by omega) (fun hN c' z s4 g3 => kk _ _ (s910.tr s4) (Or.inl ⟨_, g3, ⟨hx.two x2 (by omega) ev ev2 (by omega) (by omega) (Or.inr (Or.inr (Or.inl ⟨ha7, ha12⟩))), hbg⟩, rfl, fun si s D P hME hD hP => ?_⟩)) (fun hN => kk _ _ (s910.tr c_fl_sm) (Or.inr ⟨7, tk_p b n (vA V1), h2.cf (by omega), fun si s D P hME hD hP => ?_⟩))⟩
        · obtain ⟨d', rfl⟩ : ∃ d', D = d' + 1 := ⟨D - 1, by omega⟩
          refine modc si s d' P hME (by omega) (fun s2 hME2 he2 => mg2 si s2 d' _ hME2 (by omega) (fun s3 hME3 he3 _ => ?_))
          rw [show (9 : Int) = mk_kind act 0 from (mk_kind_cp ⟨ha7, ha12⟩).symm]
          refine hME3.mkh (tok := vA V1) (z := z) (hw := tk_s b n (vA V1)) (by omega) hN (by omega) hhow (by omega) (fun s' s4 e4 hME4 he4 => ⟨by omega, by omega, fun s5 e5 => ?_⟩)
          rw [e5, ← e4]
          exact e14 si s s4 d' P _ _ _ _ _ _ _ _ _ hME4 (he2.tr (he3.tr he4)) hP
        · obtain ⟨d', rfl⟩ : ∃ d', D = d' + 1 := ⟨D - 1, by omega⟩
          refine modc si s d' P hME (by omega) (fun s2 hME2 he2 => mg2 si s2 d' _ hME2 (by omega) (fun s3 hME3 he3 _ => ?_))
          refine hME3.full (by omega) hN ⟨by omega, by omega, fun s5 e5 => ?_⟩
          rw [e5]
          exact f14 si s _ d' P 7 _ _ _ _ _ _ _ _ _ _ _ (hME3.mf.fr (fun q h1 h2 => ms_u_f _ _ _ (by omega))) (he2.tr (he3.tr (eF.fl.tr (eF.u (by omega))))) hP
      · refine ⟨hf.1, k_between0 hf (by omega) (kk _ _ s910 (Or.inr ⟨f, p, hf, fun si s D P hME hD hP => ?_⟩))⟩
        obtain ⟨d', rfl⟩ : ∃ d', D = d' + 1 := ⟨D - 1, by omega⟩
        refine modc si s d' P hME (by omega) (fun s2 hME2 he2 => mf2 si s2 d' _ hME2 (by omega) (fun v' s3 hf3 he3 => ?_))
        refine hf3.make (by omega) ⟨by omega, by omega, fun s5 e5 => ?_⟩
        rw [e5]
        exact f14 si s _ d' P f p _ _ _ _ _ _ _ _ _ _ (hf3.fr (fun q h1 h2 => ms_u_f _ _ _ (by omega))) (he2.tr (he3.tr (eF.u (by omega)))) hP
    · -- none
      repeat refine ⟨hr1, ?_⟩
      refine k_eats h1 (by omega) (sty (by omega)) (fun qis => ⟨fun w => absurd w (by omega), fun _ => ?_⟩) (fun qis => ⟨fun _ => ?_, fun w => absurd rfl w⟩)
      · -- is null
        have hlt := tk_is_lt h1.2.1.2.1 hl1.1 qis
        have h2 := h1.at (k := vA V1 + 1) (by omega)
        have s2 : c_sm (eW pl R) c (c_u c1 122 pl 0 ((vA V1 + 1 : Nat) : Int)) := s1.tr (c_sm.u _ (by unfold eW; omega) _ _)
        have hr2 := h2.r
        -- behind is, and not
        have isx : ∀ (k : Nat) (act x6 : Int) (c7 : cs_S), vA V1 < k → k ≤ K → ((x6 = 0 ∧ act = 13) ∨ (x6 ≠ 0 ∧ act = 14)) → CE c7 pl b n K R (v_at V1 k) → c_sm (eW pl R) c c7 → (∀ (si : Nat) (s : ms_S) (d' : Nat) (P : Int → ms_S → Prop), ME s b n K R si V → B ≤ d' → (∀ (s4 : ms_S), ME s4 b n K R si (v_at V1 k) → eF si s s4 → md_needWord d' (-136) s4 (fun _ s5 => md_make d' 10 v (-1) (-1) (tk_p b n (vA V) : Int) (tk_p b n (vA V1) : Int) s5 (fun v5 s6 => (x6 = 0 → mw (d' + 1) 206 (am_blk 206 4) [159, v5, (tk_p b n (vA V) : Int), (tk_p b n (vA V1) : Int), tk_s b n (vA V1), x6, 0, 0, 0, 0, 0] [0, v5, 177] s6 P) ∧ (¬ (x6 = 0) → mw (d' + 1) 206 (am_blk 206 4) [159, v5, (tk_p b n (vA V) : Int), (tk_p b n (vA V1) : Int), tk_s b n (vA V1), x6, 0, 0, 0, 0, 0] [1, v5, 177] s6 P)))) → md_test (d' + 1) s P) → kplan_want d pl (-30) c7 (fun _ c8 => c_r c8 pl = 1003 ∧ kplan_between d pl act v (-1) (vA V1 : Int) (vA V : Int) c8 Q) := by
          intro k act x6 c7 hk1 hk2 h6 h7 s7 hm7
          have h7le := h7.le
          have hac : act = 13 ∨ act = 14 := by rcases h6 with q | q; exact Or.inl q.2; exact Or.inr q.2
          have fin4 : ∀ (s' : ms_S) (d' : Nat) (P : Int → ms_S → Prop) (vv : Int), 0 ≤ vv → vv < 121 → (∀ hw, hw = mk_how act → ∀ s1, s1 = ms_u s' 27 vv hw → mw (d' + 1) 206 (am_blk 206 14) [159, vv, (tk_p b n (vA V) : Int), (tk_p b n (vA V1) : Int), tk_s b n (vA V1), x6, 0, 0, 0, 0, 0] [] s1 P) → (x6 = 0 → mw (d' + 1) 206 (am_blk 206 4) [159, vv, (tk_p b n (vA V) : Int), (tk_p b n (vA V1) : Int), tk_s b n (vA V1), x6, 0, 0, 0, 0, 0] [0, vv, 177] s' P) ∧ (¬ (x6 = 0) → mw (d' + 1) 206 (am_blk 206 4) [159, vv, (tk_p b n (vA V) : Int), (tk_p b n (vA V1) : Int), tk_s b n (vA V1), x6, 0, 0, 0, 0, 0] [1, vv, 177] s' P) := by
            intro s' d' P vv hv0 hv1 hk
            rcases h6 with ⟨q1, q2⟩ | ⟨q1, q2⟩
            · exact ⟨fun _ => w206_4 ⟨hv0, hv1, hk 0 (by rw [q2]; rfl)⟩, fun w => absurd q1 w⟩
            · exact ⟨fun w => absurd w q1, fun _ => w206_4 ⟨hv0, hv1, hk 1 (by rw [q2]; rfl)⟩⟩
          refine k_want h7 (by omega) (sty (by omega)) (fun q => ?_) (fun q => ?_)
          · have hlt7 : k < K := tk_is_lt h7.2.1.2.1 h7le.1 q
            have h8 : CE (c_u c7 122 pl 0 ((k + 1 : Nat) : Int)) pl b n K R (v_at V1 (k + 1)) := h7.at (k := k + 1) (by omega)
            have s8 : c_sm (eW pl R) c (c_u c7 122 pl 0 ((k + 1 : Nat) : Int)) := s7.tr (c_sm.u _ (by unfold eW; omega) _ _)
            refine ⟨h8.r, k_between h8 (by omega) (by omega) (fun hN c' z s4 g3 => kk _ _ (s8.tr s4) (Or.inl ⟨_, g3, ⟨hx.one (by omega) (by omega) ev (by omega) (by omega) (by omega), hbg⟩, rfl, fun si s D P hME hD hP => ?_⟩)) (fun hN => kk _ _ (s8.tr c_fl_sm) (Or.inr ⟨7, tk_p b n (vA V1), h8.cf (by omega), fun si s D P hME hD hP => ?_⟩))⟩
            · obtain ⟨d', rfl⟩ : ∃ d', D = d' + 1 := ⟨D - 1, by omega⟩
              refine hm7 si s d' P hME (by omega) (fun s4 hME4 he4 => hME4.needW1 (by omega) tw_null (sty (by omega)) q ?_)
              have hME5 : ME (ms_u s4 18 0 ((k + 1 : Nat) : Int)) b n K R si (v_at V1 (k + 1)) := hME4.at (k := k + 1) (by omega)
              rw [show (10 : Int) = mk_kind act 0 from (mk_kind_is hac).symm]
              have hN : vN V1 < 120 := hN
              refine hME5.mkh (tok := vA V1) (z := z) (hw := mk_how act) (by omega) hN (by omega) rfl (by omega) (fun s' s6 e6 hME6 he6 => fin4 s' d' P _ (by omega) (by show ((vN V1 : Nat) : Int) < 121; omega) (fun hw hhw s7 e7 => ?_))
              rw [e7, hhw, ← e6]
              exact e14 si s s6 d' P _ _ _ _ _ _ _ _ _ hME6 (he4.tr ((eF.u (by omega)).tr he6)) hP
            · obtain ⟨d', rfl⟩ : ∃ d', D = d' + 1 := ⟨D - 1, by omega⟩
              refine hm7 si s d' P hME (by omega) (fun s4 hME4 he4 => hME4.needW1 (by omega) tw_null (sty (by omega)) q ?_)
              have hME5 : ME (ms_u s4 18 0 ((k + 1 : Nat) : Int)) b n K R si (v_at V1 (k + 1)) := hME4.at (k := k + 1) (by omega)
              refine hME5.full (by omega) hN (fin4 _ d' P 0 (by omega) (by omega) (fun hw hhw s7 e7 => ?_))
              rw [e7]
              exact f14 si s _ d' P 7 _ _ _ _ _ _ _ _ _ _ _ (hME5.mf.fr (fun q h1 h2 => ms_u_f _ _ _ (by omega))) (he4.tr ((eF.u (by omega)).tr (eF.fl.tr (eF.u (by omega))))) hP
          · have hf := h7.cf (x := 1) (y := (tk_p b n k : Int)) (by omega)
            refine ⟨hf.1, k_between0 hf (by omega) (kk _ _ (s7.tr c_fl_sm) (Or.inr ⟨1, tk_p b n k, hf, fun si s D P hME hD hP => ?_⟩))⟩
            obtain ⟨d', rfl⟩ : ∃ d', D = d' + 1 := ⟨D - 1, by omega⟩
            refine hm7 si s d' P hME (by omega) (fun s4 hME4 he4 => hME4.needW0 (by omega) tw_null (sty (by omega)) q ?_)
            have hf4 := hME4.mf (f := 1) (p := (tk_p b n k : Int))
            refine hf4.make (by omega) (fin4 _ d' P 0 (by omega) (by omega) (fun hw hhw s7 e7 => ?_))
            rw [e7]
            exact f14 si s _ d' P 1 _ _ _ _ _ _ _ _ _ _ _ (hf4.fr (fun q h1 h2 => ms_u_f _ _ _ (by omega))) (he4.tr (eF.fl.tr (eF.u (by omega)))) hP
        -- the model behind is
        have modi : ∀ (si : Nat) (s : ms_S) (d' : Nat) (P : Int → ms_S → Prop), ME s b n K R si V → B ≤ d' → (∀ (s1 : ms_S), ME s1 b n K R si (v_at V1 (vA V1 + 1)) → eF si s s1 → md_takeWord d' (-150) s1 (fun v4 s4 => md_needWord d' (-136) s4 (fun _ s5 => md_make d' 10 v (-1) (-1) (tk_p b n (vA V) : Int) (tk_p b n (vA V1) : Int) s5 (fun v5 s6 => (v4 = 0 → mw (d' + 1) 206 (am_blk 206 4) [159, v5, (tk_p b n (vA V) : Int), (tk_p b n (vA V1) : Int), tk_s b n (vA V1), v4, 0, 0, 0, 0, 0] [0, v5, 177] s6 P) ∧ (¬ (v4 = 0) → mw (d' + 1) 206 (am_blk 206 4) [159, v5, (tk_p b n (vA V) : Int), (tk_p b n (vA V1) : Int), tk_s b n (vA V1), v4, 0, 0, 0, 0, 0] [1, v5, 177] s6 P))))) → md_test (d' + 1) s P := by
          intro si s d' P hME hd' hk
          exact mod si s d' P hME hd' (fun s1 hME1 he1 => ⟨fun q => by obtain ⟨act, q⟩ := q; exact absurd q (hno act), fun _ => w206_2 (hME1.takeW1 (by omega) tw_is (sty (by omega)) qis ⟨fun w => absurd w (by omega), fun _ => hk _ (hME1.at (by omega)) (he1.tr (eF.u (by omega)))⟩)⟩)
        repeat refine ⟨hr2, ?_⟩
        refine k_eats h2 (by omega) (sty (by omega)) (fun qn => ?_) (fun qn => ?_)
        · have hlt2 : vA V1 + 1 < K := tk_is_lt h2.2.1.2.1 h2.le.1 qn
          have h3 : CE (c_u (c_u c1 122 pl 0 ((vA V1 + 1 : Nat) : Int)) 122 pl 0 ((vA V1 + 1 + 1 : Nat) : Int)) pl b n K R (v_at V1 (vA V1 + 1 + 1)) := h2.at (k := vA V1 + 1 + 1) (by omega)
          have hr3 := h3.r
          repeat refine ⟨hr3, ?_⟩
          refine cw.mono (isx (vA V1 + 1 + 1) 14 1 _ (by omega) (by omega) (Or.inr ⟨by omega, rfl⟩) h3 (s2.tr (c_sm.u _ (by unfold eW; omega) _ _)) (fun si s d' P hME hd' hk => modi si s d' P hME hd' (fun s1 hME1 he1 => hME1.takeW1 (by omega) tw_not (sty (by omega)) qn (hk _ (hME1.at (k := vA V1 + 1 + 1) (by omega)) (he1.tr (eF.u (by omega))))))) (fun _ c8 h8 => ?_)
          have hr8 := h8.1
          repeat refine ⟨hr8, ?_⟩
          exact ⟨fun w => absurd w (by omega), fun _ => u59_3 h8⟩
        · repeat refine ⟨hr2, ?_⟩
          refine cw.mono (isx (vA V1 + 1) 13 0 _ (by omega) (by omega) (Or.inl ⟨rfl, rfl⟩) h2 s2 (fun si s d' P hME hd' hk => modi si s d' P hME hd' (fun s1 hME1 he1 => hME1.takeW0 (by omega) tw_not (sty (by omega)) qn (hk _ hME1 he1)))) (fun _ c8 h8 => ?_)
          have hr8 := h8.1
          repeat refine ⟨hr8, ?_⟩
          exact ⟨fun _ => u59_3 h8, fun w => absurd rfl w⟩
      · -- in ( ), or nothing more
        have modn : ∀ (si : Nat) (s : ms_S) (d' : Nat) (P : Int → ms_S → Prop), ME s b n K R si V → B ≤ d' → (∀ (s1 : ms_S), ME s1 b n K R si V1 → eF si s s1 → md_isWord d' (-150) s1 (fun v2 s2 => (v2 ≠ 0 → mw (d' + 1) 206 (am_blk 206 6) [159, v, (tk_p b n (vA V) : Int), (tk_p b n (vA V1) : Int), tk_s b n (vA V1), 0, 0, 0, 0, 0, 0] [] s2 P) ∧ (¬ (v2 ≠ 0) → md_isWord d' (-162) s2 (fun v3 s3 => (v3 = 0 → mw (d' + 1) 206 (am_blk 206 14) [159, v, (tk_p b n (vA V) : Int), (tk_p b n (vA V1) : Int), tk_s b n (vA V1), 0, 0, 0, 0, 0, 0] [] s3 P) ∧ (¬ (v3 = 0) → mw (d' + 1) 206 (am_blk 206 6) [159, v, (tk_p b n (vA V) : Int), (tk_p b n (vA V1) : Int), tk_s b n (vA V1), 0, 0, 0, 0, 0, 0] [] s3 P))))) → md_test (d' + 1) s P := by
          intro si s d' P hME hd' hk
          exact mod si s d' P hME hd' (fun s1 hME1 he1 => ⟨fun q => by obtain ⟨act, q⟩ := q; exact absurd q (hno act), fun _ => w206_2 (hME1.takeW0 (by omega) tw_is (sty (by omega)) qis ⟨fun _ => hk s1 hME1 he1, fun w => absurd rfl w⟩)⟩)
        -- the list, behind in
        have inx : ∀ (k : Nat) (act x5 : Int) (c7 : cs_S), vA V1 ≤ k → k < K → tk_is b n k (st_str (-82)) → ((x5 = 0 ∧ act = 15) ∨ (x5 ≠ 0 ∧ act = 16)) → CE c7 pl b n K R (v_at V1 k) → c_sm (eW pl R) c c7 → (∀ (si : Nat) (s : ms_S) (d' : Nat) (P : Int → ms_S → Prop), ME s b n K R si V → B ≤ d' → (∀ (s1 : ms_S), ME s1 b n K R si (v_at V1 k) → eF si s s1 → md_needWord d' (-162) s1 (fun _ s2 => md_needSign d' 40 s2 (fun _ s3 => mw (d' + 1) 206 (am_blk 206 7) [159, v, (tk_p b n (vA V) : Int), (tk_p b n (vA V1) : Int), tk_s b n (vA V1), x5, -1, -1, 0, 1, 0] [] s3 P))) → md_test (d' + 1) s P) → ∀ x4 : Int, cw (d + 1) 59 (am_blk 59 5) [pl, (vA V : Int), v, (vA V1 : Int), x4, x5, 0, 0, 0, 0, 0] [] c7 Q := by
          intro k act x5 c7 hk1 hk2 qin h5 h7 s7 hm7 x4
          have hr7 := h7.r
          refine u59_5 ?_
          repeat refine ⟨hr7, ?_⟩
          refine k_eats h7 (by omega) (sty (by omega)) (fun _ => ⟨fun _ => ?_, fun w => absurd (by omega : (1 : Int) ≠ 0) w⟩) (fun q => absurd qin q)
          have h8 : CE (c_u c7 122 pl 0 ((k + 1 : Nat) : Int)) pl b n K R (v_at V1 (k + 1)) := h7.at (k := k + 1) (by omega)
          have s8 : c_sm (eW pl R) c (c_u c7 122 pl 0 ((k + 1 : Nat) : Int)) := s7.tr (c_sm.u _ (by unfold eW; omega) _ _)
          have hr8 := h8.r
          repeat refine ⟨hr8, ?_⟩
          have modk : ∀ (si : Nat) (s : ms_S) (d' : Nat) (P : Int → ms_S → Prop), ME s b n K R si V → B ≤ d' → (∀ (s2 : ms_S), ME s2 b n K R si (v_at V1 (k + 1)) → eF si s s2 → md_needSign d' 40 s2 (fun _ s3 => mw (d' + 1) 206 (am_blk 206 7) [159, v, (tk_p b n (vA V) : Int), (tk_p b n (vA V1) : Int), tk_s b n (vA V1), x5, -1, -1, 0, 1, 0] [] s3 P)) → md_test (d' + 1) s P := by
            intro si s d' P hME hd' hk
            exact hm7 si s d' P hME hd' (fun s1 hME1 he1 => hME1.needW1 (by omega) tw_in (sty (by omega)) qin (hk _ (hME1.at (k := k + 1) (by omega)) (he1.tr (eF.u (by omega)))))
          refine k_want h8 (by omega) (sty (by omega)) (fun q => ?_) (fun q => ?_)
          · have hlt8 : k + 1 < K := tk_is_lt h8.2.1.2.1 h8.le.1 q
            have h9 : CE (c_u (c_u c7 122 pl 0 ((k + 1 : Nat) : Int)) 122 pl 0 ((k + 1 + 1 : Nat) : Int)) pl b n K R (v_at V1 (k + 1 + 1)) := h8.at (k := k + 1 + 1) (by omega)
            have s9 := s8.tr (c_sm.u (W := eW pl R) (c_u c7 122 pl 0 ((k + 1 : Nat) : Int)) (q := 122) (b := pl) (by unfold eW; omega) 0 ((k + 1 + 1 : Nat) : Int))
            exact r_inl hB hS (by omega) hL hx hbg ev h5 kk _ _ (v_at V1 (k + 1 + 1)) (-1) (-1) 0 _ rfl h9 s9 ⟨hx.1.tr (eY.at V1 (by omega)), Nat.le_refl _, by show vA V1 < k + 1 + 1; omega, by show k + 1 + 1 ≤ K; omega, hx.2.2.2.2.1, hx.2.2.2.2.2.1, hx.2.2.2.2.2.2.1, hx.2.2.2.2.2.2.2.1, by omega, Or.inl ⟨rfl, rfl, rfl, hx.ox⟩⟩ (fun si s d' P hME hd' hP => modk si s d' P hME hd' (fun s2 hME2 he2 => hME2.needS1 (by omega) ts_40 q (hP _ _ _ (hME2.at (k := k + 1 + 1) (by omega)) (he2.tr (eF.u (by omega))))))
          · have hf := h8.cf (x := 1) (y := (tk_p b n (k + 1) : Int)) (by omega)
            refine u59_7 ⟨fun w => absurd w (by omega), fun _ => ?_⟩
            have hrf := hf.1
            repeat refine ⟨hrf, ?_⟩
            refine k_good0 hrf hf.nz ⟨fun _ => kt_13 hf (by omega) (kk _ _ (s8.tr c_fl_sm) (Or.inr ⟨1, tk_p b n (k + 1), hf, fun si s D P hME hD hP => ?_⟩)), fun w => absurd rfl w⟩
            obtain ⟨d', rfl⟩ : ∃ d', D = d' + 1 := ⟨D - 1, by omega⟩
            refine modk si s d' P hME (by omega) (fun s2 hME2 he2 => hME2.needS0 (by omega) ts_40 q ?_)
            have hf2 := hME2.mf (f := 1) (p := (tk_p b n (k + 1) : Int))
            exact w206_7 ⟨fun w => absurd w (by omega), fun _ => ⟨fun _ => mt_11 hf2 (by omega) (he2.tr eF.fl) hP, fun w => absurd hf2.1 w⟩⟩
        repeat refine ⟨hr1, ?_⟩
        refine k_eats h1 (by omega) (sty (by omega)) (fun qn => ⟨fun w => absurd w (by omega), fun _ => ?_⟩) (fun qn => ⟨fun _ => ?_, fun w => absurd rfl w⟩)
        · -- not
          have hlt := tk_is_lt h1.2.1.2.1 hl1.1 qn
          have h2 : CE (c_u c1 122 pl 0 ((vA V1 + 1 : Nat) : Int)) pl b n K R (v_at V1 (vA V1 + 1)) := h1.at (k := vA V1 + 1) (by omega)
          have s2 : c_sm (eW pl R) c (c_u c1 122 pl 0 ((vA V1 + 1 : Nat) : Int)) := s1.tr (c_sm.u _ (by unfold eW; omega) _ _)
          have hr2 := h2.r
          have modx : ∀ (si : Nat) (s : ms_S) (d' : Nat) (P : Int → ms_S → Prop), ME s b n K R si V → B ≤ d' → (∀ (s1 : ms_S), ME s1 b n K R si (v_at V1 (vA V1 + 1)) → eF si s s1 → md_needWord d' (-162) s1 (fun _ s2 => md_needSign d' 40 s2 (fun _ s3 => mw (d' + 1) 206 (am_blk 206 7) [159, v, (tk_p b n (vA V) : Int), (tk_p b n (vA V1) : Int), tk_s b n (vA V1), 1, -1, -1, 0, 1, 0] [] s3 P))) → md_test (d' + 1) s P := by
            intro si s d' P hME hd' hk
            exact modn si s d' P hME hd' (fun s1 hME1 he1 => hME1.isW1 (by omega) tw_not (sty (by omega)) qn ⟨fun _ => w206_6 (hME1.takeW1 (by omega) tw_not (sty (by omega)) qn (hk _ (hME1.at (k := vA V1 + 1) (by omega)) (he1.tr (eF.u (by omega))))), fun w => absurd (by omega : (1 : Int) ≠ 0) w⟩)
          repeat refine ⟨hr2, ?_⟩
          refine k_is h2 (by omega) (sty (by omega)) (fun qin => ⟨fun _ => ?_, fun w => absurd (by omega : (1 : Int) ≠ 0) w⟩) (fun qin => ⟨fun w => absurd rfl w, fun _ => ?_⟩)
          · exact inx (vA V1 + 1) 16 1 _ (by omega) (tk_is_lt h2.2.1.2.1 h2.le.1 qin) qin (Or.inr ⟨by omega, rfl⟩) h2 s2 modx _
          · repeat refine ⟨hr2, ?_⟩
            have hf := h2.cf (x := 1) (y := (tk_p b n (vA V1 + 1) : Int)) (by omega)
            refine k_failTok h2 (by omega) (u59_5 ?_)
            have hrf := hf.1
            repeat refine ⟨hrf, ?_⟩
            refine k_eats0 hf (by omega) ⟨fun w => absurd rfl w, fun _ => kk _ _ (s2.tr c_fl_sm) (Or.inr ⟨1, tk_p b n (vA V1 + 1), hf, fun si s D P hME hD hP => ?_⟩)⟩
            obtain ⟨d', rfl⟩ : ∃ d', D = d' + 1 := ⟨D - 1, by omega⟩
            refine modx si s d' P hME (by omega) (fun s2 hME2 he2 => hME2.needW0 (by omega) tw_in (sty (by omega)) qin ?_)
            have hf2 := hME2.mf (f := 1) (p := (tk_p b n (vA V1 + 1) : Int))
            exact hf2.needS (by omega) (w206_7 ⟨fun w => absurd w (by omega), fun _ => ⟨fun _ => mt_11 hf2 (by omega) (he2.tr eF.fl) hP, fun w => absurd hf2.1 w⟩⟩)
        · by_cases qin : tk_is b n (vA V1) (st_str (-82))
          · have hlt := tk_is_lt h1.2.1.2.1 hl1.1 qin
            refine inx (vA V1) 15 0 c1 (by omega) hlt qin (Or.inl ⟨rfl, rfl⟩) h1 s1 (fun si s d' P hME hd' hk => ?_) _
            exact modn si s d' P hME hd' (fun s1 hME1 he1 => hME1.isW0 (by omega) tw_not (sty (by omega)) qn ⟨fun w => absurd rfl w, fun _ => hME1.isW1 (by omega) tw_in (sty (by omega)) qin ⟨fun w => absurd w (by omega), fun _ => w206_6 (hME1.takeW0 (by omega) tw_not (sty (by omega)) qn (hk _ hME1 he1))⟩⟩)
          · refine u59_5 ?_
            repeat refine ⟨hr1, ?_⟩
            refine k_eats h1 (by omega) (sty (by omega)) (fun q => absurd q qin) (fun _ => ⟨fun w => absurd rfl w, fun _ => kk _ _ s1 (Or.inl ⟨V1, h1, ⟨hx, hbg⟩, ev, fun si s D P hME hD hP => ?_⟩)⟩)
            obtain ⟨d', rfl⟩ : ∃ d', D = d' + 1 := ⟨D - 1, by omega⟩
            rw [ev] at hP
            refine modn si s d' P hME (by omega) (fun s1 hME1 he1 => hME1.isW0 (by omega) tw_not (sty (by omega)) qn ⟨fun w => absurd rfl w, fun _ => hME1.isW0 (by omega) tw_in (sty (by omega)) qin ⟨fun _ => ?_, fun w => absurd rfl w⟩⟩)
            rw [ev]
            exact e14 si s s1 d' P V1 _ _ _ _ _ _ _ _ hME1 he1 hP
  · -- a fault
    have hr1 := hf.1
    repeat refine ⟨hr1, ?_⟩
    refine f_comp hf (by omega) ⟨fun _ => ?_, fun w => absurd (by omega) w⟩
    repeat refine ⟨hr1, ?_⟩
    refine k_eats0 hf (by omega) ⟨fun _ => ?_, fun w => absurd rfl w⟩
    repeat refine ⟨hr1, ?_⟩
    refine k_eats0 hf (by omega) ⟨fun _ => u59_5 ?_, fun w => absurd rfl w⟩
    repeat refine ⟨hr1, ?_⟩
    refine k_eats0 hf (by omega) ⟨fun w => absurd rfl w, fun _ => kk _ _ s1 (Or.inr ⟨f, p, hf, fun si s D P hME hD hP => ?_⟩)⟩
    obtain ⟨d', rfl⟩ : ∃ d', D = d' + 1 := ⟨D - 1, by omega⟩
    refine w206_e (mf si s d' _ hME (by omega) (fun v' s1 hf1 he1 => ?_))
    have h18 := hf1.2.2.2
    refine ⟨by omega, by omega, by omega, by omega, fun _ => w206_2 (hf1.takeW (by omega) ⟨fun _ => hf1.isW (by omega) ⟨fun w => absurd rfl w, fun _ => hf1.isW (by omega) ⟨fun _ => w206_14 (fun s6 e6 => ?_), fun w => absurd rfl w⟩⟩, fun w => absurd rfl w⟩), fun w => absurd hf1.1 w⟩
    rw [e6]
    exact hP _ _ (hf1.fr (fun q h1 h2 => ms_u_f _ _ _ (by omega))) (he1.tr (eF.u (by omega)))
end
