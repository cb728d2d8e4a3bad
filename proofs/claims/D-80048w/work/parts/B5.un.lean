set_option maxRecDepth 100000
/-! readers: not, - as a sign -/
section
variable {L B : Nat}
theorem r_not {B' : Nat} (hB : 6 ≤ B) (hB' : B' ≤ B) (hA : rX tk_bs kplan_readTest md_test B L) (hI : ∀ L', L = L' + 1 → rX bgE kplan_readNot md_notExpr B' L') : rX bgE kplan_readNot md_notExpr (B + 1) L := by
  intro pl b n K R c V D Q h hL hD kk
  obtain ⟨d, rfl⟩ : ∃ d', D = d' + 1 := ⟨D - 1, by omega⟩
  have hr := h.r
  have hl := h.le
  have ha := h.2.2.1.1
  refine u58_e ⟨hr, k_is h (by omega) (sty (by omega)) (fun q => ⟨fun _ => ?_, fun w => absurd (by omega : (1 : Int) ≠ 0) w⟩) (fun q => ⟨fun w => absurd rfl w, fun _ => ⟨hr, hA pl b n K R c V d _ h hL (by omega) (fun v c' s hP => kk v c' s ?_)⟩⟩)⟩
  · have hlt : vA V < K := tk_is_lt h.2.1.2.1 hl.1 q
    repeat refine ⟨hr, ?_⟩
    refine k_opens h (by omega) (fun h12 => ⟨fun _ => ?_, fun w => absurd (by omega : (1 : Int) ≠ 0) w⟩) (fun h12 => ⟨fun w => absurd rfl w, fun _ => kk 0 _ c_fl_sm (Or.inr ⟨7, tk_p b n (vA V), h.cf (by omega), fun si s D P hME hD hP => ?_⟩)⟩)
    · have h1 := (h.deep (k := vD V + 1) (by omega))
      have hr1 := h1.r
      repeat refine ⟨hr1, ?_⟩
      intro c3 e3
      rw [c_u_q (by omega), ha, am_w_s (by omega)] at e3
      have h3 : CE c3 pl b n K R (v_at (v_deep V (vD V + 1)) (vA V + 1)) := by rw [e3]; exact h1.at (k := vA V + 1) (by omega)
      have s3 : c_sm (eW pl R) c c3 := by rw [e3]; exact (c_sm.u c (by unfold eW; omega) _ _).tr (c_sm.u _ (by unfold eW; omega) _ _)
      have hr3 := h3.r
      obtain ⟨L', rfl⟩ : ∃ L', L = L' + 1 := ⟨L - 1, by omega⟩
      refine ⟨hr3, hI L' rfl pl b n K R c3 _ d _ h3 (by show vD V + 1 + L' = 12; omega) (by omega) (fun v c4 s4 hP => ?_)⟩
      -- the model up to there
      have mod : ∀ (si : Nat) (s : ms_S) (d' : Nat) (P : Int → ms_S → Prop), ME s b n K R si V → B ≤ d' → (∀ s3, ME s3 b n K R si (v_at (v_deep V (vD V + 1)) (vA V + 1)) → eF si s s3 → md_notExpr d' s3 (fun v2 s4 => mw (d' + 1) 205 (am_blk 205 3) [159, (tk_p b n (vA V) : Int), 0] [v2] s4 P)) → md_notExpr (d' + 1) s P := by
        intro si s d' P hME hd' hk
        have hsl := hME.le
        refine w205_e (hME.isW1 (by omega) tw_not (sty (by omega)) q ⟨fun _ => ⟨by rw [hME.2.1.1]; omega, by rw [hME.2.1.1]; omega, hME.deeper1 (by omega) h12 (fun s3 e3 => ?_)⟩, fun w => absurd (by omega : (1 : Int) ≠ 0) w⟩)
        rw [ms_u_f _ _ _ (by omega), hME.2.1.1, am_w_s (by omega)] at e3
        have hME3 : ME s3 b n K R si (v_at (v_deep V (vD V + 1)) (vA V + 1)) := by rw [e3]; exact (hME.deep (k := vD V + 1) (by omega)).at (k := vA V + 1) (by omega)
        refine ⟨fun w => absurd (hME3.2.1.2.2.1.symm.trans w) (by decide), fun _ => ?_⟩
        rw [hME.pl]
        exact hk s3 hME3 (by rw [e3]; exact (eF.u (by omega)).tr (eF.u (by omega)))
      rcases hP with ⟨V2, g2, ⟨x2, -⟩, ev, mg⟩ | ⟨f, p, hf, mf⟩
      · have xo1 : xo (vT V2) (vN V) (vN V2) (fun e => e + 1 = vN V2) := x2.ox
        obtain ⟨b1, b2, b3, b4, b5, b6, b7, b8, -⟩ := x2
        have b1 : eY K (vN V) (v_at (v_deep V (vD V + 1)) (vA V + 1)) V2 := b1
        have b2 : vA V + 1 < vA V2 := b2
        have b4 : vN V < vN V2 := b4
        have b5 : vD V2 = vD V + 1 := b5
        have hr4 := g2.r
        repeat refine ⟨hr4, ?_⟩
        intro c5 e5
        rw [g2.2.2.1.2.2.2.1, b5, am_w_in (by omega) (by omega), show ((vD V + 1 : Nat) : Int) - 1 = (vD V : Int) by omega] at e5
        have g5 : CE c5 pl b n K R (v_deep V2 (vD V)) := by rw [e5]; exact g2.deep (by omega)
        have s5 : c_sm (eW pl R) c c5 := (s3.tr s4).tr (by rw [e5]; exact c_sm.u _ (by unfold eW; omega) _ _)
        refine ⟨g5.r, ?_⟩
        rw [ha]
        have xe : ∀ z, x_up (vT V2) (vN V2) (6, v, -1, -1, -1, z) (vN V2) = (6, v, -1, -1, -1, z) := fun z => x_up_eq _ _ _
        refine k_node g5 (by omega) (by omega) (fun hN c6 z s6 g6 => kk _ _ (s5.tr s6) (Or.inl ⟨_, g6, ⟨?_, Or.inr q⟩, rfl, fun si s D P hME hD hP => ?_⟩)) (fun hN => kk _ _ (s5.tr c_fl_sm) (Or.inr ⟨7, tk_p b n (vA V), g5.cf (by omega), fun si s D P hME hD hP => ?_⟩))
        · have hN : vN V2 < 120 := hN
          have hp : x_p (x_up (vT V2) (vN V2) (6, v, -1, -1, -1, z)) K (vN V) (vN V2) := by
            refine ⟨fun _ => Or.inr (Or.inr (Or.inr (Or.inl ⟨?_, ?_, ?_⟩))), ?_, fun q => ?_⟩
            · unfold x_act; rw [xe]; show (6 : Int) = 6 ∨ _; omega
            · unfold x_a; rw [xe]; show _ ≤ v ∧ v < _; omega
            · unfold x_b; rw [xe]
            · unfold x_act; rw [xe]; show (6 : Int) ≤ 29; omega
            · unfold x_act at q; rw [xe] at q; have q : (26 : Int) ≤ 6 := q; omega
          refine ⟨((((eY.deep V).tr (eY.at _ (by show vA V ≤ vA V + 1; omega))).tr b1).tr (eY.deep V2)).tr (eY.add (V := v_deep V2 (vD V)) hp (by omega) (by omega) (by show (6 : Int) < 25; omega)), by show vA V < vA V2; omega, b3, by show vN V < vN V2 + 1; omega, rfl, b6, b7, b8, ?_, fun q => ?_, xo1.add (fun e he h1 h2 => x_kid_a ⟨by show (4 : Int) ≤ 6; omega, by show (6 : Int) ≤ 24; omega⟩ (by show v = _; omega))⟩
          · show x_n (x_up (vT V2) (vN V2) (6, v, -1, -1, -1, z)) (vN V2 + 1 - 1) = -1
            rw [Nat.add_sub_cancel]
            unfold x_n
            rw [xe]
          exfalso
          have q : x_act (x_up (vT V2) (vN V2) (6, v, -1, -1, -1, z)) (vN V2 + 1 - 1) = 3 := q
          rw [Nat.add_sub_cancel] at q
          unfold x_act at q
          rw [xe] at q
          have q : (6 : Int) = 3 := q
          omega
        · have hN : vN V2 < 120 := hN
          obtain ⟨d', rfl⟩ : ∃ d', D = d' + 1 := ⟨D - 1, by omega⟩
          refine mod si s d' P hME (by omega) (fun s3 hME3 he3 => mg si s3 d' _ hME3 (by omega) (fun s4 hME4 he4 _ => w205_3 (fun s5 e5 => ?_)))
          rw [hME4.2.1.2.2.2.1, b5, am_w_in (by omega) (by omega), show ((vD V + 1 : Nat) : Int) - 1 = (vD V : Int) by omega] at e5
          have hME5 : ME s5 b n K R si (v_deep V2 (vD V)) := by rw [e5]; exact hME4.deep (by omega)
          refine hME5.make (by omega) hN (fun s6 fr6 h22 rw6 => fun s7 e7 => ?_)
          obtain ⟨w1, w2, w3, w4, w5, w6, w7, w8, w9⟩ := rw6
          rw [e7]
          refine hP _ ((hME5.add hN fr6 h22 ⟨?_, fun q => ?_, fun q1 q2 => ?_, fun _ => ⟨w2, w3⟩, w4, w9, fun q => ?_, ?_, ?_⟩ w7).sp) (he3.tr (he4.tr ((by rw [e5]; exact eF.u (by omega) : eF si s4 s5).tr (fr6.eF.tr (eF.u (by omega)))))) (ms_u_eq _ _ _ _)
          · exact w1
          · have q : (6 : Int) = 0 := q; omega
          · have q1 : (7 : Int) ≤ 6 := q1; have q2 : (6 : Int) ≤ 16 := q2; omega
          · have q : (6 : Int) = 3 := q; omega
          · show (-1 : Int) ≤ -1; omega
          · show (-1 : Int) ≤ -1; omega
        · have hN : vN V2 = 120 := hN
          obtain ⟨d', rfl⟩ : ∃ d', D = d' + 1 := ⟨D - 1, by omega⟩
          refine mod si s d' P hME (by omega) (fun s3 hME3 he3 => mg si s3 d' _ hME3 (by omega) (fun s4 hME4 he4 _ => w205_3 (fun s5 e5 => ?_)))
          rw [hME4.2.1.2.2.2.1, b5, am_w_in (by omega) (by omega), show ((vD V + 1 : Nat) : Int) - 1 = (vD V : Int) by omega] at e5
          have hME5 : ME s5 b n K R si (v_deep V2 (vD V)) := by rw [e5]; exact hME4.deep (by omega)
          refine hME5.full (by omega) hN (fun s7 e7 => ?_)
          rw [e7]
          exact hP _ _ (hME5.mf.fr (fun q h1 h2 => ms_u_f _ _ _ (by omega))) (he3.tr (he4.tr ((by rw [e5]; exact eF.u (by omega) : eF si s4 s5).tr (eF.fl.tr (eF.u (by omega))))))
      · have hr4 := hf.1
        repeat refine ⟨hr4, ?_⟩
        intro c5 e5
        have hf5 : CF c5 pl f p := by
          obtain ⟨f1, f2, f3, f4, f5, f6⟩ := hf
          rw [e5]
          exact ⟨f1, by rw [c_u_q (by omega)]; exact f2, by rw [c_u_q (by omega)]; exact f3, f4, by rw [c_u_q (by omega)]; exact f5, by rw [c_u_q (by omega)]; exact f6⟩
        have s5 : c_sm (eW pl R) c c5 := (s3.tr s4).tr (by rw [e5]; exact c_sm.u _ (by unfold eW; omega) _ _)
        refine ⟨hf5.1, k_node0 hf5 (by omega) (kk _ _ s5 (Or.inr ⟨f, p, hf5, fun si s D P hME hD hP => ?_⟩))⟩
        obtain ⟨d', rfl⟩ : ∃ d', D = d' + 1 := ⟨D - 1, by omega⟩
        refine mod si s d' P hME (by omega) (fun s3 hME3 he3 => mf si s3 d' _ hME3 (by omega) (fun v' s4 hf4 he4 => w205_3 (fun s5 e5 => ?_)))
        have hf5 : MF s5 f p := hf4.fr (fun q h1 h2 => by rw [e5]; exact ms_u_f _ _ _ (by omega))
        refine hf5.make (by omega) (fun s7 e7 => ?_)
        rw [e7]
        exact hP _ _ (hf5.fr (fun q h1 h2 => ms_u_f _ _ _ (by omega))) (he3.tr (he4.tr ((by rw [e5]; exact eF.u (by omega) : eF si s4 s5).tr (eF.u (by omega)))))
    · obtain ⟨d', rfl⟩ : ∃ d', D = d' + 1 := ⟨D - 1, by omega⟩
      have hsl := hME.le
      refine w205_e (hME.isW1 (by omega) tw_not (sty (by omega)) q ⟨fun _ => ⟨by rw [hME.2.1.1]; omega, by rw [hME.2.1.1]; omega, hME.deeper0 (by omega) h12 (fun s3 e3 => ?_)⟩, fun w => absurd (by omega : (1 : Int) ≠ 0) w⟩)
      rw [hME.pl] at e3 ⊢
      have hf2 : MF (m_fl (ms_u s 70 0 13) 7 (tk_p b n (vA V))) 7 (tk_p b n (vA V)) := m_fl_MF (by rw [ms_u_f _ _ _ (by omega), hME.2.1.1]; omega) (by rw [ms_u_f _ _ _ (by omega), hME.2.1.1]; omega)
      have e18 : m_fl (ms_u s 70 0 13) 7 (tk_p b n (vA V)) 18 0 = (vA V : Int) := by rw [m_fl_f (by omega) (by omega) (by omega), ms_u_f _ _ _ (by omega)]; exact hME.2.1.1
      rw [e18, am_w_s (by omega)] at e3
      have hf3 : MF s3 7 (tk_p b n (vA V)) := by
        obtain ⟨f1, f2, f3, f4, f5⟩ := hf2
        rw [e3]
        exact ⟨by rw [ms_u_f _ _ _ (by omega)]; exact f1, by rw [ms_u_f _ _ _ (by omega)]; exact f2, by rw [ms_u_f _ _ _ (by omega)]; exact f3, by rw [ms_u_eq]; omega, by rw [ms_u_eq]; omega⟩
      have he3 : eF si s s3 := by rw [e3]; exact (eF.u (by omega)).tr (eF.fl.tr (eF.u (by omega)))
      refine ⟨fun _ => w205_3 (fun s5 e5 => ?_), fun w => absurd hf3.1 w⟩
      have hf5 : MF s5 7 (tk_p b n (vA V)) := hf3.fr (fun q h1 h2 => by rw [e5]; exact ms_u_f _ _ _ (by omega))
      refine hf5.make (by omega) (fun s7 e7 => ?_)
      rw [e7]
      exact hP _ _ (hf5.fr (fun q h1 h2 => ms_u_f _ _ _ (by omega))) (he3.tr ((by rw [e5]; exact eF.u (by omega) : eF si s3 s5).tr (eF.u (by omega))))
  · rcases hP with ⟨V2, g2, x2, ev, mg⟩ | ⟨f, p, hf, mf⟩
    · refine Or.inl ⟨V2, g2, ⟨x2.1, Or.inl x2.2⟩, ev, fun si s D P hME hD hP => ?_⟩
      obtain ⟨d', rfl⟩ : ∃ d', D = d' + 1 := ⟨D - 1, by omega⟩
      exact w205_e (hME.isW0 (by omega) tw_not (sty (by omega)) q ⟨fun w => absurd rfl w, fun _ => mg si s d' _ hME (by omega) hP⟩)
    · refine Or.inr ⟨f, p, hf, fun si s D P hME hD hP => ?_⟩
      obtain ⟨d', rfl⟩ : ∃ d', D = d' + 1 := ⟨D - 1, by omega⟩
      exact w205_e (hME.isW0 (by omega) tw_not (sty (by omega)) q ⟨fun w => absurd rfl w, fun _ => mf si s d' _ hME (by omega) hP⟩)
theorem r_sign {B' : Nat} (hB : 6 ≤ B) (hB' : B' ≤ B) (hA : rX tk_bs kplan_readOne md_one B L) (hI : ∀ L', L = L' + 1 → rX tk_bs kplan_readSign md_sign B' L') : rX tk_bs kplan_readSign md_sign (B + 1) L := by
  intro pl b n K R c V D Q h hL hD kk
  obtain ⟨d, rfl⟩ : ∃ d', D = d' + 1 := ⟨D - 1, by omega⟩
  have hr := h.r
  have hl := h.le
  have ha := h.2.2.1.1
  refine u62_e ⟨hr, k_is h (by omega) (sty (by omega)) (fun q => ⟨fun _ => ?_, fun w => absurd (by omega : (1 : Int) ≠ 0) w⟩) (fun q => ⟨fun w => absurd rfl w, fun _ => ⟨hr, hA pl b n K R c V d _ h hL (by omega) (fun v c' s hP => kk v c' s ?_)⟩⟩)⟩
  · have hlt : vA V < K := tk_is_lt h.2.1.2.1 hl.1 q
    repeat refine ⟨hr, ?_⟩
    refine k_opens h (by omega) (fun h12 => ⟨fun _ => ?_, fun w => absurd (by omega : (1 : Int) ≠ 0) w⟩) (fun h12 => ⟨fun w => absurd rfl w, fun _ => kk 0 _ c_fl_sm (Or.inr ⟨7, tk_p b n (vA V), h.cf (by omega), fun si s D P hME hD hP => ?_⟩)⟩)
    · have h1 := (h.deep (k := vD V + 1) (by omega))
      have hr1 := h1.r
      repeat refine ⟨hr1, ?_⟩
      intro c3 e3
      rw [c_u_q (by omega), ha, am_w_s (by omega)] at e3
      have h3 : CE c3 pl b n K R (v_at (v_deep V (vD V + 1)) (vA V + 1)) := by rw [e3]; exact h1.at (k := vA V + 1) (by omega)
      have s3 : c_sm (eW pl R) c c3 := by rw [e3]; exact (c_sm.u c (by unfold eW; omega) _ _).tr (c_sm.u _ (by unfold eW; omega) _ _)
      have hr3 := h3.r
      obtain ⟨L', rfl⟩ : ∃ L', L = L' + 1 := ⟨L - 1, by omega⟩
      refine ⟨hr3, hI L' rfl pl b n K R c3 _ d _ h3 (by show vD V + 1 + L' = 12; omega) (by omega) (fun v c4 s4 hP => ?_)⟩
      -- the model up to there
      have mod : ∀ (si : Nat) (s : ms_S) (d' : Nat) (P : Int → ms_S → Prop), ME s b n K R si V → B ≤ d' → (∀ s3, ME s3 b n K R si (v_at (v_deep V (vD V + 1)) (vA V + 1)) → eF si s s3 → md_sign d' s3 (fun v2 s4 => mw (d' + 1) 209 (am_blk 209 3) [159, (tk_p b n (vA V) : Int), 0] [v2] s4 P)) → md_sign (d' + 1) s P := by
        intro si s d' P hME hd' hk
        have hsl := hME.le
        refine w209_e (hME.isS1 ts_45 q ⟨fun _ => ⟨by rw [hME.2.1.1]; omega, by rw [hME.2.1.1]; omega, hME.deeper1 (by omega) h12 (fun s3 e3 => ?_)⟩, fun w => absurd (by omega : (1 : Int) ≠ 0) w⟩)
        rw [ms_u_f _ _ _ (by omega), hME.2.1.1, am_w_s (by omega)] at e3
        have hME3 : ME s3 b n K R si (v_at (v_deep V (vD V + 1)) (vA V + 1)) := by rw [e3]; exact (hME.deep (k := vD V + 1) (by omega)).at (k := vA V + 1) (by omega)
        refine ⟨fun w => absurd (hME3.2.1.2.2.1.symm.trans w) (by decide), fun _ => ?_⟩
        rw [hME.pl]
        exact hk s3 hME3 (by rw [e3]; exact (eF.u (by omega)).tr (eF.u (by omega)))
      rcases hP with ⟨V2, g2, ⟨x2, -⟩, ev, mg⟩ | ⟨f, p, hf, mf⟩
      · have xo1 : xo (vT V2) (vN V) (vN V2) (fun e => e + 1 = vN V2) := x2.ox
        obtain ⟨b1, b2, b3, b4, b5, b6, b7, b8, -⟩ := x2
        have b1 : eY K (vN V) (v_at (v_deep V (vD V + 1)) (vA V + 1)) V2 := b1
        have b2 : vA V + 1 < vA V2 := b2
        have b4 : vN V < vN V2 := b4
        have b5 : vD V2 = vD V + 1 := b5
        have hr4 := g2.r
        repeat refine ⟨hr4, ?_⟩
        intro c5 e5
        rw [g2.2.2.1.2.2.2.1, b5, am_w_in (by omega) (by omega), show ((vD V + 1 : Nat) : Int) - 1 = (vD V : Int) by omega] at e5
        have g5 : CE c5 pl b n K R (v_deep V2 (vD V)) := by rw [e5]; exact g2.deep (by omega)
        have s5 : c_sm (eW pl R) c c5 := (s3.tr s4).tr (by rw [e5]; exact c_sm.u _ (by unfold eW; omega) _ _)
        refine ⟨g5.r, ?_⟩
        rw [ha]
        have xe : ∀ z, x_up (vT V2) (vN V2) (22, v, -1, -1, -1, z) (vN V2) = (22, v, -1, -1, -1, z) := fun z => x_up_eq _ _ _
        refine k_node g5 (by omega) (by omega) (fun hN c6 z s6 g6 => kk _ _ (s5.tr s6) (Or.inl ⟨_, g6, ⟨?_, Or.inr (Or.inr (Or.inr (Or.inr (Or.inr (Or.inr (Or.inr (Or.inr (Or.inr (Or.inl q)))))))))⟩, rfl, fun si s D P hME hD hP => ?_⟩)) (fun hN => kk _ _ (s5.tr c_fl_sm) (Or.inr ⟨7, tk_p b n (vA V), g5.cf (by omega), fun si s D P hME hD hP => ?_⟩))
        · have hN : vN V2 < 120 := hN
          have hp : x_p (x_up (vT V2) (vN V2) (22, v, -1, -1, -1, z)) K (vN V) (vN V2) := by
            refine ⟨fun _ => Or.inr (Or.inr (Or.inr (Or.inl ⟨?_, ?_, ?_⟩))), ?_, fun q => ?_⟩
            · unfold x_act; rw [xe]; show (22 : Int) = 6 ∨ _; omega
            · unfold x_a; rw [xe]; show _ ≤ v ∧ v < _; omega
            · unfold x_b; rw [xe]
            · unfold x_act; rw [xe]; show (22 : Int) ≤ 29; omega
            · unfold x_act at q; rw [xe] at q; have q : (26 : Int) ≤ 22 := q; omega
          refine ⟨((((eY.deep V).tr (eY.at _ (by show vA V ≤ vA V + 1; omega))).tr b1).tr (eY.deep V2)).tr (eY.add (V := v_deep V2 (vD V)) hp (by omega) (by omega) (by show (22 : Int) < 25; omega)), by show vA V < vA V2; omega, b3, by show vN V < vN V2 + 1; omega, rfl, b6, b7, b8, ?_, fun q => ?_, xo1.add (fun e he h1 h2 => x_kid_a ⟨by show (4 : Int) ≤ 22; omega, by show (22 : Int) ≤ 24; omega⟩ (by show v = _; omega))⟩
          · show x_n (x_up (vT V2) (vN V2) (22, v, -1, -1, -1, z)) (vN V2 + 1 - 1) = -1
            rw [Nat.add_sub_cancel]
            unfold x_n
            rw [xe]
          exfalso
          have q : x_act (x_up (vT V2) (vN V2) (22, v, -1, -1, -1, z)) (vN V2 + 1 - 1) = 3 := q
          rw [Nat.add_sub_cancel] at q
          unfold x_act at q
          rw [xe] at q
          have q : (22 : Int) = 3 := q
          omega
        · have hN : vN V2 < 120 := hN
          obtain ⟨d', rfl⟩ : ∃ d', D = d' + 1 := ⟨D - 1, by omega⟩
          refine mod si s d' P hME (by omega) (fun s3 hME3 he3 => mg si s3 d' _ hME3 (by omega) (fun s4 hME4 he4 _ => w209_3 (fun s5 e5 => ?_)))
          rw [hME4.2.1.2.2.2.1, b5, am_w_in (by omega) (by omega), show ((vD V + 1 : Nat) : Int) - 1 = (vD V : Int) by omega] at e5
          have hME5 : ME s5 b n K R si (v_deep V2 (vD V)) := by rw [e5]; exact hME4.deep (by omega)
          refine hME5.make (by omega) hN (fun s6 fr6 h22 rw6 => fun s7 e7 => ?_)
          obtain ⟨w1, w2, w3, w4, w5, w6, w7, w8, w9⟩ := rw6
          rw [e7]
          refine hP _ ((hME5.add hN fr6 h22 ⟨?_, fun q => ?_, fun q1 q2 => ?_, fun _ => ⟨w2, w3⟩, w4, w9, fun q => ?_, ?_, ?_⟩ w7).sp) (he3.tr (he4.tr ((by rw [e5]; exact eF.u (by omega) : eF si s4 s5).tr (fr6.eF.tr (eF.u (by omega)))))) (ms_u_eq _ _ _ _)
          · exact w1
          · have q : (22 : Int) = 0 := q; omega
          · have q1 : (7 : Int) ≤ 22 := q1; have q2 : (22 : Int) ≤ 16 := q2; omega
          · have q : (22 : Int) = 3 := q; omega
          · show (-1 : Int) ≤ -1; omega
          · show (-1 : Int) ≤ -1; omega
        · have hN : vN V2 = 120 := hN
          obtain ⟨d', rfl⟩ : ∃ d', D = d' + 1 := ⟨D - 1, by omega⟩
          refine mod si s d' P hME (by omega) (fun s3 hME3 he3 => mg si s3 d' _ hME3 (by omega) (fun s4 hME4 he4 _ => w209_3 (fun s5 e5 => ?_)))
          rw [hME4.2.1.2.2.2.1, b5, am_w_in (by omega) (by omega), show ((vD V + 1 : Nat) : Int) - 1 = (vD V : Int) by omega] at e5
          have hME5 : ME s5 b n K R si (v_deep V2 (vD V)) := by rw [e5]; exact hME4.deep (by omega)
          refine hME5.full (by omega) hN (fun s7 e7 => ?_)
          rw [e7]
          exact hP _ _ (hME5.mf.fr (fun q h1 h2 => ms_u_f _ _ _ (by omega))) (he3.tr (he4.tr ((by rw [e5]; exact eF.u (by omega) : eF si s4 s5).tr (eF.fl.tr (eF.u (by omega))))))
      · have hr4 := hf.1
        repeat refine ⟨hr4, ?_⟩
        intro c5 e5
        have hf5 : CF c5 pl f p := by
          obtain ⟨f1, f2, f3, f4, f5, f6⟩ := hf
          rw [e5]
          exact ⟨f1, by rw [c_u_q (by omega)]; exact f2, by rw [c_u_q (by omega)]; exact f3, f4, by rw [c_u_q (by omega)]; exact f5, by rw [c_u_q (by omega)]; exact f6⟩
        have s5 : c_sm (eW pl R) c c5 := (s3.tr s4).tr (by rw [e5]; exact c_sm.u _ (by unfold eW; omega) _ _)
        refine ⟨hf5.1, k_node0 hf5 (by omega) (kk _ _ s5 (Or.inr ⟨f, p, hf5, fun si s D P hME hD hP => ?_⟩))⟩
        obtain ⟨d', rfl⟩ : ∃ d', D = d' + 1 := ⟨D - 1, by omega⟩
        refine mod si s d' P hME (by omega) (fun s3 hME3 he3 => mf si s3 d' _ hME3 (by omega) (fun v' s4 hf4 he4 => w209_3 (fun s5 e5 => ?_)))
        have hf5 : MF s5 f p := hf4.fr (fun q h1 h2 => by rw [e5]; exact ms_u_f _ _ _ (by omega))
        refine hf5.make (by omega) (fun s7 e7 => ?_)
        rw [e7]
        exact hP _ _ (hf5.fr (fun q h1 h2 => ms_u_f _ _ _ (by omega))) (he3.tr (he4.tr ((by rw [e5]; exact eF.u (by omega) : eF si s4 s5).tr (eF.u (by omega)))))
    · obtain ⟨d', rfl⟩ : ∃ d', D = d' + 1 := ⟨D - 1, by omega⟩
      have hsl := hME.le
      refine w209_e (hME.isS1 ts_45 q ⟨fun _ => ⟨by rw [hME.2.1.1]; omega, by rw [hME.2.1.1]; omega, hME.deeper0 (by omega) h12 (fun s3 e3 => ?_)⟩, fun w => absurd (by omega : (1 : Int) ≠ 0) w⟩)
      rw [hME.pl] at e3 ⊢
      have hf2 : MF (m_fl (ms_u s 70 0 13) 7 (tk_p b n (vA V))) 7 (tk_p b n (vA V)) := m_fl_MF (by rw [ms_u_f _ _ _ (by omega), hME.2.1.1]; omega) (by rw [ms_u_f _ _ _ (by omega), hME.2.1.1]; omega)
      have e18 : m_fl (ms_u s 70 0 13) 7 (tk_p b n (vA V)) 18 0 = (vA V : Int) := by rw [m_fl_f (by omega) (by omega) (by omega), ms_u_f _ _ _ (by omega)]; exact hME.2.1.1
      rw [e18, am_w_s (by omega)] at e3
      have hf3 : MF s3 7 (tk_p b n (vA V)) := by
        obtain ⟨f1, f2, f3, f4, f5⟩ := hf2
        rw [e3]
        exact ⟨by rw [ms_u_f _ _ _ (by omega)]; exact f1, by rw [ms_u_f _ _ _ (by omega)]; exact f2, by rw [ms_u_f _ _ _ (by omega)]; exact f3, by rw [ms_u_eq]; omega, by rw [ms_u_eq]; omega⟩
      have he3 : eF si s s3 := by rw [e3]; exact (eF.u (by omega)).tr (eF.fl.tr (eF.u (by omega)))
      refine ⟨fun _ => w209_3 (fun s5 e5 => ?_), fun w => absurd hf3.1 w⟩
      have hf5 : MF s5 7 (tk_p b n (vA V)) := hf3.fr (fun q h1 h2 => by rw [e5]; exact ms_u_f _ _ _ (by omega))
      refine hf5.make (by omega) (fun s7 e7 => ?_)
      rw [e7]
      exact hP _ _ (hf5.fr (fun q h1 h2 => ms_u_f _ _ _ (by omega))) (he3.tr ((by rw [e5]; exact eF.u (by omega) : eF si s3 s5).tr (eF.u (by omega))))
  · rcases hP with ⟨V2, g2, x2, ev, mg⟩ | ⟨f, p, hf, mf⟩
    · refine Or.inl ⟨V2, g2, x2, ev, fun si s D P hME hD hP => ?_⟩
      obtain ⟨d', rfl⟩ : ∃ d', D = d' + 1 := ⟨D - 1, by omega⟩
      exact w209_e (hME.isS0 ts_45 q ⟨fun w => absurd rfl w, fun _ => mg si s d' _ hME (by omega) hP⟩)
    · refine Or.inr ⟨f, p, hf, fun si s D P hME hD hP => ?_⟩
      obtain ⟨d', rfl⟩ : ∃ d', D = d' + 1 := ⟨D - 1, by omega⟩
      exact w209_e (hME.isS0 ts_45 q ⟨fun w => absurd rfl w, fun _ => mf si s d' _ hME (by omega) hP⟩)
end
