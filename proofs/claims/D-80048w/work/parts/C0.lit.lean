set_option maxRecDepth 100000
/-! readers: ONE: numbers, truths, null, columns -/
section
variable {pl : Int} {b : Int → Int} {n K : Nat} {R : Int} {c : cs_S} {V : pV} {d B : Nat} {Q : Int → cs_S → Prop}
theorem x_p_lit {T : xt} {lo e : Nat} {act z : Int} (h : act = 0 ∨ act = 1 ∨ (act = 2 ∧ (z = 0 ∨ z = 1))) : x_p (x_up T e (act, -1, -1, -1, -1, z)) K lo e := by
  have xe : x_up T e (act, -1, -1, -1, -1, z) e = (act, -1, -1, -1, -1, z) := x_up_eq _ _ _
  refine ⟨fun _ => Or.inl ?_, ?_, fun q => ?_⟩
  · unfold x_act x_v; rw [xe]; exact h
  · unfold x_act; rw [xe]; show act ≤ 29; omega
  · unfold x_act at q; rw [xe] at q; have q : 26 ≤ act := q; omega
theorem eX.lit {act z : Int} (hK : vA V < K) (h : act = 0 ∨ act = 1 ∨ (act = 2 ∧ (z = 0 ∨ z = 1))) : eX K V (v_add (v_at V (vA V + 1)) (act, -1, -1, -1, -1, z) (vA V) (vA V)) :=
  eX.fin (W := v_at V (vA V + 1)) (eY.at V (by omega)) (by show vA V < vA V + 1; omega) (by show vA V + 1 ≤ K; omega) rfl rfl rfl (fun _ => rfl) (x_p_lit h) (by show act < 25; omega) (by show act ≠ 3; omega) rfl (by omega) (by omega) ((xo.nil (vT V) (vN V) (fun _ => False)).add (fun e he => he.elim))
theorem mr_lit {s : ms_S} {e act z : Int} (h1 : s 23 e = mk_kind act z) (h2 : act = 0 → s 28 e = z) (h3 : s 24 e = -1) (h4 : s 25 e = -1) (h5 : s 26 e = -1) (h6 : s 32 e = -1) (h : act = 0 ∨ act = 1 ∨ act = 2) : mr s e (act, -1, -1, -1, -1, z) := by
  refine ⟨h1, h2, fun q1 q2 => ?_, fun _ => ⟨h3, h4⟩, h5, h6, fun q => ?_, ?_, ?_⟩
  · have q1 : 7 ≤ act := q1; omega
  · have q : act = 3 := q; omega
  · show (-1 : Int) ≤ -1; omega
  · show (-1 : Int) ≤ -1; omega
/-- the model: numbers -/
theorem o_mnum {si : Nat} {s : ms_S} {d' : Nat} {P : Int → ms_S → Prop} (h : ME s b n K R si V) (hd : 1 ≤ d') (hs : tk_s b n (vA V) = 2) (hN : vN V < 120) (hK : vA V < K) (hP : ∀ s', ME s' b n K R si (v_add (v_at V (vA V + 1)) (0, -1, -1, -1, -1, tk_v b n (vA V)) (vA V) (vA V)) → eF si s s' → s' 74 0 = (tk_p b n (vA V) : Int) → P (vN V : Int) s') : md_one (d' + 1) s P := by
  have h1 := h.at (k := vA V + 1) (by omega)
  refine m1_num h hs (h1.make hd hN (fun s6 fr6 h22 rw6 => ⟨by omega, by show ((vN V : Nat) : Int) < 121; omega, fun s28 e28 x3 => ?_⟩))
  obtain ⟨w1, w2, w3, w4, w5, w6, w7, w8, w9⟩ := rw6
  have fr : mkF (vN V) (ms_u s 18 0 ((vA V + 1 : Nat) : Int)) s28 := fr6.tr (by rw [e28]; exact mkF.u (by omega) (by omega) (by omega))
  refine me_23 (h1.add hN fr ?_ (mr_lit ?_ (fun _ => ?_) ?_ ?_ ?_ ?_ (Or.inl rfl)) ?_) ((eF.u (by omega)).tr fr.eF) hP
  · rw [e28, ms_u_f _ _ _ (by omega)]; exact h22
  · rw [e28, ms_u_f _ _ _ (by omega)]; exact w1
  · rw [e28]; exact ms_u_eq _ _ _ _
  · rw [e28, ms_u_f _ _ _ (by omega)]; exact w2
  · rw [e28, ms_u_f _ _ _ (by omega)]; exact w3
  · rw [e28, ms_u_f _ _ _ (by omega)]; exact w4
  · rw [e28, ms_u_f _ _ _ (by omega)]; exact w9
  · rw [e28, ms_u_f _ _ _ (by omega)]; exact w7
theorem o_mlit {si : Nat} {s : ms_S} {d' : Nat} {P : Int → ms_S → Prop} {act z : Int} (h : ME s b n K R si V) (hd : 1 ≤ d') (hN : vN V < 120) (hK : vA V < K) (ha : act = 1 ∨ act = 2) (hP : ∀ s', ME s' b n K R si (v_add (v_at V (vA V + 1)) (act, -1, -1, -1, -1, z) (vA V) (vA V)) → eF si s s' → s' 74 0 = (tk_p b n (vA V) : Int) → P (vN V : Int) s') : md_make d' (mk_kind act z) (-1) (-1) (-1) (tk_p b n (vA V) : Int) (tk_p b n (vA V) : Int) (ms_u s 18 0 ((vA V + 1 : Nat) : Int)) (fun v17 s25 => mw (d' + 1) 211 (am_blk 211 23) [159, (tk_p b n (vA V) : Int), v17, 0, 0, 0] [] s25 P) := by
  have h1 := h.at (k := vA V + 1) (by omega)
  refine h1.make hd hN (fun s6 fr6 h22 rw6 => ?_)
  obtain ⟨w1, w2, w3, w4, w5, w6, w7, w8, w9⟩ := rw6
  exact me_23 (h1.add hN fr6 h22 (mr_lit w1 (fun q => by omega) w2 w3 w4 w9 (Or.inr ha)) w7) ((eF.u (by omega)).tr fr6.eF) hP
theorem o_mful {si : Nat} {s : ms_S} {d' : Nat} {P : Int → ms_S → Prop} {kd x3 x4 x5 : Int} {k : Nat} (h : ME s b n K R si V) (hd : 1 ≤ d') (hN : vN V = 120) (hk : k ≤ K) (hP : ∀ v' s', MF s' 7 (tk_p b n (vA V)) → eF si s s' → P v' s') : md_make d' kd (-1) (-1) (-1) (tk_p b n (vA V) : Int) (tk_p b n (vA V) : Int) (ms_u s 18 0 (k : Int)) (fun v17 s25 => mw (d' + 1) 211 (am_blk 211 23) [159, (tk_p b n (vA V) : Int), v17, x3, x4, x5] [] s25 P) :=
  (h.at hk).full hd hN (mo_23 (h.at hk).mf ((eF.u (by omega)).tr eF.fl) hP)
/-- the component: numbers and truths -/
theorem o_lit (hd : 5 ≤ d) (hB : 4 ≤ B) (h : CE c pl b n K R V) (hi : tk_s b n (vA V) = 2 ∨ tk_is b n (vA V) (st_str (-32)) ∨ tk_is b n (vA V) (st_str (-34))) (hK : vA V < K) (kk : ∀ v c', c_sm (eW pl R) c c' → rP tk_bs md_one B pl b n K R V v c' → Q v c') : cw (d + 1) 63 (am_blk 63 2) [pl, (vA V : Int), 0, 0] [] c Q := by
  have hr := h.r
  have hl := h.le
  have ha := h.2.2.1.1
  have hvr := tk_v_r (b := b) (n := n) (k := vA V)
  refine u63_2 ?_
  repeat refine ⟨hr, ?_⟩
  rw [h.t.1, ha]
  refine ⟨h.t.2, ?_⟩
  -- behind the node
  have b7 : ∀ (c2 : cs_S) (act z z' : Int) (x2 : Int), CE c2 pl b n K R (v_add V (act, -1, -1, -1, -1, z) (vA V) (vA V)) → c_sm (eW pl R) c c2 → vN V < 120 → -9223372036854775808 ≤ z' → z' ≤ 9223372036854775807 → (act = 0 ∨ act = 1 ∨ (act = 2 ∧ (z' = 0 ∨ z' = 1))) → tk_bs b n (vA V) (vM V) → (∀ (si : Nat) (s : ms_S) (D : Nat) (P : Int → ms_S → Prop), ME s b n K R si V → B ≤ D → (∀ s', ME s' b n K R si (v_add (v_at V (vA V + 1)) (act, -1, -1, -1, -1, z') (vA V) (vA V)) → eF si s s' → s' 74 0 = (tk_p b n (vA V) : Int) → P (vN V : Int) s') → md_one D s P) → cw (d + 1) 63 (am_blk 63 7) [pl, (vA V : Int), x2, (vN V : Int)] [z', (vN V : Int), pl + 8 + 6] c2 Q := by
    intro c2 act z z' x2 h2 s2 hN hz0 hz1 hact hbs hm
    obtain ⟨h0, -, -, -, -, -, ⟨p1, p2, p3⟩, -⟩ := id h2.1.2.2.2
    refine u63_7 ⟨p2, by omega, by rw [p3]; omega, fun c3 e3 => ?_⟩
    have h3 : CE c3 pl b n K R (v_add V (act, -1, -1, -1, -1, z') (vA V) (vA V)) := by
      have := h2.num (e := vN V) (v := z') (by show vN V < vN V + 1; omega) hz0 hz1
      rw [v_row_add] at this
      rw [e3]
      have e : vT (v_add V (act, -1, -1, -1, -1, z) (vA V) (vA V)) (vN V) = (act, -1, -1, -1, -1, z) := x_up_eq _ _ _
      rw [e] at this
      exact this
    have s3 : c_sm (eW pl R) c c3 := s2.tr (by rw [e3]; exact c_sm.u _ (by unfold eW; omega) _ _)
    have hr3 := h3.r
    repeat refine ⟨hr3, ?_⟩
    intro c4 e4
    rw [h3.2.2.1.1, show vA (v_add V (act, -1, -1, -1, -1, z') (vA V) (vA V)) = vA V from rfl, am_w_s (by omega)] at e4
    have h4 : CE c4 pl b n K R (v_add (v_at V (vA V + 1)) (act, -1, -1, -1, -1, z') (vA V) (vA V)) := by rw [e4]; exact h3.at (k := vA V + 1) (by omega)
    refine u63_8 (kk _ _ (s3.tr (by rw [e4]; exact c_sm.u _ (by unfold eW; omega) _ _)) (Or.inl ⟨_, h4, ⟨eX.lit hK hact, hbs⟩, rfl, hm⟩))
  -- no room
  have full : ∀ x2 : Int, vN V = 120 → (∀ (si : Nat) (s : ms_S) (D : Nat) (P : Int → ms_S → Prop), ME s b n K R si V → B ≤ D → (∀ v' s', MF s' 7 (tk_p b n (vA V)) → eF si s s' → P v' s') → md_one D s P) → cw (d + 1) 63 (am_blk 63 8) [pl, (vA V : Int), x2, 0] [] (c_fl c pl 7 (tk_p b n (vA V))) Q := fun x2 hN hm => u63_8 (kk _ _ c_fl_sm (Or.inr ⟨7, tk_p b n (vA V), h.cf (by omega), hm⟩))
  refine k_tnum h.2.1 hl.1 (fun hs => ⟨fun w => absurd w (by omega), fun _ => ?_⟩) (fun hs => ⟨fun _ => ?_, fun w => absurd rfl w⟩)
  · -- a number
    refine u63_4 ⟨hr, k_node h (by omega) hl.1 (fun hN c2 z s2 h2 => ?_) (fun hN => ?_)⟩
    · have hr2 := h2.r
      repeat refine ⟨hr2, ?_⟩
      refine k_good1 hr2 h2.2.2.1.2.2.1 ⟨fun w => absurd w (by omega), fun _ => ?_⟩
      repeat refine ⟨hr2, ?_⟩
      have hxa := h2.xa
      obtain ⟨h0, -, -, -, -, -, ⟨p1, p2, p3⟩, -⟩ := id h2.1.2.2.2
      rw [hxa.1, p1]
      refine ⟨hxa.2, fun w => absurd w (by omega), fun _ => ?_⟩
      repeat refine ⟨hr2, ?_⟩
      rw [h2.t.1, h2.2.2.1.1]
      refine ⟨h2.t.2, k_tnumber h2.2.1 hl.1 hs (b7 c2 0 z (tk_v b n (vA V)) 1 h2 s2 hN (by omega) (by omega) (Or.inl rfl) (Or.inl hs) (fun si s D P hME hD hP => ?_))⟩
      obtain ⟨d', rfl⟩ : ∃ d', D = d' + 1 := ⟨D - 1, by omega⟩
      exact o_mnum hME (by omega) hs hN hK hP
    · have hf := h.cf (x := 7) (y := (tk_p b n (vA V) : Int)) (by omega)
      have hrf := hf.1
      repeat refine ⟨hrf, ?_⟩
      refine k_good0 hrf hf.nz ⟨fun _ => full 1 hN (fun si s D P hME hD hP => ?_), fun w => absurd rfl w⟩
      obtain ⟨d', rfl⟩ : ∃ d', D = d' + 1 := ⟨D - 1, by omega⟩
      have h1 := hME.at (k := vA V + 1) (by omega)
      refine m1_num hME hs (h1.full (by omega) hN ⟨by omega, by omega, fun s28 e28 x3 => mo_23 (f := 7) (p := (tk_p b n (vA V) : Int)) (h1.mf.fr (fun q h1 h2 => by rw [e28]; exact ms_u_f _ _ _ (by omega))) ?_ hP⟩)
      rw [e28]
      exact (eF.u (by omega)).tr (eF.fl.tr (eF.u (by omega)))
  · -- a truth
    have hi2 : tk_is b n (vA V) (st_str (-32)) ∨ tk_is b n (vA V) (st_str (-34)) := by
      rcases hi with q | q
      · exact absurd q hs
      · exact q
    refine u63_4 ⟨hr, k_node h (by omega) hl.1 (fun hN c2 z s2 h2 => ?_) (fun hN => ?_)⟩
    · have hr2 := h2.r
      repeat refine ⟨hr2, ?_⟩
      refine k_good1 hr2 h2.2.2.1.2.2.1 ⟨fun w => absurd w (by omega), fun _ => ?_⟩
      repeat refine ⟨hr2, ?_⟩
      have hxa := h2.xa
      obtain ⟨h0, -, -, -, -, -, ⟨p1, p2, p3⟩, -⟩ := id h2.1.2.2.2
      rw [hxa.1, p1]
      refine ⟨hxa.2, fun _ => ?_, fun w => absurd rfl w⟩
      repeat refine ⟨hr2, ?_⟩
      refine k_is h2 (by omega) (sty (by omega)) (fun q => ⟨fun w => absurd w (by omega), fun _ => ?_⟩) (fun q => ⟨fun _ => ?_, fun w => absurd rfl w⟩)
      · refine b7 c2 2 z 1 0 h2 s2 hN (by omega) (by omega) (Or.inr (Or.inr ⟨rfl, Or.inr rfl⟩)) (Or.inr (Or.inr (Or.inr (Or.inr (Or.inl q))))) (fun si s D P hME hD hP => ?_)
        obtain ⟨d', rfl⟩ : ∃ d', D = d' + 1 := ⟨D - 1, by omega⟩
        exact m1_true hME (by omega) q (o_mlit (act := 2) (z := 1) hME (by omega) hN hK (Or.inr rfl) hP)
      · have q2 : tk_is b n (vA V) (st_str (-34)) := by
          rcases hi2 with z | z
          · exact absurd z q
          · exact z
        refine b7 c2 2 z 0 0 h2 s2 hN (by omega) (by omega) (Or.inr (Or.inr ⟨rfl, Or.inl rfl⟩)) (Or.inr (Or.inr (Or.inr (Or.inr (Or.inr (Or.inl q2)))))) (fun si s D P hME hD hP => ?_)
        obtain ⟨d', rfl⟩ : ∃ d', D = d' + 1 := ⟨D - 1, by omega⟩
        exact m1_false hME (by omega) q2 (o_mlit (act := 2) (z := 0) hME (by omega) hN hK (Or.inr rfl) hP)
    · have hf := h.cf (x := 7) (y := (tk_p b n (vA V) : Int)) (by omega)
      have hrf := hf.1
      repeat refine ⟨hrf, ?_⟩
      refine k_good0 hrf hf.nz ⟨fun _ => full 0 hN (fun si s D P hME hD hP => ?_), fun w => absurd rfl w⟩
      obtain ⟨d', rfl⟩ : ∃ d', D = d' + 1 := ⟨D - 1, by omega⟩
      rcases hi2 with q | q
      · exact m1_true hME (by omega) q (o_mful hME (by omega) hN (by omega) hP)
      · exact m1_false hME (by omega) q (o_mful hME (by omega) hN (by omega) hP)
theorem o_null (hd : 5 ≤ d) (hB : 4 ≤ B) (h : CE c pl b n K R V) (hi : tk_is b n (vA V) (st_str (-30))) (hK : vA V < K) (kk : ∀ v c', c_sm (eW pl R) c c' → rP tk_bs md_one B pl b n K R V v c' → Q v c') : kplan_node d pl 1 (-1) (-1) (-1) (vA V : Int) (c_u c 122 pl 0 ((vA V + 1 : Nat) : Int)) Q := by
  have h1 := h.at (k := vA V + 1) (by omega)
  have s1 : c_sm (eW pl R) c (c_u c 122 pl 0 ((vA V + 1 : Nat) : Int)) := c_sm.u _ (by unfold eW; omega) _ _
  refine k_node h1 (by omega) (by omega) (fun hN c2 z s2 h2 => kk _ _ (s1.tr s2) (Or.inl ⟨_, h2, ⟨eX.lit hK (Or.inr (Or.inl rfl)), Or.inr (Or.inr (Or.inr (Or.inl hi)))⟩, rfl, fun si s D P hME hD hP => ?_⟩)) (fun hN => kk _ _ (s1.tr c_fl_sm) (Or.inr ⟨7, tk_p b n (vA V), h1.cf (by omega), fun si s D P hME hD hP => ?_⟩))
  · obtain ⟨d', rfl⟩ : ∃ d', D = d' + 1 := ⟨D - 1, by omega⟩
    exact m1_null hME (by omega) hi (o_mlit (act := 1) (z := z) hME (by omega) hN hK (Or.inl rfl) hP)
  · obtain ⟨d', rfl⟩ : ∃ d', D = d' + 1 := ⟨D - 1, by omega⟩
    exact m1_null hME (by omega) hi (o_mful hME (by omega) hN (by omega) hP)
/-! columns -/
theorem m1_col {si : Nat} {s : ms_S} {d' : Nat} {P : Int → ms_S → Prop} (h : ME s b n K R si V) (hd : 3 ≤ d') (hi : tk_nm b n (vA V) ∨ tk_is b n (vA V) (st_str (-28))) (kk : md_columnOf d' (tk_p b n (vA V) : Int) s (fun v11 s11 => mw (d' + 1) 211 (am_blk 211 23) [159, (tk_p b n (vA V) : Int), v11, 0, 0, 0] [] s11 P)) : md_one (d' + 1) s P := by
  have hs : tk_s b n (vA V) = 1 := by
    rcases hi with q | q
    · exact q.1
    · exact (tw_time.mp q).1
  have ne : ∀ {y : Int}, tkn (st_str y) → st_str y ≠ st_str (-28) → ¬ tk_is b n (vA V) (st_str y) := by
    intro y ht hne
    rcases hi with q | q
    · exact tk_nm_ne q ht
    · exact tk_ne q hne
  refine m1_n3 h hd ⟨by omega, ne tkn_null (by decide +kernel), ne tkn_true (by decide +kernel), ne tkn_false (by decide +kernel)⟩ ?_
  refine h.isS0 ts_40 (fun q => by have := ts_40.mp q; omega) ⟨fun _ => ?_, fun w => absurd rfl w⟩
  refine h.isW0 (by omega) tw_case (sty (by omega)) (ne tkn_case (by decide +kernel)) ⟨fun _ => ?_, fun w => absurd rfl w⟩
  refine h.isW0 (by omega) tw_span (sty (by omega)) (ne tkn_span (by decide +kernel)) ⟨fun _ => ?_, fun w => absurd rfl w⟩
  refine h.isW0 (by omega) tw_count (sty (by omega)) (ne tkn_count (by decide +kernel)) ⟨fun w => absurd rfl w, fun _ => ?_⟩
  refine h.isW0 (by omega) tw_sum (sty (by omega)) (ne tkn_sum (by decide +kernel)) ⟨fun w => absurd rfl w, fun _ => ?_⟩
  refine h.isW0 (by omega) tw_min (sty (by omega)) (ne tkn_min (by decide +kernel)) ⟨fun w => absurd rfl w, fun _ => ?_⟩
  exact h.isW0 (by omega) tw_max (sty (by omega)) (ne tkn_max (by decide +kernel)) ⟨fun _ => kk, fun w => absurd rfl w⟩
/-- the end of a column -/
theorem o_mcol {si : Nat} {s s0 : ms_S} {d' : Nat} {P : Int → ms_S → Prop} {x2 z : Int} {k : Nat} (h : ME s b n K R si (v_at V k)) (he : eF si s0 s) (hd : 1 ≤ d') (hN : vN V < 120) (hx : -1 ≤ x2) (hP : ∀ s', ME s' b n K R si (v_add (v_at V k) (3, (vA V : Int), x2, -1, -1, z) (vA V) (vA V)) → eF si s0 s' → s' 74 0 = (tk_p b n (vA V) : Int) → P (vN V : Int) s') : ∀ x4 : Int, mw (d' + 1) 217 (am_blk 217 2) [159, (tk_p b n (vA V) : Int), (vA V : Int), x2, x4] [] s (fun v11 s11 => mw (d' + 1 + 1) 211 (am_blk 211 23) [159, (tk_p b n (vA V) : Int), v11, 0, 0, 0] [] s11 P) := by
  intro x4
  refine w217_2 (h.make hd hN (fun s6 fr6 h22 rw6 => ⟨by omega, by show ((vN V : Nat) : Int) < 121; omega, fun s7 e7 => ⟨by omega, by show ((vN V : Nat) : Int) < 121; omega, fun s8 e8 => ?_⟩⟩))
  obtain ⟨w1, w2, w3, w4, w5, w6, w7, w8, w9⟩ := rw6
  have fr : mkF (vN V) s s8 := fr6.tr ((by rw [e7]; exact mkF.u (by omega) (by omega) (by omega) : mkF (vN V) s6 s7).tr (by rw [e8]; exact mkF.u (by omega) (by omega) (by omega)))
  refine me_23 (h.add hN fr ?_ ⟨?_, fun q => ?_, fun q1 q2 => ?_, fun q => absurd rfl q, ?_, ?_, fun _ => ⟨?_, ?_⟩, ?_, hx⟩ ?_) (he.tr fr.eF) hP
  · rw [e8, ms_u_f _ _ _ (by omega), e7, ms_u_f _ _ _ (by omega)]; exact h22
  · rw [e8, ms_u_f _ _ _ (by omega), e7, ms_u_f _ _ _ (by omega)]; exact w1
  · have q : (3 : Int) = 0 := q; omega
  · have q1 : (7 : Int) ≤ 3 := q1; omega
  · rw [e8, ms_u_f _ _ _ (by omega), e7, ms_u_f _ _ _ (by omega)]; exact w4
  · rw [e8, ms_u_f _ _ _ (by omega), e7, ms_u_f _ _ _ (by omega)]; exact w9
  · rw [e8, ms_u_f _ _ _ (by omega), e7]; exact ms_u_eq _ _ _ _
  · rw [e8]; exact ms_u_eq _ _ _ _
  · show (-1 : Int) ≤ -1; omega
  · rw [e8, ms_u_f _ _ _ (by omega), e7, ms_u_f _ _ _ (by omega)]; exact w7
theorem o_mcolf {si : Nat} {s s0 : ms_S} {d' : Nat} {P : Int → ms_S → Prop} {f p x1 x2 x3 x4 y1 : Int} (h : MF s f p) (he : eF si s0 s) (hd : 1 ≤ d') (hP : ∀ v' s', MF s' f p → eF si s0 s' → P v' s') : mw (d' + 1) 217 (am_blk 217 2) [159, x1, x2, x3, x4] [] s (fun v11 s11 => mw (d' + 1 + 1) 211 (am_blk 211 23) [159, y1, v11, 0, 0, 0] [] s11 P) := by
  refine w217_2 (h.make hd ⟨by omega, by omega, fun s7 e7 => ⟨by omega, by omega, fun s8 e8 => ?_⟩⟩)
  refine mo_23 (h.fr (fun q h1 h2 => by rw [e8, ms_u_f _ _ _ (by omega), e7, ms_u_f _ _ _ (by omega)])) (he.tr ?_) hP
  rw [e8, e7]
  exact (eF.u (by omega)).tr (eF.u (by omega))
theorem o_mcolx {si : Nat} {s s0 : ms_S} {d' : Nat} {P : Int → ms_S → Prop} {x2 x4 : Int} {k : Nat} (h : ME s b n K R si (v_at V k)) (he : eF si s0 s) (hd : 1 ≤ d') (hN : vN V = 120) (hP : ∀ v' s', MF s' 7 (tk_p b n (vA V)) → eF si s0 s' → P v' s') : mw (d' + 1) 217 (am_blk 217 2) [159, (tk_p b n (vA V) : Int), (vA V : Int), x2, x4] [] s (fun v11 s11 => mw (d' + 1 + 1) 211 (am_blk 211 23) [159, (tk_p b n (vA V) : Int), v11, 0, 0, 0] [] s11 P) := by
  refine w217_2 (h.full hd hN ⟨by omega, by omega, fun s7 e7 => ⟨by omega, by omega, fun s8 e8 => ?_⟩⟩)
  refine mo_23 (f := 7) (p := (tk_p b n (vA V) : Int)) (h.mf.fr (fun q h1 h2 => by rw [e8, ms_u_f _ _ _ (by omega), e7, ms_u_f _ _ _ (by omega)])) (he.tr ?_) hP
  rw [e8, e7]
  exact eF.fl.tr ((eF.u (by omega)).tr (eF.u (by omega)))
theorem tk_nm_lt {k : Nat} (hK : tk_K b n K) (hk : k ≤ K) (h : tk_nm b n k) : k < K := by
  by_cases c : k = K
  · rw [c] at h
    have := hK.2
    have := h.1
    omega
  · omega
theorem o_col (hd : 6 ≤ d) (hB : 6 ≤ B) (h : CE c pl b n K R V) (hi : tk_nm b n (vA V) ∨ tk_is b n (vA V) (st_str (-28))) (kk : ∀ v c', c_sm (eW pl R) c c' → rP tk_bs md_one B pl b n K R V v c' → Q v c') : kplan_readColumn d pl c Q := by
  obtain ⟨d, rfl⟩ : ∃ d', d = d' + 1 := ⟨d - 1, by omega⟩
  have hr := h.r
  have hl := h.le
  have ha := h.2.2.1.1
  have hK : vA V < K := by
    rcases hi with q | q
    · exact tk_nm_lt h.2.1.2.1 hl.1 q
    · exact tk_is_lt h.2.1.2.1 hl.1 q
  have hbs : tk_bs b n (vA V) (vM V) := by
    rcases hi with q | q
    · exact Or.inr (Or.inl q)
    · exact Or.inr (Or.inr (Or.inl q))
  -- the node
  have b2 : ∀ (k : Nat) (x2 : Int) (c2 : cs_S) (y2 : Int), CE c2 pl b n K R (v_at V k) → c_sm (eW pl R) c c2 → k ≤ K → ((x2 = -1 ∧ k = vA V + 1) ∨ (x2 = ((vA V + 2 : Nat) : Int) ∧ k = vA V + 3)) → (∀ (si : Nat) (s : ms_S) (d' : Nat) (P : Int → ms_S → Prop), ME s b n K R si V → 4 ≤ d' → (∀ (s1 : ms_S) (x4 : Int), ME s1 b n K R si (v_at V k) → eF si s s1 → mw (d' + 1) 217 (am_blk 217 2) [159, (tk_p b n (vA V) : Int), (vA V : Int), x2, x4] [] s1 (fun v11 s11 => mw (d' + 1 + 1) 211 (am_blk 211 23) [159, (tk_p b n (vA V) : Int), v11, 0, 0, 0] [] s11 P)) → md_one (d' + 1 + 1) s P) → cw (d + 1) 65 (am_blk 65 2) [pl, (vA V : Int), y2, x2] [] c2 Q := by
    intro k x2 c2 y2 h2 s2 hk hx hm
    refine u65_2 ⟨h2.r, k_node h2 (by omega) (by omega) (fun hN c3 z s3 h3 => kk _ _ (s2.tr s3) (Or.inl ⟨_, h3, ⟨eX.col hk hx, hbs⟩, rfl, fun si s D P hME hD hP => ?_⟩)) (fun hN => kk _ _ (s2.tr c_fl_sm) (Or.inr ⟨7, tk_p b n (vA V), h2.cf (by omega), fun si s D P hME hD hP => ?_⟩))⟩
    · obtain ⟨d', rfl⟩ : ∃ d', D = d' + 1 + 1 := ⟨D - 2, by omega⟩
      exact hm si s d' P hME (by omega) (fun s1 x4 hME1 he1 => o_mcol hME1 he1 (by omega) hN (by omega) hP x4)
    · obtain ⟨d', rfl⟩ : ∃ d', D = d' + 1 + 1 := ⟨D - 2, by omega⟩
      exact hm si s d' P hME (by omega) (fun s1 x4 hME1 he1 => o_mcolx hME1 he1 (by omega) hN hP)
  have h1 : CE (c_u c 122 pl 0 ((vA V + 1 : Nat) : Int)) pl b n K R (v_at V (vA V + 1)) := h.at (k := vA V + 1) (by omega)
  have s1 : c_sm (eW pl R) c (c_u c 122 pl 0 ((vA V + 1 : Nat) : Int)) := c_sm.u _ (by unfold eW; omega) _ _
  have hr1 := h1.r
  refine u65_e ?_
  repeat refine ⟨hr, ?_⟩
  rw [ha]
  refine k_is h (by omega) (sty (by omega)) (fun q => ?_) (fun q => ?_)
  · -- time
    repeat refine ⟨hr, ?_⟩
    intro c2 e2
    rw [ha, am_w_s (by omega)] at e2
    subst e2
    refine ⟨fun _ => b2 (vA V + 1) (-1) _ _ h1 s1 (by omega) (Or.inl ⟨rfl, rfl⟩) (fun si s d' P hME hd' hk => ?_), fun w => absurd (by omega : (1 : Int) ≠ 0) w⟩
    refine m1_col hME (by omega) (Or.inr q) (w217_e (hME.takeW1 (by omega) tw_time (sty (by omega)) q ⟨fun w => absurd w (by omega), fun _ => ?_⟩))
    rw [hME.2.1.1]
    exact hk _ _ (hME.at (k := vA V + 1) (by omega)) (eF.u (by omega))
  · have hnm : tk_nm b n (vA V) := by
      rcases hi with z | z
      · exact z
      · exact absurd z q
    repeat refine ⟨hr, ?_⟩
    intro c2 e2
    rw [ha, am_w_s (by omega)] at e2
    subst e2
    refine ⟨fun w => absurd rfl w, fun _ => ?_⟩
    -- the model behind the name
    have modn : ∀ (si : Nat) (s : ms_S) (d' : Nat) (P : Int → ms_S → Prop), ME s b n K R si V → 4 ≤ d' → (∀ (s2 : ms_S), ME s2 b n K R si (v_at V (vA V + 1)) → eF si s s2 → md_takeSign d' 46 s2 (fun v3 s3 => (v3 = 0 → mw (d' + 1) 217 (am_blk 217 2) [159, (tk_p b n (vA V) : Int), (vA V : Int), (-1), 0] [] s3 (fun v11 s11 => mw (d' + 1 + 1) 211 (am_blk 211 23) [159, (tk_p b n (vA V) : Int), v11, 0, 0, 0] [] s11 P)) ∧ (¬ (v3 = 0) → md_takeWord d' (-146) s3 (fun v4 s4 => (v4 ≠ 0 → mw (d' + 1) 217 (am_blk 217 2) [159, (tk_p b n (vA V) : Int), (vA V : Int), (s3 18 0), 0] [] s4 (fun v11 s11 => mw (d' + 1 + 1) 211 (am_blk 211 23) [159, (tk_p b n (vA V) : Int), v11, 0, 0, 0] [] s11 P)) ∧ (¬ (v4 ≠ 0) → md_name d' s4 (fun v5 s5 => mw (d' + 1) 217 (am_blk 217 2) [159, (tk_p b n (vA V) : Int), (vA V : Int), v5, 0] [] s5 (fun v11 s11 => mw (d' + 1 + 1) 211 (am_blk 211 23) [159, (tk_p b n (vA V) : Int), v11, 0, 0, 0] [] s11 P))))))) → md_one (d' + 1 + 1) s P := by
      intro si s d' P hME hd' hk
      refine m1_col hME (by omega) (Or.inl hnm) (w217_e (hME.takeW0 (by omega) tw_time (sty (by omega)) q ⟨fun _ => hME.name1 (by omega) hnm (hk _ (hME.at (k := vA V + 1) (by omega)) (eF.u (by omega))), fun w => absurd rfl w⟩))
    repeat refine ⟨hr1, ?_⟩
    refine k_eats h1 (by omega) (sty (by omega)) (fun qd => ⟨fun w => absurd w (by omega), fun _ => ?_⟩) (fun qd => ⟨fun _ => ?_, fun w => absurd rfl w⟩)
    · -- a point
      have hK1 : vA V + 1 < K := tk_is_lt h1.2.1.2.1 h1.le.1 qd
      have h2 : CE (c_u (c_u c 122 pl 0 ((vA V + 1 : Nat) : Int)) 122 pl 0 ((vA V + 1 + 1 : Nat) : Int)) pl b n K R (v_at V (vA V + 1 + 1)) := h1.at (k := vA V + 1 + 1) (by omega)
      have s2 := s1.tr (c_sm.u (W := eW pl R) (c_u c 122 pl 0 ((vA V + 1 : Nat) : Int)) (q := 122) (b := pl) (by unfold eW; omega) 0 ((vA V + 1 + 1 : Nat) : Int))
      have hr2 := h2.r
      have modp : ∀ (si : Nat) (s : ms_S) (d' : Nat) (P : Int → ms_S → Prop), ME s b n K R si V → 4 ≤ d' → (∀ (s3 : ms_S), ME s3 b n K R si (v_at V (vA V + 1 + 1)) → eF si s s3 → md_takeWord d' (-146) s3 (fun v4 s4 => (v4 ≠ 0 → mw (d' + 1) 217 (am_blk 217 2) [159, (tk_p b n (vA V) : Int), (vA V : Int), (s3 18 0), 0] [] s4 (fun v11 s11 => mw (d' + 1 + 1) 211 (am_blk 211 23) [159, (tk_p b n (vA V) : Int), v11, 0, 0, 0] [] s11 P)) ∧ (¬ (v4 ≠ 0) → md_name d' s4 (fun v5 s5 => mw (d' + 1) 217 (am_blk 217 2) [159, (tk_p b n (vA V) : Int), (vA V : Int), v5, 0] [] s5 (fun v11 s11 => mw (d' + 1 + 1) 211 (am_blk 211 23) [159, (tk_p b n (vA V) : Int), v11, 0, 0, 0] [] s11 P))))) → md_one (d' + 1 + 1) s P := by
        intro si s d' P hME hd' hk
        exact modn si s d' P hME hd' (fun s2 hME2 he2 => hME2.takeS1 (by omega) ts_46 qd ⟨fun w => absurd w (by omega), fun _ => hk _ (hME2.at (k := vA V + 1 + 1) (by omega)) (he2.tr (eF.u (by omega)))⟩)
      rw [show vA (v_at V (vA V + 1)) + 1 = vA V + 1 + 1 from rfl]
      repeat refine ⟨hr2, ?_⟩
      rw [h2.t.1, h2.2.2.1.1]
      -- behind it
      have yes : vA V + 1 + 1 < K → (∀ (si : Nat) (s : ms_S) (d' : Nat) (P : Int → ms_S → Prop), ME s b n K R si V → 4 ≤ d' → (∀ (s1 : ms_S) (x4 : Int), ME s1 b n K R si (v_at V (vA V + 3)) → eF si s s1 → mw (d' + 1) 217 (am_blk 217 2) [159, (tk_p b n (vA V) : Int), (vA V : Int), ((vA V + 2 : Nat) : Int), x4] [] s1 (fun v11 s11 => mw (d' + 1 + 1) 211 (am_blk 211 23) [159, (tk_p b n (vA V) : Int), v11, 0, 0, 0] [] s11 P)) → md_one (d' + 1 + 1) s P) → cw (d + 1) 65 (am_blk 65 1) [pl, (vA V : Int), 0, (-1)] [] (c_u (c_u c 122 pl 0 ((vA V + 1 : Nat) : Int)) 122 pl 0 ((vA V + 1 + 1 : Nat) : Int)) Q := by
        intro hK2 hm
        refine u65_1 ?_
        repeat refine ⟨hr2, ?_⟩
        intro c3 e3
        rw [h2.2.2.1.1] at e3 ⊢
        rw [show vA (v_at V (vA V + 1 + 1)) = vA V + 1 + 1 from rfl, am_w_s (by omega)] at e3
        have h3 : CE c3 pl b n K R (v_at V (vA V + 3)) := by rw [e3]; exact h2.at (k := vA V + 3) (by omega)
        exact b2 (vA V + 3) ((vA V + 2 : Nat) : Int) c3 _ h3 (s2.tr (by rw [e3]; exact c_sm.u _ (by unfold eW; omega) _ _)) (by omega) (Or.inr ⟨rfl, rfl⟩) hm
      refine ⟨h2.t.2, k_tname h2.2.1 h2.le.1 (fun q3 => ⟨fun _ => yes (tk_nm_lt h2.2.1.2.1 h2.le.1 q3) (fun si s d' P hME hd' hk => ?_), fun w => absurd (by omega : (1 : Int) ≠ 0) w⟩) (fun q3 => ⟨fun w => absurd rfl w, fun _ => ?_⟩)⟩
      · have nt : ¬ tk_is b n (vA V + 1 + 1) (st_str (-28)) := tk_nm_ne q3 tkn_time
        refine modp si s d' P hME hd' (fun s3 hME3 he3 => hME3.takeW0 (by omega) tw_time (sty (by omega)) nt ⟨fun w => absurd rfl w, fun _ => hME3.name1 (by omega) q3 ?_⟩)
        exact hk _ _ (hME3.at (k := vA V + 3) (by have := tk_nm_lt h2.2.1.2.1 h2.le.1 q3; have : vA V + 1 + 1 < K := this; omega)) (he3.tr (eF.u (by omega)))
      · repeat refine ⟨hr2, ?_⟩
        refine k_is h2 (by omega) (sty (by omega)) (fun q4 => ⟨fun _ => yes (tk_is_lt h2.2.1.2.1 h2.le.1 q4) (fun si s d' P hME hd' hk => ?_), fun w => absurd (by omega : (1 : Int) ≠ 0) w⟩) (fun q4 => ⟨fun w => absurd rfl w, fun _ => ?_⟩)
        · refine modp si s d' P hME hd' (fun s3 hME3 he3 => hME3.takeW1 (by omega) tw_time (sty (by omega)) q4 ⟨fun _ => ?_, fun w => absurd (by omega : (1 : Int) ≠ 0) w⟩)
          rw [hME3.2.1.1]
          exact hk _ _ (hME3.at (k := vA V + 3) (by have := tk_is_lt h2.2.1.2.1 h2.le.1 q4; have : vA V + 1 + 1 < K := this; omega)) (he3.tr (eF.u (by omega)))
        · repeat refine ⟨hr2, ?_⟩
          refine k_failTok h2 (by omega) (kk _ _ (s2.tr c_fl_sm) (Or.inr ⟨1, tk_p b n (vA V + 1 + 1), h2.cf (by omega), fun si s D P hME hD hP => ?_⟩))
          obtain ⟨d', rfl⟩ : ∃ d', D = d' + 1 + 1 := ⟨D - 2, by omega⟩
          refine modp si s d' P hME (by omega) (fun s3 hME3 he3 => hME3.takeW0 (by omega) tw_time (sty (by omega)) q4 ⟨fun w => absurd rfl w, fun _ => hME3.name0 (by omega) q3 ?_⟩)
          exact o_mcolf hME3.mf (he3.tr eF.fl) (by omega) hP
    · refine b2 (vA V + 1) (-1) _ _ h1 s1 (by omega) (Or.inl ⟨rfl, rfl⟩) (fun si s d' P hME hd' hk => ?_)
      exact modn si s d' P hME hd' (fun s2 hME2 he2 => hME2.takeS0 (by omega) ts_46 qd ⟨fun _ => hk _ _ hME2 he2, fun w => absurd rfl w⟩)
end
