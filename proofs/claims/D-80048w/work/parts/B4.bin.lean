set_option maxRecDepth 100000
/-! readers: acts between their sides, each -/
def op_part (b : Int → Int) (n k : Nat) (act : Int) : Prop := (tk_is b n k (st_str (-60)) ∧ act = 19) ∨ (tk_is b n k (st_str (-62)) ∧ act = 20) ∨ (tk_is b n k (st_str (-64)) ∧ act = 21)
def op_sum (b : Int → Int) (n k : Nat) (act : Int) : Prop := (tk_is b n k (st_str (-66)) ∧ act = 17) ∨ (tk_is b n k (st_str (-42)) ∧ act = 18)
def op_and (b : Int → Int) (n k : Nat) (act : Int) : Prop := tk_is b n k (st_str (-84)) ∧ act = 5
def op_or (b : Int → Int) (n k : Nat) (act : Int) : Prop := tk_is b n k (st_str (-86)) ∧ act = 4
theorem sty {y : Int} (h : y ≤ -10 ∧ -200 ≤ y ∧ y % 2 = 0) : st_is y := h
section
variable {L B : Nat}
theorem r_part (hB : 6 ≤ B) (hS : rX tk_bs kplan_readSign md_sign B L) : rX tk_bs kplan_readPart md_part (B + 1) L := by
  refine r_loop (op := op_part) (kL := fun d pl x1 x2 x3 x4 c Q => cw (d + 1) 61 (am_blk 61 1) [pl, x1, x2, x3, x4] [] c Q) (mL := fun d x1 x2 y3 y4 y5 s P => mw (d + 1) 208 (am_blk 208 1) [159, x1, x2, y3, y4, y5] [] s P) hB hS ?_ ?_ ?_ ?_ ?_ ?_ ?_ ?_ ?_
  · intro b n k act h
    rcases h with h | h | h
    · exact ⟨by omega, _, h.1⟩
    · exact ⟨by omega, _, h.1⟩
    · exact ⟨by omega, _, h.1⟩
  · intro d pl c Q hr hk
    refine u61_e ?_
    repeat refine ⟨hr, ?_⟩
    exact cw.mono hk (fun v c1 h => h 0 0)
  · intro d s P hk
    exact w208_e (mw.mono hk (fun v s1 h => h 0 0 0))
  · intro d pl b n K R c V x1 x2 x3 x4 Q h hd hop hq
    have hr := h.r
    refine u61_1 ⟨hr, k_is h (by omega) (sty (by omega)) (fun q => absurd (Or.inl ⟨q, rfl⟩) (hop 19)) (fun _ => ⟨fun w => absurd rfl w, fun _ => ⟨hr, k_is h (by omega) (sty (by omega)) (fun q => absurd (Or.inr (Or.inl ⟨q, rfl⟩)) (hop 20)) (fun _ => ⟨fun w => absurd rfl w, fun _ => ⟨hr, k_is h (by omega) (sty (by omega)) (fun q => absurd (Or.inr (Or.inr ⟨q, rfl⟩)) (hop 21)) (fun _ => ⟨fun _ => hq, fun w => absurd rfl w⟩)⟩⟩)⟩⟩)⟩
  · intro d pl b n K R c V x1 x2 x3 x4 act Q h hd hop hk
    have hr := h.r
    have hl := h.le
    have ha := h.2.2.1.1
    have fin : ∀ x3 x4 : Int, cw (d + 1) 61 (am_blk 61 5) [pl, x1, x2, (vA V : Int), x4] [act] c Q := by
      intro x3 x4
      refine u61_5 ?_
      repeat refine ⟨hr, ?_⟩
      intro c1 e1
      rw [ha, am_w_s (by omega)] at e1
      refine ⟨by rw [e1]; exact hr, ?_⟩
      rw [e1]
      exact cw.mono hk (fun v c2 h2 => ⟨h2.1, cw.mono h2.2 (fun v3 c3 h3 => h3 _ _)⟩)
    have b2 : ∀ x3 x4 : Int, cw (d + 1) 61 (am_blk 61 2) [pl, x1, x2, x3, x4] [] c Q := by
      intro x3 x4
      refine u61_2 ?_
      repeat refine ⟨hr, ?_⟩
      rw [ha]
      refine k_is h (by omega) (sty (by omega)) (fun q => ⟨fun w => absurd w (by omega), fun _ => ?_⟩) (fun q => ⟨fun _ => ?_, fun w => absurd rfl w⟩)
      · have : act = 19 := by
          rcases hop with z | z | z
          · exact z.2
          · exfalso; have a1 := ts_42.mp q; have a2 := ts_47.mp z.1; omega
          · exfalso; have a1 := ts_42.mp q; have a2 := ts_37.mp z.1; omega
        subst this; exact fin 0 _
      · repeat refine ⟨hr, ?_⟩
        refine k_is h (by omega) (sty (by omega)) (fun q2 => ⟨fun w => absurd w (by omega), fun _ => ?_⟩) (fun q2 => ⟨fun _ => ?_, fun w => absurd rfl w⟩)
        · have : act = 20 := by
            rcases hop with z | z | z
            · exact absurd z.1 q
            · exact z.2
            · exfalso; have a1 := ts_47.mp q2; have a2 := ts_37.mp z.1; omega
          subst this; exact fin 0 _
        · have : act = 21 := by
            rcases hop with z | z | z
            · exact absurd z.1 q
            · exact absurd z.1 q2
            · exact z.2
          subst this; exact fin 0 _
    refine u61_1 ⟨hr, k_is h (by omega) (sty (by omega)) (fun q => ⟨fun _ => b2 _ _, fun w => absurd (by omega : (1 : Int) ≠ 0) w⟩) (fun q => ⟨fun w => absurd rfl w, fun _ => ⟨hr, k_is h (by omega) (sty (by omega)) (fun q => ⟨fun _ => b2 _ _, fun w => absurd (by omega : (1 : Int) ≠ 0) w⟩) (fun q2 => ⟨fun w => absurd rfl w, fun _ => ⟨hr, k_is h (by omega) (sty (by omega)) (fun q => ⟨fun w => absurd w (by omega), fun _ => b2 _ _⟩) (fun q3 => ?_)⟩⟩)⟩⟩)⟩
    exfalso
    rcases hop with z | z | z
    · exact q z.1
    · exact q2 z.1
    · exact q3 z.1
  · intro d pl f p c x1 x2 x3 x4 Q h hd hq
    have hr := h.1
    exact u61_1 ⟨hr, k_is0 h (by omega) ⟨fun w => absurd rfl w, fun _ => ⟨hr, k_is0 h (by omega) ⟨fun w => absurd rfl w, fun _ => ⟨hr, k_is0 h (by omega) ⟨fun _ => hq, fun w => absurd rfl w⟩⟩⟩⟩⟩⟩
  · intro d b n K R si s V x1 x2 y3 y4 y5 P h hd hop hp
    exact w208_1 (h.isS0 ts_42 (fun q => hop 19 (Or.inl ⟨q, rfl⟩)) ⟨fun w => absurd rfl w, fun _ => h.isS0 ts_47 (fun q => hop 20 (Or.inr (Or.inl ⟨q, rfl⟩))) ⟨fun w => absurd rfl w, fun _ => h.isS0 ts_37 (fun q => hop 21 (Or.inr (Or.inr ⟨q, rfl⟩))) ⟨fun _ s4 e4 => by rw [e4]; exact hp, fun w => absurd rfl w⟩⟩⟩)
  · intro d b n K R si s V x1 x2 y3 y4 y5 act P h hd hop hk
    have hl := h.le
    have ha := h.2.1.1
    have hso := h.so
    have hpl := h.pl
    have fin : ∀ y3 y4 y5 : Int, mw (d + 1) 208 (am_blk 208 5) [159, x1, x2, (tk_p b n (vA V) : Int), y4, y5] [mk_kind act 0] s P := by
      intro y3 y4 y5
      refine w208_5 (fun s1 e1 => ?_)
      rw [ha, am_w_s (by omega)] at e1
      rw [e1]
      exact mw.mono hk (fun v s2 h2 => mw.mono h2 (fun v2 s3 h3 => h3 _ _ _))
    have b2 : ∀ y3 y4 y5 : Int, mw (d + 1) 208 (am_blk 208 2) [159, x1, x2, y3, y4, y5] [] s P := by
      intro y3 y4 y5
      refine w208_2 ⟨by omega, by omega, by omega, by omega, ?_⟩
      rw [hso, hpl]
      rcases hop with ⟨z, rfl⟩ | ⟨z, rfl⟩ | ⟨z, rfl⟩
      · have := ts_42.mp z
        exact ⟨fun w => absurd this w, fun _ => fin 0 _ _⟩
      · have := ts_47.mp z
        exact ⟨fun _ => ⟨by omega, by omega, fun w => absurd this w, fun _ => fin 0 _ _⟩, fun w => absurd (by omega) w⟩
      · have := ts_37.mp z
        exact ⟨fun _ => ⟨by omega, by omega, fun _ => fin 0 _ _, fun w => absurd (by omega) w⟩, fun w => absurd (by omega) w⟩
    by_cases q1 : tk_is b n (vA V) (st_str (-60))
    · exact w208_1 (h.isS1 ts_42 q1 ⟨fun _ => b2 _ _ _, fun w => absurd (by omega : (1 : Int) ≠ 0) w⟩)
    · by_cases q2 : tk_is b n (vA V) (st_str (-62))
      · exact w208_1 (h.isS0 ts_42 q1 ⟨fun w => absurd rfl w, fun _ => h.isS1 ts_47 q2 ⟨fun _ => b2 _ _ _, fun w => absurd (by omega : (1 : Int) ≠ 0) w⟩⟩)
      · have q3 : tk_is b n (vA V) (st_str (-64)) := by
          rcases hop with z | z | z
          · exact absurd z.1 q1
          · exact absurd z.1 q2
          · exact z.1
        exact w208_1 (h.isS0 ts_42 q1 ⟨fun w => absurd rfl w, fun _ => h.isS0 ts_47 q2 ⟨fun w => absurd rfl w, fun _ => h.isS1 ts_37 q3 ⟨fun w => absurd w (by omega), fun _ => b2 _ _ _⟩⟩⟩)
  · intro d f p s x1 x2 y3 y4 y5 P h hd hp
    exact w208_1 (h.isS ⟨fun w => absurd rfl w, fun _ => h.isS ⟨fun w => absurd rfl w, fun _ => h.isS ⟨fun _ s4 e4 => by rw [e4]; exact hp, fun w => absurd rfl w⟩⟩⟩)
theorem r_sum (hB : 6 ≤ B) (hS : rX tk_bs kplan_readPart md_part B L) : rX tk_bs kplan_readSum md_sum (B + 1) L := by
  refine r_loop (op := op_sum) (kL := fun d pl x1 x2 x3 x4 c Q => cw (d + 1) 60 (am_blk 60 1) [pl, x1, x2, x3, x4] [] c Q) (mL := fun d x1 x2 y3 y4 y5 s P => mw (d + 1) 207 (am_blk 207 1) [159, x1, x2, y3, y4, y5] [] s P) hB hS ?_ ?_ ?_ ?_ ?_ ?_ ?_ ?_ ?_
  · intro b n k act h
    rcases h with h | h
    · exact ⟨by omega, _, h.1⟩
    · exact ⟨by omega, _, h.1⟩
  · intro d pl c Q hr hk
    refine u60_e ?_
    repeat refine ⟨hr, ?_⟩
    exact cw.mono hk (fun v c1 h => h 0 0)
  · intro d s P hk
    exact w207_e (mw.mono hk (fun v s1 h => h 0 0 0))
  · intro d pl b n K R c V x1 x2 x3 x4 Q h hd hop hq
    have hr := h.r
    exact u60_1 ⟨hr, k_is h (by omega) (sty (by omega)) (fun q => absurd (Or.inl ⟨q, rfl⟩) (hop 17)) (fun _ => ⟨fun w => absurd rfl w, fun _ => ⟨hr, k_is h (by omega) (sty (by omega)) (fun q => absurd (Or.inr ⟨q, rfl⟩) (hop 18)) (fun _ => ⟨fun _ => hq, fun w => absurd rfl w⟩)⟩⟩)⟩
  · intro d pl b n K R c V x1 x2 x3 x4 act Q h hd hop hk
    have hr := h.r
    have hl := h.le
    have ha := h.2.2.1.1
    have fin : ∀ x4 : Int, cw (d + 1) 60 (am_blk 60 4) [pl, x1, x2, (vA V : Int), x4] [act] c Q := by
      intro x4
      refine u60_4 ?_
      repeat refine ⟨hr, ?_⟩
      intro c1 e1
      rw [ha, am_w_s (by omega)] at e1
      refine ⟨by rw [e1]; exact hr, ?_⟩
      rw [e1]
      exact cw.mono hk (fun v c2 h2 => ⟨h2.1, cw.mono h2.2 (fun v3 c3 h3 => h3 _ _)⟩)
    have b2 : ∀ x3 x4 : Int, cw (d + 1) 60 (am_blk 60 2) [pl, x1, x2, x3, x4] [] c Q := by
      intro x3 x4
      refine u60_2 ?_
      repeat refine ⟨hr, ?_⟩
      rw [ha]
      refine k_is h (by omega) (sty (by omega)) (fun q => ⟨fun w => absurd w (by omega), fun _ => ?_⟩) (fun q => ⟨fun _ => ?_, fun w => absurd rfl w⟩)
      · have : act = 17 := by
          rcases hop with z | z
          · exact z.2
          · exfalso; have a1 := ts_43.mp q; have a2 := ts_45.mp z.1; omega
        subst this; exact fin _
      · have : act = 18 := by
          rcases hop with z | z
          · exact absurd z.1 q
          · exact z.2
        subst this; exact fin _
    refine u60_1 ⟨hr, k_is h (by omega) (sty (by omega)) (fun q => ⟨fun _ => b2 _ _, fun w => absurd (by omega : (1 : Int) ≠ 0) w⟩) (fun q => ⟨fun w => absurd rfl w, fun _ => ⟨hr, k_is h (by omega) (sty (by omega)) (fun q => ⟨fun w => absurd w (by omega), fun _ => b2 _ _⟩) (fun q2 => ?_)⟩⟩)⟩
    exfalso
    rcases hop with z | z
    · exact q z.1
    · exact q2 z.1
  · intro d pl f p c x1 x2 x3 x4 Q h hd hq
    have hr := h.1
    exact u60_1 ⟨hr, k_is0 h (by omega) ⟨fun w => absurd rfl w, fun _ => ⟨hr, k_is0 h (by omega) ⟨fun _ => hq, fun w => absurd rfl w⟩⟩⟩⟩
  · intro d b n K R si s V x1 x2 y3 y4 y5 P h hd hop hp
    exact w207_1 (h.isS0 ts_43 (fun q => hop 17 (Or.inl ⟨q, rfl⟩)) ⟨fun w => absurd rfl w, fun _ => h.isS0 ts_45 (fun q => hop 18 (Or.inr ⟨q, rfl⟩)) ⟨fun _ s4 e4 => by rw [e4]; exact hp, fun w => absurd rfl w⟩⟩)
  · intro d b n K R si s V x1 x2 y3 y4 y5 act P h hd hop hk
    have hl := h.le
    have ha := h.2.1.1
    have hso := h.so
    have hpl := h.pl
    have fin : ∀ y4 y5 : Int, mw (d + 1) 207 (am_blk 207 4) [159, x1, x2, (tk_p b n (vA V) : Int), y4, y5] [mk_kind act 0] s P := by
      intro y4 y5
      refine w207_4 (fun s1 e1 => ?_)
      rw [ha, am_w_s (by omega)] at e1
      rw [e1]
      exact mw.mono hk (fun v s2 h2 => mw.mono h2 (fun v2 s3 h3 => h3 _ _ _))
    have b2 : ∀ y3 y4 y5 : Int, mw (d + 1) 207 (am_blk 207 2) [159, x1, x2, y3, y4, y5] [] s P := by
      intro y3 y4 y5
      refine w207_2 ⟨by omega, by omega, by omega, by omega, ?_⟩
      rw [hso, hpl]
      rcases hop with ⟨z, rfl⟩ | ⟨z, rfl⟩
      · have := ts_43.mp z
        exact ⟨fun w => absurd this w, fun _ => fin _ _⟩
      · have := ts_45.mp z
        exact ⟨fun _ => fin _ _, fun w => absurd (by omega) w⟩
    by_cases q1 : tk_is b n (vA V) (st_str (-66))
    · exact w207_1 (h.isS1 ts_43 q1 ⟨fun _ => b2 _ _ _, fun w => absurd (by omega : (1 : Int) ≠ 0) w⟩)
    · have q3 : tk_is b n (vA V) (st_str (-42)) := by
        rcases hop with z | z
        · exact absurd z.1 q1
        · exact z.1
      exact w207_1 (h.isS0 ts_43 q1 ⟨fun w => absurd rfl w, fun _ => h.isS1 ts_45 q3 ⟨fun w => absurd w (by omega), fun _ => b2 _ _ _⟩⟩)
  · intro d f p s x1 x2 y3 y4 y5 P h hd hp
    exact w207_1 (h.isS ⟨fun w => absurd rfl w, fun _ => h.isS ⟨fun _ s4 e4 => by rw [e4]; exact hp, fun w => absurd rfl w⟩⟩)
theorem r_and (hB : 6 ≤ B) (hS : rX bgE kplan_readNot md_notExpr B L) : rX bgE kplan_readAnd md_andExpr (B + 1) L := by
  refine r_loop (op := op_and) (kL := fun d pl x1 x2 x3 x4 c Q => cw (d + 1) 57 (am_blk 57 1) [pl, x1, x2, x3] [] c Q) (mL := fun d x1 x2 y3 y4 y5 s P => mw (d + 1) 204 (am_blk 204 1) [159, x1, x2, y3, y4] [] s P) hB hS ?_ ?_ ?_ ?_ ?_ ?_ ?_ ?_ ?_
  · intro b n k act h
    exact ⟨by have := h.2; omega, _, h.1⟩
  · intro d pl c Q hr hk
    refine u57_e ?_
    repeat refine ⟨hr, ?_⟩
    exact cw.mono hk (fun v c1 h => h 0 0)
  · intro d s P hk
    exact w204_e (mw.mono hk (fun v s1 h => h 0 0 0))
  · intro d pl b n K R c V x1 x2 x3 x4 Q h hd hop hq
    have hr := h.r
    exact u57_1 ⟨hr, k_is h (by omega) (sty (by omega)) (fun q => absurd ⟨q, rfl⟩ (hop 5)) (fun _ => ⟨fun _ => hq, fun w => absurd rfl w⟩)⟩
  · intro d pl b n K R c V x1 x2 x3 x4 act Q h hd hop hk
    have hr := h.r
    have hl := h.le
    have ha := h.2.2.1.1
    obtain ⟨z, rfl⟩ := hop
    refine u57_1 ⟨hr, k_is h (by omega) (sty (by omega)) (fun q => ⟨fun w => absurd w (by omega), fun _ => ?_⟩) (fun q => absurd z q)⟩
    repeat refine ⟨hr, ?_⟩
    intro c2 e2
    rw [ha, am_w_s (by omega)] at e2
    refine ⟨by rw [e2]; exact hr, ?_⟩
    rw [e2, ha]
    exact cw.mono hk (fun v c2 h2 => ⟨h2.1, cw.mono h2.2 (fun v3 c3 h3 => h3 _ 0)⟩)
  · intro d pl f p c x1 x2 x3 x4 Q h hd hq
    exact u57_1 ⟨h.1, k_is0 h (by omega) ⟨fun _ => hq, fun w => absurd rfl w⟩⟩
  · intro d b n K R si s V x1 x2 y3 y4 y5 P h hd hop hp
    exact w204_1 ⟨fun w => absurd (h.2.1.2.2.1.symm.trans w) (by decide), fun _ => h.isW0 (by omega) tw_and (sty (by omega)) (fun q => hop 5 ⟨q, rfl⟩) ⟨fun _ => w204_2 (fun s1 e1 => by rw [e1]; exact hp), fun w => absurd rfl w⟩⟩
  · intro d b n K R si s V x1 x2 y3 y4 y5 act P h hd hop hk
    have hl := h.le
    have ha := h.2.1.1
    have hpl := h.pl
    obtain ⟨z, rfl⟩ := hop
    refine w204_1 ⟨fun w => absurd (h.2.1.2.2.1.symm.trans w) (by decide), fun _ => h.isW1 (by omega) tw_and (sty (by omega)) z ⟨fun w => absurd w (by omega), fun _ => ⟨by omega, by omega, fun s2 e2 => ?_⟩⟩⟩
    rw [ha, am_w_s (by omega)] at e2
    rw [e2, hpl]
    exact mw.mono hk (fun v s2 h2 => mw.mono h2 (fun v2 s3 h3 => h3 _ _ 0))
  · intro d f p s x1 x2 y3 y4 y5 P h hd hp
    exact w204_1 ⟨fun _ => w204_2 (fun s1 e1 => by rw [e1]; exact hp), fun w => absurd h.1 w⟩
theorem r_or (hB : 6 ≤ B) (hS : rX bgE kplan_readAnd md_andExpr B L) : rX bgE kplan_readExpression md_expr (B + 1) L := by
  refine r_loop (op := op_or) (kL := fun d pl x1 x2 x3 x4 c Q => cw (d + 1) 56 (am_blk 56 1) [pl, x1, x2, x3] [] c Q) (mL := fun d x1 x2 y3 y4 y5 s P => mw (d + 1) 203 (am_blk 203 1) [159, x1, x2, y3, y4] [] s P) hB hS ?_ ?_ ?_ ?_ ?_ ?_ ?_ ?_ ?_
  · intro b n k act h
    exact ⟨by have := h.2; omega, _, h.1⟩
  · intro d pl c Q hr hk
    refine u56_e ?_
    repeat refine ⟨hr, ?_⟩
    exact cw.mono hk (fun v c1 h => h 0 0)
  · intro d s P hk
    exact w203_e (mw.mono hk (fun v s1 h => h 0 0 0))
  · intro d pl b n K R c V x1 x2 x3 x4 Q h hd hop hq
    have hr := h.r
    exact u56_1 ⟨hr, k_is h (by omega) (sty (by omega)) (fun q => absurd ⟨q, rfl⟩ (hop 4)) (fun _ => ⟨fun _ => hq, fun w => absurd rfl w⟩)⟩
  · intro d pl b n K R c V x1 x2 x3 x4 act Q h hd hop hk
    have hr := h.r
    have hl := h.le
    have ha := h.2.2.1.1
    obtain ⟨z, rfl⟩ := hop
    refine u56_1 ⟨hr, k_is h (by omega) (sty (by omega)) (fun q => ⟨fun w => absurd w (by omega), fun _ => ?_⟩) (fun q => absurd z q)⟩
    repeat refine ⟨hr, ?_⟩
    intro c2 e2
    rw [ha, am_w_s (by omega)] at e2
    refine ⟨by rw [e2]; exact hr, ?_⟩
    rw [e2, ha]
    exact cw.mono hk (fun v c2 h2 => ⟨h2.1, cw.mono h2.2 (fun v3 c3 h3 => h3 _ 0)⟩)
  · intro d pl f p c x1 x2 x3 x4 Q h hd hq
    exact u56_1 ⟨h.1, k_is0 h (by omega) ⟨fun _ => hq, fun w => absurd rfl w⟩⟩
  · intro d b n K R si s V x1 x2 y3 y4 y5 P h hd hop hp
    exact w203_1 ⟨fun w => absurd (h.2.1.2.2.1.symm.trans w) (by decide), fun _ => h.isW0 (by omega) tw_or (sty (by omega)) (fun q => hop 4 ⟨q, rfl⟩) ⟨fun _ => w203_2 (fun s1 e1 => by rw [e1]; exact hp), fun w => absurd rfl w⟩⟩
  · intro d b n K R si s V x1 x2 y3 y4 y5 act P h hd hop hk
    have hl := h.le
    have ha := h.2.1.1
    have hpl := h.pl
    obtain ⟨z, rfl⟩ := hop
    refine w203_1 ⟨fun w => absurd (h.2.1.2.2.1.symm.trans w) (by decide), fun _ => h.isW1 (by omega) tw_or (sty (by omega)) z ⟨fun w => absurd w (by omega), fun _ => ⟨by omega, by omega, fun s2 e2 => ?_⟩⟩⟩
    rw [ha, am_w_s (by omega)] at e2
    rw [e2, hpl]
    exact mw.mono hk (fun v s2 h2 => mw.mono h2 (fun v2 s3 h3 => h3 _ _ 0))
  · intro d f p s x1 x2 y3 y4 y5 P h hd hp
    exact w203_1 ⟨fun _ => w203_2 (fun s1 e1 => by rw [e1]; exact hp), fun w => absurd h.1 w⟩
/-! with a fault nothing is read -/
theorem f_one : rF kplan_readOne 2 := by
  intro pl f p c D Q h hD hq
  obtain ⟨d, rfl⟩ : ∃ d', D = d' + 1 := ⟨D - 1, by omega⟩
  exact u63_e ⟨h.1, k_good0 h.1 h.nz ⟨fun w => absurd rfl w, fun _ => hq⟩⟩
theorem f_sign : rF kplan_readSign 3 := by
  intro pl f p c D Q h hD hq
  obtain ⟨d, rfl⟩ : ∃ d', D = d' + 1 := ⟨D - 1, by omega⟩
  exact u62_e ⟨h.1, k_is0 h (by omega) ⟨fun w => absurd rfl w, fun _ => ⟨h.1, f_one pl f p c d _ h (by omega) hq⟩⟩⟩
theorem f_part : rF kplan_readPart 4 := by
  intro pl f p c D Q h hD hq
  obtain ⟨d, rfl⟩ : ∃ d', D = d' + 1 := ⟨D - 1, by omega⟩
  refine u61_e ?_
  have hr := h.1
  repeat refine ⟨hr, ?_⟩
  exact f_sign pl f p c d _ h (by omega) (u61_1 ⟨hr, k_is0 h (by omega) ⟨fun w => absurd rfl w, fun _ => ⟨hr, k_is0 h (by omega) ⟨fun w => absurd rfl w, fun _ => ⟨hr, k_is0 h (by omega) ⟨fun _ => hq, fun w => absurd rfl w⟩⟩⟩⟩⟩⟩)
theorem f_sum : rF kplan_readSum 5 := by
  intro pl f p c D Q h hD hq
  obtain ⟨d, rfl⟩ : ∃ d', D = d' + 1 := ⟨D - 1, by omega⟩
  refine u60_e ?_
  have hr := h.1
  repeat refine ⟨hr, ?_⟩
  exact f_part pl f p c d _ h (by omega) (u60_1 ⟨hr, k_is0 h (by omega) ⟨fun w => absurd rfl w, fun _ => ⟨hr, k_is0 h (by omega) ⟨fun _ => hq, fun w => absurd rfl w⟩⟩⟩⟩)
theorem f_comp {pl f p : Int} {c : cs_S} {D : Nat} {Q : Int → cs_S → Prop} (h : CF c pl f p) (hD : 3 ≤ D) (hq : Q (-1) c) : kplan_comparison D pl c Q := by
  obtain ⟨d, rfl⟩ : ∃ d', D = d' + 1 := ⟨D - 1, by omega⟩
  have hr := h.1
  exact u71_e ⟨hr, k_is0 h (by omega) ⟨fun _ => ⟨hr, k_is0 h (by omega) ⟨fun _ => ⟨hr, k_is0 h (by omega) ⟨fun _ => ⟨hr, k_is0 h (by omega) ⟨fun _ => ⟨hr, k_is0 h (by omega) ⟨fun _ => ⟨hr, k_is0 h (by omega) ⟨fun _ => u71_7 hq, fun w => absurd rfl w⟩⟩, fun w => absurd rfl w⟩⟩, fun w => absurd rfl w⟩⟩, fun w => absurd rfl w⟩⟩, fun w => absurd rfl w⟩⟩, fun w => absurd rfl w⟩⟩
theorem f_test : rF kplan_readTest 6 := by
  intro pl f p c D Q h hD hq
  obtain ⟨d, rfl⟩ : ∃ d', D = d' + 1 := ⟨D - 1, by omega⟩
  have hr := h.1
  refine u59_e ?_
  repeat refine ⟨hr, ?_⟩
  refine f_sum pl f p c d _ h (by omega) ?_
  repeat refine ⟨hr, ?_⟩
  refine f_comp h (by omega) ⟨fun _ => ?_, fun w => absurd (by omega) w⟩
  repeat refine ⟨hr, ?_⟩
  refine k_eats0 h (by omega) ⟨fun _ => ?_, fun w => absurd rfl w⟩
  repeat refine ⟨hr, ?_⟩
  refine k_eats0 h (by omega) ⟨fun _ => u59_5 ?_, fun w => absurd rfl w⟩
  repeat refine ⟨hr, ?_⟩
  exact k_eats0 h (by omega) ⟨fun w => absurd rfl w, fun _ => hq⟩
theorem f_not : rF kplan_readNot 7 := by
  intro pl f p c D Q h hD hq
  obtain ⟨d, rfl⟩ : ∃ d', D = d' + 1 := ⟨D - 1, by omega⟩
  exact u58_e ⟨h.1, k_is0 h (by omega) ⟨fun w => absurd rfl w, fun _ => ⟨h.1, f_test pl f p c d _ h (by omega) hq⟩⟩⟩
theorem f_and : rF kplan_readAnd 8 := by
  intro pl f p c D Q h hD hq
  obtain ⟨d, rfl⟩ : ∃ d', D = d' + 1 := ⟨D - 1, by omega⟩
  refine u57_e ?_
  have hr := h.1
  repeat refine ⟨hr, ?_⟩
  exact f_not pl f p c d _ h (by omega) (u57_1 ⟨hr, k_is0 h (by omega) ⟨fun _ => hq, fun w => absurd rfl w⟩⟩)
theorem f_or : rF kplan_readExpression 9 := by
  intro pl f p c D Q h hD hq
  obtain ⟨d, rfl⟩ : ∃ d', D = d' + 1 := ⟨D - 1, by omega⟩
  refine u56_e ?_
  have hr := h.1
  repeat refine ⟨hr, ?_⟩
  exact f_and pl f p c d _ h (by omega) (u56_1 ⟨hr, k_is0 h (by omega) ⟨fun _ => hq, fun w => absurd rfl w⟩⟩)
/-- the model: likewise a sum -/
theorem mf_one : mF0 md_one 1 := by
  intro f p s D P h hD hp
  obtain ⟨d, rfl⟩ : ∃ d', D = d' + 1 := ⟨D - 1, by omega⟩
  have := h.2.2.2
  exact w211_e ⟨by omega, by omega, fun w => absurd h.1 w, fun _ => hp _ s (fun _ _ _ => rfl)⟩
theorem mf_sign : mF0 md_sign 2 := by
  intro f p s D P h hD hp
  obtain ⟨d, rfl⟩ : ∃ d', D = d' + 1 := ⟨D - 1, by omega⟩
  exact w209_e (h.isS ⟨fun w => absurd rfl w, fun _ => mf_one f p s d _ h (by omega) (fun v s' e => hp v s' e)⟩)
theorem mf_part : mF0 md_part 3 := by
  intro f p s D P h hD hp
  obtain ⟨d, rfl⟩ : ∃ d', D = d' + 1 := ⟨D - 1, by omega⟩
  refine w208_e (mf_sign f p s d _ h (by omega) (fun v s1 e1 => ?_))
  have h1 : MF s1 f p := h.fr (fun q h1 h2 => e1 q 0 (by omega))
  exact w208_1 (h1.isS ⟨fun w => absurd rfl w, fun _ => h1.isS ⟨fun w => absurd rfl w, fun _ => h1.isS ⟨fun _ s4 e4 => hp _ s4 (fun q j hq => by rw [e4, ms_u_f _ _ _ hq]; exact e1 q j hq), fun w => absurd rfl w⟩⟩⟩)
theorem mf_sum : mF0 md_sum 4 := by
  intro f p s D P h hD hp
  obtain ⟨d, rfl⟩ : ∃ d', D = d' + 1 := ⟨D - 1, by omega⟩
  refine w207_e (mf_part f p s d _ h (by omega) (fun v s1 e1 => ?_))
  have h1 : MF s1 f p := h.fr (fun q h1 h2 => e1 q 0 (by omega))
  exact w207_1 (h1.isS ⟨fun w => absurd rfl w, fun _ => h1.isS ⟨fun _ s4 e4 => hp _ s4 (fun q j hq => by rw [e4, ms_u_f _ _ _ hq]; exact e1 q j hq), fun w => absurd rfl w⟩⟩)
end
