set_option maxRecDepth 100000
/-! readers: EXPR, all of it -/
section
variable {L B B' : Nat}
theorem m1_bad {b : Int → Int} {n K si d' : Nat} {R : Int} {V : pV} {s : ms_S} {P : Int → ms_S → Prop} (h : ME s b n K R si V) (hd : 5 ≤ d') (n1 : tk_s b n (vA V) ≠ 2) (n2 : ¬ tk_is b n (vA V) (st_str (-32))) (n3 : ¬ tk_is b n (vA V) (st_str (-34))) (n4 : ¬ tk_is b n (vA V) (st_str (-30))) (n5 : ¬ tk_nm b n (vA V)) (n6 : ¬ tk_is b n (vA V) (st_str (-28))) (n7 : ¬ tk_is b n (vA V) (st_str (-36))) (n8 : ¬ tk_is b n (vA V) (st_str (-38))) (n9 : ¬ tk_is b n (vA V) (st_str (-40))) (n10 : ¬ tk_ag b n (vA V)) (hP : ∀ v' s', MF s' 1 (tk_p b n (vA V)) → eF si s s' → P v' s') : md_one (d' + 1) s P := by
  refine m1_n3 h (by omega) ⟨n1, n4, n2, n3⟩ ?_
  refine h.isS0 ts_40 n7 ⟨fun _ => ?_, fun w => absurd rfl w⟩
  refine h.isW0 (by omega) tw_case (sty (by omega)) n8 ⟨fun _ => ?_, fun w => absurd rfl w⟩
  refine h.isW0 (by omega) tw_span (sty (by omega)) n9 ⟨fun _ => ?_, fun w => absurd rfl w⟩
  refine h.isW0 (by omega) tw_count (sty (by omega)) (fun q => n10 (Or.inl q)) ⟨fun w => absurd rfl w, fun _ => ?_⟩
  refine h.isW0 (by omega) tw_sum (sty (by omega)) (fun q => n10 (Or.inr (Or.inl q))) ⟨fun w => absurd rfl w, fun _ => ?_⟩
  refine h.isW0 (by omega) tw_min (sty (by omega)) (fun q => n10 (Or.inr (Or.inr (Or.inl q)))) ⟨fun w => absurd rfl w, fun _ => ?_⟩
  refine h.isW0 (by omega) tw_max (sty (by omega)) (fun q => n10 (Or.inr (Or.inr (Or.inr q)))) ⟨fun _ => ?_, fun w => absurd rfl w⟩
  obtain ⟨e, rfl⟩ : ∃ e, d' = e + 1 := ⟨d' - 1, by omega⟩
  have hf := h.mf (f := 1) (p := (tk_p b n (vA V) : Int))
  exact w217_e (h.takeW0 (by omega) tw_time (sty (by omega)) n6 ⟨fun _ => h.name0 (by omega) n5 (hf.takeS (by omega) ⟨fun _ => o_mcolf hf eF.fl (by omega) hP, fun w => absurd rfl w⟩), fun w => absurd rfl w⟩)
theorem r_one (hB : 10 ≤ B) (hB' : B' + 1 ≤ B) (hE : ∀ L', L = L' + 1 → rX bgE kplan_readExpression md_expr B' L') : rX tk_bs kplan_readOne md_one (B + 2) L := by
  intro pl b n K R c V D Q h hL hD kk0
  obtain ⟨d, rfl⟩ : ∃ d', D = d' + 1 := ⟨D - 1, by omega⟩
  have hr := h.r
  have hl := h.le
  have ha := h.2.2.1.1
  have hf0 := h.2.2.1.2.2.1
  have kk : ∀ v c', c_sm (eW pl R) c c' → rP tk_bs md_one (B + 1) pl b n K R V v c' → Q v c' := by
    intro v c' s hP
    refine kk0 v c' s ?_
    rcases hP with ⟨V', g1, g2, g3, g4⟩ | ⟨f, p, g1, g2⟩
    · exact Or.inl ⟨V', g1, g2, g3, fun si s D P hME hD hP => g4 si s D P hME (by omega) hP⟩
    · exact Or.inr ⟨f, p, g1, fun si s D P hME hD hP => g2 si s D P hME (by omega) hP⟩
  refine u63_e ⟨hr, k_good1 hr hf0 ⟨fun _ => ?_, fun w => absurd (by omega : (1 : Int) ≠ 0) w⟩⟩
  repeat refine ⟨hr, ?_⟩
  rw [ha, h.t.1]
  have lit : (tk_s b n (vA V) = 2 ∨ tk_is b n (vA V) (st_str (-32)) ∨ tk_is b n (vA V) (st_str (-34))) → cw (d + 1) 63 (am_blk 63 2) [pl, (vA V : Int), 0, 0] [] c Q := by
    intro hi
    have hK : vA V < K := by
      rcases hi with q | q | q
      · by_cases cc : vA V = K
        · have := h.2.1.2.1.2; rw [← cc] at this; omega
        · omega
      · exact tk_is_lt h.2.1.2.1 hl.1 q
      · exact tk_is_lt h.2.1.2.1 hl.1 q
    exact o_lit (by omega) (by omega) h hi hK kk
  have col : (tk_nm b n (vA V) ∨ tk_is b n (vA V) (st_str (-28))) → cw (d + 1) 63 (am_blk 63 11) [pl, (vA V : Int), 0, 0] [] c Q := fun hi => u63_11 ⟨hr, o_col (by omega) (by omega) h hi kk⟩
  have agg : tk_ag b n (vA V) → cw (d + 1) 63 (am_blk 63 17) [pl, (vA V : Int), 0, 0] [] c Q := fun hi => u63_17 ⟨hr, o_agg hB hB' hE h hL (by omega) hi kk⟩
  refine ⟨h.t.2, k_tnum h.2.1 hl.1 (fun q => ⟨fun _ => lit (Or.inl q), fun w => absurd (by omega : (1 : Int) ≠ 0) w⟩) (fun n1 => ⟨fun w => absurd rfl w, fun _ => ⟨hr, ?_⟩⟩)⟩
  refine k_is h (by omega) (sty (by omega)) (fun q => ⟨fun _ => lit (Or.inr (Or.inl q)), fun w => absurd (by omega : (1 : Int) ≠ 0) w⟩) (fun n2 => ⟨fun w => absurd rfl w, fun _ => ⟨hr, ?_⟩⟩)
  refine k_is h (by omega) (sty (by omega)) (fun q => ⟨fun w => absurd w (by omega), fun _ => lit (Or.inr (Or.inr q))⟩) (fun n3 => ⟨fun _ => ⟨hr, ?_⟩, fun w => absurd rfl w⟩)
  refine k_is h (by omega) (sty (by omega)) (fun q => ⟨fun w => absurd w (by omega), fun _ => ?_⟩) (fun n4 => ⟨fun _ => ?_, fun w => absurd rfl w⟩)
  · have hK := tk_is_lt h.2.1.2.1 hl.1 q
    repeat refine ⟨hr, ?_⟩
    intro c2 e2
    rw [ha, am_w_s (by omega)] at e2
    refine ⟨by rw [e2]; exact hr, ?_⟩
    rw [e2]
    exact o_null (by omega) (by omega) h q hK kk
  · repeat refine ⟨hr, ?_⟩
    rw [ha, h.t.1]
    refine ⟨h.t.2, k_tname h.2.1 hl.1 (fun q => ⟨fun _ => col (Or.inl q), fun w => absurd (by omega : (1 : Int) ≠ 0) w⟩) (fun n5 => ⟨fun w => absurd rfl w, fun _ => ⟨hr, ?_⟩⟩)⟩
    refine k_is h (by omega) (sty (by omega)) (fun q => ⟨fun w => absurd w (by omega), fun _ => col (Or.inr q)⟩) (fun n6 => ⟨fun _ => ⟨hr, ?_⟩, fun w => absurd rfl w⟩)
    refine k_is h (by omega) (sty (by omega)) (fun q => ⟨fun w => absurd w (by omega), fun _ => ⟨hr, o_par (by omega) (by omega) hE h hL (by omega) q kk⟩⟩) (fun n7 => ⟨fun _ => ⟨hr, ?_⟩, fun w => absurd rfl w⟩)
    refine k_is h (by omega) (sty (by omega)) (fun q => ⟨fun w => absurd w (by omega), fun _ => ⟨hr, o_case (by omega) (by omega) hE h hL (by omega) q kk⟩⟩) (fun n8 => ⟨fun _ => ⟨hr, ?_⟩, fun w => absurd rfl w⟩)
    refine k_is h (by omega) (sty (by omega)) (fun q => ⟨fun w => absurd w (by omega), fun _ => ⟨hr, o_span (by omega) (by omega) hE h hL (by omega) q kk⟩⟩) (fun n9 => ⟨fun _ => ⟨hr, ?_⟩, fun w => absurd rfl w⟩)
    refine k_is h (by omega) (sty (by omega)) (fun q => ⟨fun _ => agg (Or.inl q), fun w => absurd (by omega : (1 : Int) ≠ 0) w⟩) (fun g1 => ⟨fun w => absurd rfl w, fun _ => ⟨hr, ?_⟩⟩)
    refine k_is h (by omega) (sty (by omega)) (fun q => ⟨fun _ => agg (Or.inr (Or.inl q)), fun w => absurd (by omega : (1 : Int) ≠ 0) w⟩) (fun g2 => ⟨fun w => absurd rfl w, fun _ => ⟨hr, ?_⟩⟩)
    refine k_is h (by omega) (sty (by omega)) (fun q => ⟨fun _ => agg (Or.inr (Or.inr (Or.inl q))), fun w => absurd (by omega : (1 : Int) ≠ 0) w⟩) (fun g3 => ⟨fun w => absurd rfl w, fun _ => ⟨hr, ?_⟩⟩)
    refine k_is h (by omega) (sty (by omega)) (fun q => ⟨fun w => absurd w (by omega), fun _ => agg (Or.inr (Or.inr (Or.inr q)))⟩) (fun g4 => ⟨fun _ => ⟨hr, ?_⟩, fun w => absurd rfl w⟩)
    refine k_failTok h (by omega) (kk _ _ c_fl_sm (mFa.rP (f := 1) (p := (tk_p b n (vA V) : Int)) ?_ (h.cf (by omega))))
    intro si s d' P hME hd' hP
    refine m1_bad hME (by omega) n1 n2 n3 n4 n5 n6 n7 n8 n9 ?_ hP
    rintro (q | q | q | q)
    · exact g1 q
    · exact g2 q
    · exact g3 q
    · exact g4 q
end
/-- EXPR at a level -/
def rB (L : Nat) : Nat := 12 * L + 22
theorem r_all : ∀ L : Nat, rX bgE kplan_readExpression md_expr (rB L) L ∧ rX bgE kplan_readNot md_notExpr (12 * L + 20) L ∧ rX tk_bs kplan_readSign md_sign (12 * L + 16) L := by
  intro L
  induction L with
  | zero =>
    have h1 := r_one (L := 0) (B := 13) (B' := 0) (by omega) (by omega) (fun L' e => by omega)
    have h2 := r_sign (L := 0) (B := 15) (B' := 0) (by omega) (by omega) h1 (fun L' e => by omega)
    have h3 := r_part (by omega) h2
    have h4 := r_sum (by omega) h3
    have h5 := r_test (by omega) h4
    have h6 := r_not (L := 0) (B := 19) (B' := 0) (by omega) (by omega) h5 (fun L' e => by omega)
    have h7 := r_and (by omega) h6
    exact ⟨r_or (by omega) h7, h6, h2⟩
  | succ L ih =>
    obtain ⟨i1, i2, i3⟩ := ih
    have h1 := r_one (L := L + 1) (B := 12 * (L + 1) + 13) (B' := rB L) (by omega) (by unfold rB; omega) (fun L' e => by cases e; exact i1)
    have h2 := r_sign (L := L + 1) (B := 12 * (L + 1) + 15) (B' := 12 * L + 16) (by omega) (by omega) h1 (fun L' e => by cases e; exact i3)
    have h3 := r_part (by omega) h2
    have h4 := r_sum (by omega) h3
    have h5 := r_test (by omega) h4
    have h6 := r_not (L := L + 1) (B := 12 * (L + 1) + 19) (B' := 12 * L + 20) (by omega) (by omega) h5 (fun L' e => by cases e; exact i2)
    have h7 := r_and (by omega) h6
    exact ⟨r_or (by omega) h7, h6, h2⟩
