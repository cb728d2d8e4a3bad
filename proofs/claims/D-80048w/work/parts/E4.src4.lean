set_option maxRecDepth 100000
/-! readers: SOURCES, streams, read; SOURCES all -/
/-- behind its name -/
def rsK (d : Nat) (x0 x1 x2 x3 x4 v1 : Int) (Q : Int → cs_S → Prop) (c5 : cs_S) : Prop := c_r c5 x1 = 1009 ∧ c_r c5 (c_v c5 369 x1 0) = 869 ∧ 0 ≤ x4 ∧ x4 < c_l c5 (c_v c5 369 x1 0) ∧ ∀ c6, c6 = c_u c5 869 (c_v c5 369 x1 0) x4 (-1) → c_r c6 x0 = 1003 ∧ kplan_eats d x0 (-92) c6 (fun v2 c7 => (v2 = 0 → cw (d + 1) 75 (am_blk 75 10) [x0, x1, x2, x3, x4, 1, v1, 0] [] c7 Q) ∧ (¬ (v2 = 0) → c_r c7 x0 = 1003 ∧ c_r c7 x0 = 1003 ∧ c_r c7 (c_v c7 120 x0 0) = 1004 ∧ ktok_isNumber d (c_v c7 120 x0 0) (c_v c7 122 x0 0) c7 (fun v3 c8 => (v3 ≠ 0 → c_r c8 x1 = 1009 ∧ c_r c8 x0 = 1003 ∧ c_r c8 x0 = 1003 ∧ c_r c8 (c_v c8 120 x0 0) = 1004 ∧ ktok_number d (c_v c8 120 x0 0) (c_v c8 122 x0 0) c8 (fun v4 c9 => c_r c9 (c_v c8 369 x1 0) = 869 ∧ 0 ≤ x4 ∧ x4 < c_l c9 (c_v c8 369 x1 0) ∧ ∀ c10, c10 = c_u c9 869 (c_v c8 369 x1 0) x4 v4 → c_r c10 x0 = 1003 ∧ c_r c10 x0 = 1003 ∧ ∀ c11, c11 = c_u c10 122 x0 0 (am_w ((c_v c10 122 x0 0) + 1)) → cw (d + 1) 75 (am_blk 75 10) [x0, x1, x2, x3, x4, 1, v1, 0] [] c11 Q)) ∧ (¬ (v3 ≠ 0) → c_r c8 x0 = 1003 ∧ kplan_failToken d x0 c8 (fun _ c12 => Q 0 c12)))))
section
variable {L B B' : Nat} {pl : Int} {b : Int → Int} {n K : Nat} {Z : gZ} {U : tV} {i : Nat} {r : vSel} {k0 m00 k00 : Nat} {jn : Int} {lf : Bool} {OS : Int → Prop} {OQ : Nat → Int → Prop} {c : cs_S} {d : Nat} {Q : Int → cs_S → Prop}
theorem lf01 (lf : Bool) : ((if lf = true then 1 else 0 : Int) = 0 ∨ (if lf = true then 1 else 0 : Int) = 1) := by cases lf <;> decide
theorem tk_2_lt {k : Nat} (hK : tk_K b n K) (hk : k ≤ K) (h : tk_s b n k = 2) : k < K := by
  by_cases cc : k = K
  · have := hK.2
    rw [← cc] at this
    omega
  · omega
theorem tk_w_y {k : Nat} (h : 0 < (tk_w b n k).length) : tk_p b n k + (tk_w b n k).length ≤ tk_p b n (k + 1) := by
  have hl : (tk_w b n k).length = tk_e b n k - tk_p b n k := by unfold tk_w tk_tx; simp
  have hp : tk_p b n k < n := by
    rcases tk_form (b := b) (n := n) (k := k) with q | q
    · rw [q.2.2] at h; simp at h
    · exact q.1
  have := tk_e_le hp
  omega
/-- the end: its name, then join, left -/
theorem rs_10 (kk : ∀ c' Z', tU pl OS OQ c Z c' Z' → cov OS OQ c' pl Z' m00 k00 → ZT c' pl Z' → oP L (B + 1) pl b n K U i r k0 jn lf c' Z' → Q 0 c') {c1 : cs_S} {U1 : tV} {tok nm : Nat} {keep x5 x7 : Int} (h : SE c1 pl b n K Z U1 i r k0) (hmk : m00 ≤ i) (u : tU pl OS OQ c Z c1 Z) (cv : cov OS OQ c1 pl Z m00 k00) (l3 : (s_src r).length < 3) (h1 : c_v c1 868 (zs Z i + 6) ((s_src r).length : Int) = (tok : Int)) (h2 : c_v c1 869 (zs Z i + 7) ((s_src r).length : Int) = keep)
    (wx : wX U U1) (sb : srB K b n (qrB (wY U1) K b n L) (wP b n U) (wP b n U1) ((none, tok, keep, nm), (jn, lf, -2))) (bd : bd3 U U1 L ∧ vS (wV U) < vS (wV U1)) (hm : mEn (fun s => SM s b n K U i r k0) (fun D s P => md_source D i (if lf = true then 1 else 0) (m_pl b n jn) s P) (B + 1) (fun s _ s' => SM s' b n K U1 i (r_src r ((none, tok, keep, nm), (jn, lf, -2))) k0 ∧ qF i k0 s s')) : cw (d + 1) 75 (am_blk 75 10) [pl, zs Z i, jn, if lf = true then 1 else 0, ((s_src r).length : Int), x5, (nm : Int), x7] [] c1 Q := by
  obtain ⟨hsl, hiz, -⟩ := h.sl
  have f8 : c_v c1 370 (zs Z i) 0 = zs Z i + 8 ∧ c_r c1 (zs Z i + 8) = 870 ∧ c_l c1 (zs Z i + 8) = 4 := hsl.2 (370, 8, 4) (by decide)
  have hr := h.ce.r
  refine u75_10 ⟨hr, k_good1 hr h.ce.2.2.1.2.2.1 ⟨fun w => absurd w (by omega), fun _ => ⟨hsl.1, by rw [f8.1]; exact f8.2.1, by omega, by rw [f8.1]; omega, fun c2 e2 => ?_⟩⟩⟩
  rw [f8.1] at e2
  have h2' : SE c2 pl b n K Z U1 i r k0 := by rw [e2]; exact h.s1 (by omega) (by omega) (by omega)
  refine rs_11 h2'.sl.1 (by omega) h2'.sel.2.2.1.1 (lf01 lf) ?_
  have fin := h2'.srs (tok := tok) (nm := nm) (keep := keep) (jn := jn) (lf := lf) l3 (by rw [e2, c_u_q (by decide)]; exact h1) (by rw [e2, c_u_q (by decide)]; exact h2) (by rw [e2, c_u_eq])
  have sF : c_sm (sOw (zs Z i)) c1 (c_u (c_u (c_u c2 871 (zs Z i + 9) ((s_src r).length : Int) jn) 872 (zs Z i + 10) ((s_src r).length : Int) (if lf = true then 1 else 0)) 365 (zs Z i) 0 (((s_src r).length + 1 : Nat) : Int)) := by
    rw [e2]
    exact (((c_sm.u _ (sOw_a (by decide) (by omega) (by omega)) _ _).tr (c_sm.u _ (sOw_a (by decide) (by omega) (by omega)) _ _)).tr (c_sm.u _ (sOw_a (by decide) (by omega) (by omega)) _ _)).tr (c_sm.u _ (sOw_f (by decide)) _ _)
  obtain ⟨w1, w2, w3⟩ := h.ow (sF.mono (fun q a w => sOw_own (pl := pl) w)) cv hmk
  exact kk _ Z (u.tr w1) w2 w3 (Or.inl ⟨U1, _, fin, wx, ⟨rfl, rfl, rfl⟩, sb, bd, hm⟩)
theorem rs_6 (hB : 10 ≤ B) (h : SE c pl b n K Z U i r k0) (n1 : ¬ tk_is b n (vA (wV U)) (st_str (-36))) (q : tk_st b n (vA (wV U))) (hS : vS (wV U) ≤ 3) (hsrc : (s_src r).length ≤ vS (wV U)) (hmk : m00 ≤ i) (hc : cov OS OQ c pl Z m00 k00) (hD : B ≤ d)
    (kk : ∀ c' Z', tU pl OS OQ c Z c' Z' → cov OS OQ c' pl Z' m00 k00 → ZT c' pl Z' → oP L (B + 1) pl b n K U i r k0 jn lf c' Z' → Q 0 c') : cw (d + 1) 75 (am_blk 75 6) [pl, zs Z i, jn, if lf = true then 1 else 0, ((s_src r).length : Int), 0, 0, 0] [1] c Q := by
  have hce := h.ce
  have hl := hce.le
  have hr := hce.r
  have ha := hce.2.2.1.1
  have hK : vA (wV U) < K := tk_nm_lt hce.2.1.2.1 hl.1 q.1
  have hb3 := h.bd.2.1
  obtain ⟨hsl, hiz, h237⟩ := h.sl
  have hso : c_v c 126 pl 0 = (vS (wV U) : Int) := hce.2.2.1.2.2.2.2.2.1
  refine u75_6 ⟨fun _ => ⟨hr, fun w => ⟨hr, hr, fun c1 e1 => ?_⟩, fun w => ⟨hr, hr, ?_⟩⟩, fun w => absurd (by omega : (1 : Int) ≠ 0) w⟩
  · rw [hso] at w e1
    have hlt : vS (wV U) < 3 := by omega
    have l3 : (s_src r).length < 3 := by omega
    rw [am_w_s (by omega)] at e1
    have h1 : SE c1 pl b n K Z (w_v U (v_src (wV U) (vS (wV U) + 1))) i r k0 := by rw [e1]; exact h.src
    have f6 : c_v c1 368 (zs Z i) 0 = zs Z i + 6 ∧ c_r c1 (zs Z i + 6) = 868 ∧ c_l c1 (zs Z i + 6) = 4 := h1.sl.1.2 (368, 6, 4) (by decide)
    have ea1 : c_v c1 122 pl 0 = (vA (wV U) : Int) := h1.ce.2.2.1.1
    rw [f6.1, ea1]
    refine ⟨h1.sl.1.1, h1.ce.r, f6.2.1, by omega, by rw [f6.2.2]; omega, fun c2 e2 => ?_⟩
    have h2 : SE c2 pl b n K Z (w_v U (v_src (wV U) (vS (wV U) + 1))) i r k0 := by rw [e2]; exact h1.s1 (by decide) (by omega) (by omega)
    have ea2 : c_v c2 122 pl 0 = (vA (wV U) : Int) := h2.ce.2.2.1.1
    refine ⟨h2.ce.r, h2.ce.r, fun c3 e3 => ?_⟩
    rw [ea2, am_w_s (by omega)] at e3
    have h3 : SE c3 pl b n K Z (w_v U (v_at (v_src (wV U) (vS (wV U) + 1)) (vA (wV U) + 1))) i r k0 := by rw [e3]; exact h2.at (k := vA (wV U) + 1) (by omega)
    have s3 : c_sm (sWr pl (zs Z i)) c c3 := by
      rw [e3, e2, e1]
      exact ((pf_own (by decide)).tr ((c_sm.u _ (sOw_a (A := zs Z i) (by decide) (by omega) (by omega)) _ _).mono (fun q a w => sOw_own (pl := pl) w))).tr (pf_own (by decide))
    have v3 : c_v c3 868 (zs Z i + 6) ((s_src r).length : Int) = (vA (wV U) : Int) := by rw [e3, c_u_q (by decide), e2, c_u_eq]
    -- the model
    have T0 : mGo (fun s => SM s b n K U i r k0) (fun D s P => md_source D i (if lf = true then 1 else 0) (m_pl b n jn) s P) B (fun s s1 => SM s1 b n K (w_v U (v_at (v_src (wV U) (vS (wV U) + 1)) (vA (wV U) + 1))) i r k0 ∧ (s1 49 ((3 * i + (s_src r).length : Nat) : Int) = (tk_w b n (vA (wV U))).getD 1 0 - 48 ∧ s1 50 ((3 * i + (s_src r).length : Nat) : Int) = (tk_p b n (vA (wV U)) : Int)) ∧ qF i k0 s s1) (fun d' s P => mw (d' + 1) 220 (am_blk 220 8) [159, (i : Int), if lf = true then 1 else 0, m_pl b n jn, ((3 * i + (s_src r).length : Nat) : Int), 0, 0] [] s P) :=
      fun s d' P hs hd hk => so_st hs (by omega) n1 q (fun w => by omega) (fun _ s' g1 g2 g3 => hk s' ⟨g1, g2, g3⟩) hS hsrc hK
    generalize hU3 : w_v U (v_at (v_src (wV U) (vS (wV U) + 1)) (vA (wV U) + 1)) = U3 at h3 T0
    have hx3 : wV U3 = v_at (v_src (wV U) (vS (wV U) + 1)) (vA (wV U) + 1) ∧ U3.2 = U.2 := by rw [← hU3]; exact ⟨rfl, rfl⟩
    have xA3 : vA (wV U3) = vA (wV U) + 1 := by rw [hx3.1]; rfl
    have h3l := h3.ce.le
    -- faults
    have ff : ∀ (c4 : cs_S) (f p : Int) (v1 : Int), CF c4 pl f p → c_sm (sWr pl (zs Z i)) c c4 → c_v c4 365 (zs Z i) 0 = ((s_src r).length : Int) → mEn (fun s => SM s b n K U i r k0) (fun D s P => md_source D i (if lf = true then 1 else 0) (m_pl b n jn) s P) (B + 1) (fun s _ s' => MF s' f p ∧ qF i k0 s s') → rsK d pl (zs Z i) jn (if lf = true then 1 else 0) ((s_src r).length : Int) v1 Q c4 := by
      intro c4 f p v1 hf s4 hs4 hm
      obtain ⟨w1, w2, w3⟩ := h.ow s4 hc hmk
      have sl4 := (w3.2.2.1.2.2.2.1 i hiz).2
      have f7 : c_v c4 369 (zs Z i) 0 = zs Z i + 7 ∧ c_r c4 (zs Z i + 7) = 869 ∧ c_l c4 (zs Z i + 7) = 4 := sl4.2 (369, 7, 4) (by decide)
      refine ⟨sl4.1, by rw [f7.1]; exact f7.2.1, by omega, by rw [f7.1]; omega, fun c6 e6 => ?_⟩
      rw [f7.1] at e6
      have s6 : c_sm (sOw (zs Z i)) c4 c6 := by rw [e6]; exact c_sm.u _ (sOw_a (by decide) (by omega) (by omega)) _ _
      obtain ⟨hf6, hz6⟩ := hf.own w3 s6
      obtain ⟨y1, y2, y3⟩ := own_u w3 (s6.mono (fun q a w => sOw_own (pl := pl) w)) w2 hmk hiz
      refine ⟨hf6.1, k_eats0 hf6 (by omega) ⟨fun _ => u75_10 ⟨hf6.1, k_good0 hf6.1 hf6.nz ⟨fun _ => ?_, fun w => absurd rfl w⟩⟩, fun w => absurd rfl w⟩⟩
      exact os_ff kk hmk hf6 hz6 (w1.tr y1) y2 hiz (by omega) (by rw [e6, c_u_q (by decide)]; exact hs4) hm
    have ob : ∀ (q : Nat) (s : ms_S) (v : Int), 49 ≤ q → q ≤ 58 → oF i s (ms_u s q ((3 * i + (s_src r).length : Nat) : Int) v) := fun q s v h1 h2 => oF.u (Or.inl (Or.inr (Or.inr ⟨⟨h1, h2⟩, by omega, by omega⟩)))
    refine ⟨h3.ce.r, k_want h3.ce (by omega) (sty (by decide)) (fun q3 => ?_) (fun q3 => ?_)⟩
    · have hK3 := tk_is_lt h3.ce.2.1.2.1 h3l.1 q3
      have h4 := h3.at (k := vA (wV U3) + 1) (by omega)
      have s4 : c_sm (sWr pl (zs Z i)) c (c_u c3 122 pl 0 ((vA (wV U3) + 1 : Nat) : Int)) := s3.tr (pf_own (by decide))
      have hs4 := h4.sel.2.2.1.1
      refine ⟨h4.ce.r, k_wantName h4.ce (by omega) (fun q4 => ?_) (fun q4 v1 => ?_)⟩
      · have q4 : tk_nm b n (vA (wV U3) + 1) := q4
        have hK4 : vA (wV U3) + 1 < K := tk_nm_lt h3.ce.2.1.2.1 (by omega) q4
        have h5 : SE _ pl b n K Z (w_v U3 (v_at (wV U3) (vA (wV U3) + 2))) i r k0 := h4.at (k := vA (wV U3) + 2) (by omega)
        have s5 : c_sm (sWr pl (zs Z i)) c (c_u (c_u c3 122 pl 0 ((vA (wV U3) + 1 : Nat) : Int)) 122 pl 0 ((vA (wV U3) + 2 : Nat) : Int)) := s4.tr (pf_own (by decide))
        have v5 : c_v (c_u (c_u c3 122 pl 0 ((vA (wV U3) + 1 : Nat) : Int)) 122 pl 0 ((vA (wV U3) + 2 : Nat) : Int)) 868 (zs Z i + 6) ((s_src r).length : Int) = (vA (wV U) : Int) := by rw [c_u_q (by decide), c_u_q (by decide)]; exact v3
        show rsK d pl (zs Z i) jn (if lf = true then 1 else 0) ((s_src r).length : Int) ((vA (wV U3) + 1 : Nat) : Int) Q (c_u (c_u c3 122 pl 0 ((vA (wV U3) + 1 : Nat) : Int)) 122 pl 0 ((vA (wV U3) + 2 : Nat) : Int))
        generalize (c_u (c_u c3 122 pl 0 ((vA (wV U3) + 1 : Nat) : Int)) 122 pl 0 ((vA (wV U3) + 2 : Nat) : Int)) = c5 at h5 s5 v5
        generalize hU5 : w_v U3 (v_at (wV U3) (vA (wV U3) + 2)) = U5 at h5
        have hx5 : wV U5 = v_at (wV U3) (vA (wV U3) + 2) ∧ U5.2 = U3.2 := by rw [← hU5]; exact ⟨rfl, rfl⟩
        have hw5 : wm U5 = wm U ∧ wq U5 = wq U ∧ wS U5 = wS U ∧ wQ U5 = wQ U := by
          have e : U5.2 = U.2 := by rw [hx5.2, hx3.2]
          unfold wm wq wS wQ
          rw [e]; exact ⟨rfl, rfl, rfl, rfl⟩
        have vv : vT (wV U5) = vT (wV U) ∧ vB (wV U5) = vB (wV U) ∧ vN (wV U5) = vN (wV U) ∧ vS (wV U5) = vS (wV U) + 1 ∧ vM (wV U5) = vM (wV U) ∧ vG (wV U5) = vG (wV U) ∧ vD (wV U5) = vD (wV U) ∧ vA (wV U5) = vA (wV U) + 3 := by
          rw [hx5.1, hx3.1]; exact ⟨rfl, rfl, rfl, rfl, rfl, rfl, rfl, rfl⟩
        obtain ⟨yT, yB, yN, yS, yM, yG, yD, yA⟩ := vv
        have k1 := tk_w_y (b := b) (n := n) (k := vA (wV U)) (by rw [(tk_st_iff.mp q).2.1]; omega)
        rw [(tk_st_iff.mp q).2.1] at k1
        have k2 := tk_is_y q3 (by decide +kernel)
        have k2' : (st_str (-88)).length = 2 := by decide +kernel
        have k3 := tk_p_1 h3.ce.2.1.2.1 hK4
        rw [k2', xA3] at k2
        rw [xA3] at k3
        have py5 : tk_p b n (vA (wV U)) + 5 ≤ tk_p b n (vA (wV U5)) := by
          rw [yA, show vA (wV U) + 3 = vA (wV U) + 1 + 1 + 1 from rfl]
          omega
        -- what all ends have
        have wx : ∀ U1 : tV, U1.2 = U5.2 → (wV U1).2 = (wV U5).2 → vA (wV U5) ≤ vA (wV U1) → (vS (wV U1) = vS (wV U5) ∧ vM (wV U1) = vM (wV U5) ∧ vD (wV U1) = vD (wV U5)) → wX U U1 ∧ bd3 U U1 L ∧ vS (wV U) < vS (wV U1) ∧ (wm U1 = wm U ∧ wq U1 = wq U ∧ vN (wV U1) = vN (wV U)) := by
          intro U1 a1 a2 a3 a4
          have hw1 : wm U1 = wm U ∧ wq U1 = wq U ∧ wS U1 = wS U ∧ wQ U1 = wQ U := by
            have e : U1.2 = U.2 := by rw [a1, hx5.2, hx3.2]
            unfold wm wq wS wQ
            rw [e]; exact ⟨rfl, rfl, rfl, rfl⟩
          have eN : vN (wV U1) = vN (wV U5) := by unfold vN; rw [a2]
          have eT : vT (wV U1) = vT (wV U5) := by unfold vT; rw [a2]
          have eB : vB (wV U1) = vB (wV U5) := by unfold vB; rw [a2]
          have eG : vG (wV U1) = vG (wV U5) := by unfold vG; rw [a2]
          refine ⟨⟨⟨by omega, by omega, fun e he => by rw [eT, eB, yT, yB]; exact ⟨rfl, rfl⟩⟩, ⟨by omega, fun j _ => by rw [hw1.2.2.1]⟩, ⟨by omega, fun j _ => by rw [hw1.2.2.2]⟩, by omega, by rw [a4.2.1, yM], by rw [eG, yG]⟩, ⟨by omega, by omega, by omega, by omega⟩, by omega, hw1.1, hw1.2.1, by omega⟩
        obtain ⟨f0, f7, f7', -⟩ : True ∧ True ∧ True ∧ True := ⟨trivial, trivial, trivial, trivial⟩
        have f7 : c_v c5 369 (zs Z i) 0 = zs Z i + 7 ∧ c_r c5 (zs Z i + 7) = 869 ∧ c_l c5 (zs Z i + 7) = 4 := h5.sl.1.2 (369, 7, 4) (by decide)
        refine ⟨h5.sl.1.1, by rw [f7.1]; exact f7.2.1, by omega, by rw [f7.1]; omega, fun c6 e6 => ?_⟩
        rw [f7.1] at e6
        have h6 : SE c6 pl b n K Z U5 i r k0 := by rw [e6]; exact h5.s1 (by decide) (by omega) (by omega)
        have s6 : c_sm (sWr pl (zs Z i)) c c6 := s5.tr (by rw [e6]; exact (c_sm.u _ (sOw_a (A := zs Z i) (by decide) (by omega) (by omega)) _ _).mono (fun q a w => sOw_own (pl := pl) w))
        have v6 : c_v c6 868 (zs Z i + 6) ((s_src r).length : Int) = (vA (wV U) : Int) := by rw [e6, c_u_q (by decide)]; exact v5
        have g6 : c_v c6 869 (zs Z i + 7) ((s_src r).length : Int) = -1 := by rw [e6, c_u_eq]
        have h6l := h6.ce.le
        have dig := (tk_st_iff.mp q).2.2.2
        -- the model up to keep
        have T1 : mGo (fun s => SM s b n K U i r k0) (fun D s P => md_source D i (if lf = true then 1 else 0) (m_pl b n jn) s P) B (fun s s1 => SM s1 b n K U5 i r k0 ∧ (s1 49 ((3 * i + (s_src r).length : Nat) : Int) = (tk_w b n (vA (wV U))).getD 1 0 - 48 ∧ s1 50 ((3 * i + (s_src r).length : Nat) : Int) = (tk_p b n (vA (wV U)) : Int) ∧ s1 55 ((3 * i + (s_src r).length : Nat) : Int) = ((vA (wV U3) + 1 : Nat) : Int) ∧ s1 57 ((3 * i + (s_src r).length : Nat) : Int) = m_pl b n jn ∧ s1 51 ((3 * i + (s_src r).length : Nat) : Int) = 0 ∧ s1 56 ((3 * i + (s_src r).length : Nat) : Int) = (if lf = true then 1 else 0)) ∧ qF i k0 s s1) (fun d' s' P => md_takeWord d' (-172) s' (fun v1 s6 => (v1 = 0 → mw (d' + 1) 220 (am_blk 220 13) [159, i, if lf = true then 1 else 0, m_pl b n jn, ((3 * i + (s_src r).length : Nat) : Int), ((vA (wV U3) + 1 : Nat) : Int), 0] [] s6 P) ∧ (¬ (v1 = 0) → 0 ≤ (s6 18 0) ∧ (s6 18 0) < 2001 ∧ ((s6 14 (s6 18 0)) = 2 → 0 ≤ ((3 * i + (s_src r).length : Nat) : Int) ∧ ((3 * i + (s_src r).length : Nat) : Int) < 180 ∧ ∀ s7, s7 = ms_u s6 51 ((3 * i + (s_src r).length : Nat) : Int) (am_i2b 1) → 0 ≤ (s7 18 0) ∧ (s7 18 0) < 2001 ∧ 0 ≤ ((3 * i + (s_src r).length : Nat) : Int) ∧ ((3 * i + (s_src r).length : Nat) : Int) < 180 ∧ ∀ s8, s8 = ms_u s7 52 ((3 * i + (s_src r).length : Nat) : Int) (s7 17 (s7 18 0)) → ∀ s9, s9 = ms_u s8 18 0 (am_w ((s8 18 0) + 1)) → mw (d' + 1) 220 (am_blk 220 13) [159, i, if lf = true then 1 else 0, m_pl b n jn, ((3 * i + (s_src r).length : Nat) : Int), ((vA (wV U3) + 1 : Nat) : Int), 0] [] s9 P) ∧ (¬ ((s6 14 (s6 18 0)) = 2) → md_wrong d' s6 (fun _ s10 => P 0 s10))))) := by
          refine T0.go (fun s0 s d' P _ hr hd hk => so_as hr.1 (by omega) q3 q4 (by rw [hr.2.1.1]; omega) l3 hK4 (lf01 lf) (fun s' g1 g2 g3 => hk s' ⟨by rw [hU5] at g1; exact g1, ⟨g2.1.trans hr.2.1.1, g2.2.1.trans hr.2.1.2, g2.2.2⟩, hr.2.2.tr (g3.qf (Nat.le_refl _) hr.1.i60)⟩))
        refine ⟨h6.ce.r, k_eats h6.ce (by omega) (sty (by decide)) (fun q5 => ⟨fun w => absurd w (by omega), fun _ => ?_⟩) (fun q5 => ⟨fun _ => ?_, fun w => absurd rfl w⟩)⟩
        · have hK5 := tk_is_lt h6.ce.2.1.2.1 h6l.1 q5
          have h7 := h6.at (k := vA (wV U5) + 1) (by omega)
          have s7 : c_sm (sWr pl (zs Z i)) c (c_u c6 122 pl 0 ((vA (wV U5) + 1 : Nat) : Int)) := s6.tr (pf_own (by decide))
          have v7 : c_v (c_u c6 122 pl 0 ((vA (wV U5) + 1 : Nat) : Int)) 868 (zs Z i + 6) ((s_src r).length : Int) = (vA (wV U) : Int) := by rw [c_u_q (by decide)]; exact v6
          generalize hc7 : c_u c6 122 pl 0 ((vA (wV U5) + 1 : Nat) : Int) = c7 at h7 s7 v7
          have ha7 : c_v c7 122 pl 0 = ((vA (wV U5) + 1 : Nat) : Int) := h7.ce.2.2.1.1
          have ht7 := h7.ce.t
          rw [ht7.1, ha7]
          refine ⟨h7.ce.r, h7.ce.r, ht7.2, k_tnum h7.ce.2.1 (by omega) (fun q6 => ⟨fun _ => ?_, fun w => absurd (by omega : (1 : Int) ≠ 0) w⟩) (fun q6 => ⟨fun w => absurd rfl w, fun _ => ⟨h7.ce.r, ?_⟩⟩)⟩
          · have hK6 : vA (wV U5) + 1 < K := tk_2_lt h7.ce.2.1.2.1 (by omega) q6
            rw [ht7.1, ha7]
            refine ⟨h7.sl.1.1, h7.ce.r, h7.ce.r, ht7.2, k_tnumber h7.ce.2.1 (by omega) q6 ?_⟩
            have f7' : c_v c7 369 (zs Z i) 0 = zs Z i + 7 ∧ c_r c7 (zs Z i + 7) = 869 ∧ c_l c7 (zs Z i + 7) = 4 := h7.sl.1.2 (369, 7, 4) (by decide)
            rw [f7'.1]
            refine ⟨f7'.2.1, by omega, by omega, fun c10 e10 => ?_⟩
            have h10 : SE c10 pl b n K Z (w_v U5 (v_at (wV U5) (vA (wV U5) + 1))) i r k0 := by rw [e10]; exact h7.s1 (by decide) (by omega) (by omega)
            refine ⟨h10.ce.r, h10.ce.r, fun c11 e11 => ?_⟩
            rw [h10.ce.2.2.1.1, show vA (wV (w_v U5 (v_at (wV U5) (vA (wV U5) + 1)))) = vA (wV U5) + 1 from rfl, am_w_s (by omega)] at e11
            have h11 : SE c11 pl b n K Z (w_v U5 (v_at (wV U5) (vA (wV U5) + 2))) i r k0 := by rw [e11]; exact h10.at (k := vA (wV U5) + 2) (by omega)
            have s11 : c_sm (sWr pl (zs Z i)) c c11 := (s7.tr (by rw [e10]; exact (c_sm.u _ (sOw_a (A := zs Z i) (by decide) (by omega) (by omega)) _ _).mono (fun q a w => sOw_own (pl := pl) w))).tr (by rw [e11]; exact pf_own (by decide))
            obtain ⟨w1, w2, w3⟩ := h.ow s11 hc hmk
            obtain ⟨z1, z2, z3, z4⟩ := wx (w_v U5 (v_at (wV U5) (vA (wV U5) + 2))) rfl rfl (by show vA (wV U5) ≤ vA (wV U5) + 2; omega) ⟨rfl, rfl, rfl⟩
            have tv := tk_v_r (b := b) (n := n) (k := vA (wV U5) + 1)
            have kp := tk_p_le h6.ce.2.1.2.1 (k := vA (wV U5)) (j := vA (wV U5) + 2) (by omega) (by omega)
            refine rs_10 kk (tok := vA (wV U)) (nm := vA (wV U3) + 1) (keep := tk_v b n (vA (wV U5) + 1)) h11 hmk w1 w2 l3 (by rw [e11, c_u_q (by decide), e10, c_u_q (by decide)]; exact v7) (by rw [e11, c_u_q (by decide), e10, c_u_eq]) z1 ⟨by show vA (wV U3) + 1 ≤ K; omega, by show vA (wV U) ≤ K; omega, by show tk_p b n (vA (wV U)) + 5 ≤ tk_p b n (vA (wV U5) + 2); omega, z4.2.2, z4.1, z4.2.1, yS, q, by show -1 ≤ tk_v b n _; omega, by show tk_v b n _ ≤ _; omega⟩ ⟨z2, z3⟩ ?_
            refine T1.en (fun s0 s d' P _ hr hd hk => ?_)
            have hs := hr.1
            obtain ⟨g1, g2, g3, g4, g5, g6'⟩ := hr.2.1
            have hs6 := hs.at (k := vA (wV U5) + 1) (by omega)
            have i60 := hs.i60
            have ea6 : ms_u s 18 0 ((vA (wV U5) + 1 : Nat) : Int) 18 0 = ((vA (wV U5) + 1 : Nat) : Int) := ms_u_eq _ _ _ _
            have so6 : ms_u s 18 0 ((vA (wV U5) + 1 : Nat) : Int) 14 ((vA (wV U5) + 1 : Nat) : Int) = 2 := ((hs6.me.1.2.2.2 _ (by omega)).1).trans q6
            have nu6 : ms_u s 18 0 ((vA (wV U5) + 1 : Nat) : Int) 17 ((vA (wV U5) + 1 : Nat) : Int) = tk_v b n (vA (wV U5) + 1) := (hs6.me.1.2.2.2 _ (by omega)).2.2.2 q6
            refine hs.me.takeW1 (by omega) tw_keep (sty (by decide)) q5 ⟨fun w => absurd w (by omega), fun _ => ?_⟩
            rw [ea6, so6]
            refine ⟨by omega, by omega, fun _ => ⟨by omega, by omega, fun t7 e7 => ?_⟩, fun w => absurd rfl w⟩
            have ea7 : t7 18 0 = ((vA (wV U5) + 1 : Nat) : Int) := by rw [e7, ms_u_f _ _ _ (by decide)]; exact ea6
            have nu7 : t7 17 ((vA (wV U5) + 1 : Nat) : Int) = tk_v b n (vA (wV U5) + 1) := by rw [e7, ms_u_f _ _ _ (by decide)]; exact nu6
            rw [ea7, nu7]
            refine ⟨by omega, by omega, by omega, by omega, fun t8 e8 => fun t9 e9 => ?_⟩
            have ea8 : t8 18 0 = ((vA (wV U5) + 1 : Nat) : Int) := by rw [e8, ms_u_f _ _ _ (by decide)]; exact ea7
            rw [ea8, am_w_s (by omega)] at e9
            have ht8 : SM t8 b n K (w_v U5 (v_at (wV U5) (vA (wV U5) + 1))) i r k0 := by rw [e8, e7]; exact (hs6.s1 l3 (by decide)).s1 l3 (by decide)
            have ht9 : SM t9 b n K (w_v U5 (v_at (wV U5) (vA (wV U5) + 2))) i r k0 := by rw [e9]; exact ht8.at (k := vA (wV U5) + 2) (by omega)
            refine w220_13 ⟨by omega, by omega, by omega, by omega, fun t10 e10 => ?_⟩
            rw [ht9.k, am_w_s (by omega)] at e10
            have tw : ∀ q : Nat, q ≠ 18 → q ≠ 51 → q ≠ 52 → t9 q ((3 * i + (s_src r).length : Nat) : Int) = s q ((3 * i + (s_src r).length : Nat) : Int) := fun q a1 a2 a3 => by rw [e9, ms_u_f _ _ _ a1, e8, ms_u_f _ _ _ a3, e7, ms_u_f _ _ _ a2, ms_u_f _ _ _ a1]
            have ms9 : m_src t9 b n ((3 * i + (s_src r).length : Nat) : Int) ((none, vA (wV U), tk_v b n (vA (wV U5) + 1), vA (wV U3) + 1), (jn, lf, -2)) := by
              refine ⟨⟨?_, ?_, ?_, fun _ => ?_⟩, ?_, ?_, ?_, fun w => absurd rfl w⟩
              · rw [tw _ (by decide) (by decide) (by decide)]; exact g1
              · rw [tw _ (by decide) (by decide) (by decide)]; exact g2
              · show _ = if 0 ≤ tk_v b n (vA (wV U5) + 1) then 1 else 0
                rw [if_pos tv.1, e9, ms_u_f _ _ _ (by decide), e8, ms_u_f _ _ _ (by decide), e7, ms_u_eq]; rfl
              · rw [e9, ms_u_f _ _ _ (by decide), e8, ms_u_eq]; rfl
              · rw [tw _ (by decide) (by decide) (by decide)]; exact g3
              · rw [tw _ (by decide) (by decide) (by decide)]; exact g4
              · rw [tw _ (by decide) (by decide) (by decide)]; exact g6'
            refine hk _ _ ⟨by rw [e10]; exact ht9.src l3 ms9, hr.2.2.tr ?_⟩
            have o : oF i s t10 := by
              rw [e10, e9, e8, e7]
              exact ((((oF.u (by omega)).tr (ob _ _ _ (by decide) (by decide))).tr (ob _ _ _ (by decide) (by decide))).tr (oF.u (by omega))).tr (oF.u (Or.inl (Or.inl ⟨by decide, rfl⟩)))
            exact o.qf (Nat.le_refl _) i60
          · have hf := h7.ce.cf (x := 1) (y := (tk_p b n (vA (wV U5) + 1) : Int)) (by omega)
            obtain ⟨w1, w2, w3⟩ := h.ow (s7.tr (fl_own (x := 1) (y := (tk_p b n (vA (wV U5) + 1) : Int)))) hc hmk
            refine k_failTok h7.ce (by omega) (kk _ Z w1 w2 w3 (Or.inr ⟨1, _, hf, ?_⟩))
            refine T1.en (fun s0 s d' P _ hr hd hk => ?_)
            have hs := hr.1
            have hs6 := hs.at (k := vA (wV U5) + 1) (by omega)
            have ea6 : ms_u s 18 0 ((vA (wV U5) + 1 : Nat) : Int) 18 0 = ((vA (wV U5) + 1 : Nat) : Int) := ms_u_eq _ _ _ _
            have so6 : ms_u s 18 0 ((vA (wV U5) + 1 : Nat) : Int) 14 ((vA (wV U5) + 1 : Nat) : Int) ≠ 2 := by rw [(hs6.me.1.2.2.2 _ (by omega)).1]; exact q6
            refine hs.me.takeW1 (by omega) tw_keep (sty (by decide)) q5 ⟨fun w => absurd w (by omega), fun _ => ?_⟩
            rw [ea6]
            refine ⟨by omega, by omega, fun w => absurd w so6, fun _ => hs6.me.wrong (by omega) (hk _ _ ⟨hs6.me.mf, hr.2.2.tr (qF.tr (qF.hd (fun q j hq => ms_u_f _ _ _ (by omega))) qF.fl)⟩)⟩
        · obtain ⟨w1, w2, w3⟩ := h.ow s6 hc hmk
          obtain ⟨z1, z2, z3, z4⟩ := wx U5 rfl rfl (Nat.le_refl _) ⟨rfl, rfl, rfl⟩
          refine rs_10 kk (tok := vA (wV U)) (nm := vA (wV U3) + 1) (keep := -1) h6 hmk w1 w2 l3 v6 g6 z1 ⟨by show vA (wV U3) + 1 ≤ K; omega, by show vA (wV U) ≤ K; omega, py5, z4.2.2, z4.1, z4.2.1, yS, q, by show (-1 : Int) ≤ -1; omega, by show (-1 : Int) ≤ _; omega⟩ ⟨z2, z3⟩ ?_
          refine T1.en (fun s0 s d' P _ hr hd hk => ?_)
          have hs := hr.1
          obtain ⟨g1, g2, g3, g4, g5, g6'⟩ := hr.2.1
          have i60 := hs.i60
          refine hs.me.takeW0 (by omega) tw_keep (sty (by decide)) q5 ⟨fun _ => w220_13 ⟨by omega, by omega, by omega, by omega, fun t10 e10 => ?_⟩, fun w => absurd rfl w⟩
          rw [hs.k, am_w_s (by omega)] at e10
          have ms9 : m_src s b n ((3 * i + (s_src r).length : Nat) : Int) ((none, vA (wV U), -1, vA (wV U3) + 1), (jn, lf, -2)) := ⟨⟨g1, g2, g5, fun w => absurd w (by show ¬ ((0 : Int) ≤ -1); omega)⟩, g3, g4, g6', fun w => absurd rfl w⟩
          refine hk _ _ ⟨by rw [e10]; exact hs.src l3 ms9, hr.2.2.tr ?_⟩
          have o : oF i s t10 := by rw [e10]; exact oF.u (Or.inl (Or.inl ⟨by decide, rfl⟩))
          exact o.qf (Nat.le_refl _) i60
      · have hf := h4.ce.cf (x := 1) (y := (tk_p b n (vA (wV U3) + 1) : Int)) (by omega)
        refine ff _ 1 _ v1 hf (s4.tr fl_own) (by rw [(c_fl_sm (R := 0)).v (by unfold eW; omega)]; exact hs4) (T0.en (fun s0 s d' P _ hr hd hk => ?_))
        have hs := hr.1
        have hs1 := hs.at (k := vA (wV U3) + 1) (by omega)
        exact w220_8 (hs.me.needW1 (by omega) tw_as (sty (by decide)) q3 ⟨fun w => absurd (hs1.gd.symm.trans w) (by decide), fun _ => hs1.me.name0 (by omega) q4 (w220_10 ⟨fun w => absurd hs1.me.mf.1 w, fun _ => hk _ _ ⟨hs1.me.mf, hr.2.2.tr (qF.tr (qF.hd (fun q j hq => ms_u_f _ _ _ (by omega))) qF.fl)⟩⟩)⟩)
    · have hf := h3.ce.cf (x := 1) (y := (tk_p b n (vA (wV U3)) : Int)) (by omega)
      refine ⟨hf.1, k_wantName0 hf (by omega) (fun v1 => ff _ 1 _ v1 hf (s3.tr fl_own) (by rw [(c_fl_sm (R := 0)).v (by unfold eW; omega)]; exact h3.sel.2.2.1.1) (T0.en (fun s0 s d' P _ hr hd hk => ?_)))⟩
      have hs := hr.1
      have hf2 := hs.me.mf (f := 1) (p := (tk_p b n (vA (wV U3)) : Int))
      exact w220_8 (hs.me.needW0 (by omega) tw_as (sty (by decide)) q3 ⟨fun _ => w220_10 ⟨fun w => absurd hf2.1 w, fun _ => hk _ _ ⟨hf2, hr.2.2.tr qF.fl⟩⟩, fun w => absurd hf2.1 w⟩)
  · have h3 : vS (wV U) = 3 := by rw [hso] at w; omega
    rw [hce.t.1, ha]
    refine ⟨hce.t.2, k_tplace hce.2.1 hl.1 ⟨hr, k_fail hr hce.2.2.1.2.2.1 ?_⟩⟩
    have hf := hce.cf (x := 7) (y := (tk_p b n (vA (wV U)) : Int)) (by omega)
    obtain ⟨o1, o2, o3⟩ := h.ow (fl_own (x := 7) (y := (tk_p b n (vA (wV U)) : Int))) hc hmk
    refine kk _ Z o1 o2 o3 (Or.inr ⟨7, _, hf, ?_⟩)
    intro s D P hs hD2 hk
    obtain ⟨d', rfl⟩ : ∃ d', D = d' + 1 := ⟨D - 1, by omega⟩
    refine so_st hs (by omega) n1 q (fun _ => hk _ _ ⟨m_fl_MF ?_ ?_, qF.tr (qF.hd (fun q j hq => ms_u_f _ _ _ (by omega))) qF.fl⟩) (fun w => by omega) hS hsrc hK
    · rw [ms_u_f _ _ _ (by decide), hs.me.2.1.1]; omega
    · rw [ms_u_f _ _ _ (by decide), hs.me.2.1.1]; omega
end
