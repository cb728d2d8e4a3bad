set_option maxRecDepth 100000
/-! readers: SOURCES, streams -/
section
variable {L B B' : Nat} {pl : Int} {b : Int → Int} {n K : Nat} {Z : gZ} {U : tV} {i : Nat} {r : vSel} {k0 m00 k00 : Nat} {jn : Int} {lf : Bool} {OS : Int → Prop} {OQ : Nat → Int → Prop} {c : cs_S} {d : Nat} {Q : Int → cs_S → Prop} {s : ms_S}
theorem SE.src {k : Nat} (h : SE c pl b n K Z U i r k0) : SE (c_u c 126 pl 0 k) pl b n K Z (w_v U (v_src (wV U) k)) i r k0 := by
  obtain ⟨q1, q2, q3, q4, q5, q6, q7⟩ := h.ce.2.2.1
  exact h.pf (by omega) ⟨by rw [c_u_q (by decide)]; exact q1, q2, by rw [c_u_q (by decide)]; exact q3, by rw [c_u_q (by decide)]; exact q4, q5, c_u_eq _ _ _ _ _, by rw [c_u_q (by decide)]; exact q7⟩ rfl
theorem SM.srn {k : Nat} (h : SM s b n K U i r k0) : SM (ms_u s 69 0 k) b n K (w_v U (v_src (wV U) k)) i r k0 := by
  refine h.pf (h.me.ct (fun q j h1 h2 h3 h4 => ms_u_f _ _ _ h2) (by rw [ms_u_f _ _ _ (by decide)]; exact h.me.2.1.1) h.me.2.1.2.1 (by rw [ms_u_f _ _ _ (by decide)]; exact h.me.2.1.2.2.2.1) h.me.2.1.2.2.2.2.1 (ms_u_eq _ _ _ _) rfl rfl) (fun q j hq => ms_u_f _ _ _ (by omega)) rfl
/-- the letters of a token -/
theorem tk_w_b (i : Nat) {k : Nat} (h : i < (tk_w b n k).length) : (tk_w b n k).getD i 0 = b ((tk_p b n k + i : Nat) : Int) := by
  unfold tk_w tk_tx at h ⊢
  rw [List.getD_eq_getElem?_getD, List.getElem?_eq_getElem h]
  simp
theorem tk_w_n {k : Nat} (h : 0 < (tk_w b n k).length) : tk_p b n k + (tk_w b n k).length ≤ n := by
  rcases tk_form (b := b) (n := n) (k := k) with q | q
  · rw [q.2.2] at h; simp at h
  · have := tk_e_le q.1
    have e : (tk_w b n k).length = tk_e b n k - tk_p b n k := by unfold tk_w tk_tx; simp
    omega
/-- is it a stream's name -/
theorem tk_st_iff {k : Nat} : tk_st b n k ↔ (tk_nm b n k ∧ (tk_w b n k).length = 2 ∧ (tk_w b n k).getD 0 0 = 115 ∧ 48 ≤ (tk_w b n k).getD 1 0 ∧ (tk_w b n k).getD 1 0 ≤ 57) := by
  constructor
  · rintro ⟨h1, d, h2, h3, h4⟩
    rw [h2]
    exact ⟨h1, rfl, rfl, h3, h4⟩
  · rintro ⟨h1, h2, h3, h4, h5⟩
    refine ⟨h1, (tk_w b n k).getD 1 0, ?_, h4, h5⟩
    match hw : tk_w b n k with
    | [] => rw [hw] at h2; cases h2
    | [x] => rw [hw] at h2; cases h2
    | [x, y] => rw [hw] at h3; have h3 : x = 115 := h3; rw [h3]; rfl
    | x :: y :: z :: w => rw [hw] at h2; simp at h2
/-- the model at a name that is none of a stream -/
theorem so_no (h : SM s b n K U i r k0) (hd : 4 ≤ d) (n1 : ¬ tk_is b n (vA (wV U)) (st_str (-36))) (n2 : ¬ tk_st b n (vA (wV U))) {x2 x3 : Int} {P : Int → ms_S → Prop} (hp : P 0 (m_fl s 1 (tk_p b n (vA (wV U))))) : md_source (d + 1) i x2 x3 s P := by
  have hl := h.me.le
  have ha := h.me.2.1.1
  have hf := h.me.mf (f := 1) (p := (tk_p b n (vA (wV U)) : Int))
  have b7 : mw (d + 1) 220 (am_blk 220 7) [159, (i : Int), x2, x3, ((3 * i + (s_src r).length : Nat) : Int), 0, 0] [] s P := w220_7 (h.me.wrong (by omega) (so_8f hf (by omega) hp))
  obtain ⟨k, rfl⟩ : ∃ k, d = k + 2 := ⟨d - 2, by omega⟩
  rw [tk_st_iff] at n2
  refine w220_e ⟨fun _ => ⟨by omega, by have := h.i60; omega, h.me.isS0 ts_40 n1 ⟨fun _ => ?_, fun w => absurd rfl w⟩⟩, fun w => absurd (by rw [h.gd]; decide) w⟩
  rw [so_o h]
  have tk := h.me.1.2.2.2 _ hl.1
  have hl2 : s 16 (s 18 0) = ((tk_w b n (vA (wV U))).length : Int) := by rw [ha]; exact tk.2.2.1
  have hpl : s 15 (s 18 0) = (tk_p b n (vA (wV U)) : Int) := h.me.pl
  refine k_misName h.me.1 ha hl.1 h.gd (fun q1 => ⟨fun w => absurd w (by omega), fun _ => ⟨by omega, by omega, fun _ => b7, fun w => ?_⟩⟩) (fun q1 => ⟨fun _ => b7, fun w => absurd rfl w⟩)
  have w2 : (tk_w b n (vA (wV U))).length = 2 := by rw [hl2] at w; omega
  have wn := tk_w_n (b := b) (n := n) (k := vA (wV U)) (by omega)
  have n2000 := h.me.1.2.1
  have tx : ∀ j : Nat, j < 2 → s 2 ((tk_p b n (vA (wV U)) + j : Nat) : Int) = (tk_w b n (vA (wV U))).getD j 0 := fun j hj => by rw [tk_w_b j (by omega)]; exact h.me.1.2.2.1 _ (by omega)
  have t0 : s 2 (tk_p b n (vA (wV U)) : Int) = (tk_w b n (vA (wV U))).getD 0 0 := tx 0 (by omega)
  have t1 : s 2 ((tk_p b n (vA (wV U)) : Int) + 1) = (tk_w b n (vA (wV U))).getD 1 0 := tx 1 (by omega)
  rw [hpl, t0]
  refine ⟨by omega, by omega, by omega, by omega, fun _ => b7, fun w3 => ?_⟩
  rw [am_w_in (by omega) (by omega), t1]
  refine ⟨by omega, by omega, by omega, by omega, ?_⟩
  have w3 : (tk_w b n (vA (wV U))).getD 0 0 = 115 := Classical.not_not.mp w3
  refine k_mdig (fun q5 => absurd ⟨q1, w2, w3, q5.1, q5.2⟩ n2) (fun _ => ⟨fun _ => b7, fun w => absurd rfl w⟩)
/-- at a stream's name -/
theorem so_st (h : SM s b n K U i r k0) (hd : 4 ≤ d) (n1 : ¬ tk_is b n (vA (wV U)) (st_str (-36))) (q : tk_st b n (vA (wV U))) {x2 x3 : Int} {P : Int → ms_S → Prop} (h3 : vS (wV U) = 3 → P 0 (m_fl (ms_u s 69 0 4) 7 (tk_p b n (vA (wV U)))))
    (hp : vS (wV U) < 3 → ∀ s', SM s' b n K (w_v U (v_at (v_src (wV U) (vS (wV U) + 1)) (vA (wV U) + 1))) i r k0 → (s' 49 ((3 * i + (s_src r).length : Nat) : Int) = (tk_w b n (vA (wV U))).getD 1 0 - 48 ∧ s' 50 ((3 * i + (s_src r).length : Nat) : Int) = (tk_p b n (vA (wV U)) : Int)) → qF i k0 s s' → mw (d + 1) 220 (am_blk 220 8) [159, (i : Int), x2, x3, ((3 * i + (s_src r).length : Nat) : Int), 0, 0] [] s' P) (hS : vS (wV U) ≤ 3) (hsrc : (s_src r).length ≤ vS (wV U)) (hK : vA (wV U) < K) : md_source (d + 1) i x2 x3 s P := by
  have hl := h.me.le
  have ha := h.me.2.1.1
  obtain ⟨k, rfl⟩ : ∃ k, d = k + 2 := ⟨d - 2, by omega⟩
  obtain ⟨q1, w2, w3, w4, w5⟩ := tk_st_iff.mp q
  refine w220_e ⟨fun _ => ⟨by omega, by have := h.i60; omega, h.me.isS0 ts_40 n1 ⟨fun _ => ?_, fun w => absurd rfl w⟩⟩, fun w => absurd (by rw [h.gd]; decide) w⟩
  rw [so_o h]
  have tk := h.me.1.2.2.2 _ hl.1
  have hl2 : s 16 (s 18 0) = ((tk_w b n (vA (wV U))).length : Int) := by rw [ha]; exact tk.2.2.1
  have hpl : s 15 (s 18 0) = (tk_p b n (vA (wV U)) : Int) := h.me.pl
  have wn := tk_w_n (b := b) (n := n) (k := vA (wV U)) (by omega)
  have n2000 := h.me.1.2.1
  have i60 := h.i60
  have tx : ∀ j : Nat, j < 2 → s 2 ((tk_p b n (vA (wV U)) + j : Nat) : Int) = (tk_w b n (vA (wV U))).getD j 0 := fun j hj => by rw [tk_w_b j (by omega)]; exact h.me.1.2.2.1 _ (by omega)
  have t0 : s 2 (tk_p b n (vA (wV U)) : Int) = (tk_w b n (vA (wV U))).getD 0 0 := tx 0 (by omega)
  have t1 : s 2 ((tk_p b n (vA (wV U)) : Int) + 1) = (tk_w b n (vA (wV U))).getD 1 0 := tx 1 (by omega)
  refine k_misName h.me.1 ha hl.1 h.gd (fun _ => ⟨fun w => absurd w (by omega), fun _ => ⟨by omega, by omega, fun w => absurd (by rw [hl2]; omega) w, fun _ => ?_⟩⟩) (fun nq => absurd q1 nq)
  rw [hpl, t0]
  refine ⟨by omega, by omega, by omega, by omega, fun w => absurd w3 w, fun _ => ?_⟩
  rw [am_w_in (by omega) (by omega), t1]
  refine ⟨by omega, by omega, by omega, by omega, k_mdig (fun _ => ⟨fun w => absurd w (by omega), fun _ => ?_⟩) (fun nq => absurd ⟨w4, w5⟩ nq)⟩
  intro s4 e4
  rw [h.me.2.1.2.2.2.2.2, am_w_s (by omega)] at e4
  have e69 : s4 69 0 = ((vS (wV U) + 1 : Nat) : Int) := by rw [e4, ms_u_eq]
  have ea4 : s4 18 0 = (vA (wV U) : Int) := by rw [e4, ms_u_f _ _ _ (by decide)]; exact ha
  have ep4 : s4 15 (s4 18 0) = (tk_p b n (vA (wV U)) : Int) := by rw [ea4, e4, ms_u_f _ _ _ (by decide), ← ha]; exact hpl
  rw [e69, ep4, ea4]
  refine ⟨fun w => ?_, fun w => ⟨by omega, by omega, ?_⟩⟩
  · have hlt : vS (wV U) < 3 := by omega
    have hs4 : SM s4 b n K (w_v U (v_src (wV U) (vS (wV U) + 1))) i r k0 := by rw [e4]; exact h.srn
    refine w220_6 ⟨fun w => absurd (hs4.gd.symm.trans w) (by decide), fun _ => ?_⟩
    rw [ep4, ea4, am_w_in (by omega) (by omega)]
    have t1' : s4 2 ((tk_p b n (vA (wV U)) : Int) + 1) = (tk_w b n (vA (wV U))).getD 1 0 := by rw [e4, ms_u_f _ _ _ (by decide)]; exact t1
    rw [t1', am_w_in (by omega) (by omega)]
    refine ⟨by omega, by omega, by omega, by omega, by omega, by omega, fun s5 e5 => ?_⟩
    have ea5 : s5 18 0 = (vA (wV U) : Int) := by rw [e5, ms_u_f _ _ _ (by decide)]; exact ea4
    have ep5 : s5 15 (s5 18 0) = (tk_p b n (vA (wV U)) : Int) := by rw [ea5, e5, ms_u_f _ _ _ (by decide), ← ea4]; exact ep4
    rw [ep5, ea5]
    refine ⟨by omega, by omega, by omega, by omega, fun s6 e6 => ⟨by omega, by omega, fun s7 e7 => fun s8 e8 => ?_⟩⟩
    have l3 : (s_src r).length < 3 := by omega
    have hs7 : SM s7 b n K (w_v U (v_src (wV U) (vS (wV U) + 1))) i r k0 := by rw [e7, e6, e5]; exact ((hs4.s1 l3 (by omega)).s1 l3 (by omega)).s1 l3 (by omega)
    rw [hs7.me.2.1.1, show vA (wV (w_v U (v_src (wV U) (vS (wV U) + 1)))) = vA (wV U) from rfl, am_w_s (by omega)] at e8
    have hs8 : SM s8 b n K (w_v U (v_at (v_src (wV U) (vS (wV U) + 1)) (vA (wV U) + 1))) i r k0 := by rw [e8]; exact hs7.at (k := vA (wV U) + 1) (by omega)
    refine hp hlt s8 hs8 ⟨?_, ?_⟩ ?_
    · rw [e8, ms_u_f _ _ _ (by decide), e7, ms_u_f _ _ _ (by decide), e6, ms_u_f _ _ _ (by decide), e5, ms_u_eq]
    · rw [e8, ms_u_f _ _ _ (by decide), e7, ms_u_f _ _ _ (by decide), e6, ms_u_eq]
    · have ob : ∀ (q : Nat) (s : ms_S) (v : Int), 49 ≤ q → q ≤ 58 → oF i s (ms_u s q ((3 * i + (s_src r).length : Nat) : Int) v) := fun q s v h1 h2 => oF.u (Or.inl (Or.inr (Or.inr ⟨⟨h1, h2⟩, by omega, by omega⟩)))
      have o : oF i s s8 := by
        rw [e8, e7, e6, e5, e4]
        exact ((((oF.u (by omega)).tr (ob _ _ _ (by omega) (by omega))).tr (ob _ _ _ (by omega) (by omega))).tr (ob _ _ _ (by omega) (by omega))).tr (oF.u (by omega))
      exact o.qf (Nat.le_refl _) i60
  · have h3' : vS (wV U) = 3 := by omega
    have hg4 : s4 21 0 = 1 := by rw [e4, ms_u_f _ _ _ (by decide)]; exact h.gd
    have e4' : s4 = ms_u s 69 0 4 := by rw [e4, h3']; rfl
    refine k_mtell hg4 ?_
    have hf : MF (m_fl s4 7 (tk_p b n (vA (wV U)))) 7 (tk_p b n (vA (wV U))) := m_fl_MF (by rw [ea4]; omega) (by rw [ea4]; omega)
    refine w220_6 ⟨fun _ => so_8f hf (by omega) ?_, fun w => absurd hf.1 w⟩
    rw [e4']
    exact h3 h3'
/-- the model behind a stream's name: as NAME, keep -/
theorem so_as {x2 x3 x5 x6 : Int} {P : Int → ms_S → Prop} (h : SM s b n K U i r k0) (hd : 5 ≤ d) (q3 : tk_is b n (vA (wV U)) (st_str (-88))) (q4 : tk_nm b n (vA (wV U) + 1)) (hst : s 49 ((3 * i + (s_src r).length : Nat) : Int) ≠ -1) (l3 : (s_src r).length < 3) (h2 : vA (wV U) + 1 < K) (hx2 : x2 = 0 ∨ x2 = 1)
    (k0' : ∀ s', SM s' b n K (w_v U (v_at (wV U) (vA (wV U) + 2))) i r k0 → (s' 49 ((3 * i + (s_src r).length : Nat) : Int) = s 49 ((3 * i + (s_src r).length : Nat) : Int) ∧ s' 50 ((3 * i + (s_src r).length : Nat) : Int) = s 50 ((3 * i + (s_src r).length : Nat) : Int) ∧ s' 55 ((3 * i + (s_src r).length : Nat) : Int) = ((vA (wV U) + 1 : Nat) : Int) ∧ s' 57 ((3 * i + (s_src r).length : Nat) : Int) = x3 ∧ s' 51 ((3 * i + (s_src r).length : Nat) : Int) = 0 ∧ s' 56 ((3 * i + (s_src r).length : Nat) : Int) = x2) → oF i s s' → md_takeWord d (-172) s' (fun v1 s6 => (v1 = 0 → mw (d + 1) 220 (am_blk 220 13) [159, i, x2, x3, ((3 * i + (s_src r).length : Nat) : Int), ((vA (wV U) + 1 : Nat) : Int), x6] [] s6 P) ∧ (¬ (v1 = 0) → 0 ≤ (s6 18 0) ∧ (s6 18 0) < 2001 ∧ ((s6 14 (s6 18 0)) = 2 → 0 ≤ ((3 * i + (s_src r).length : Nat) : Int) ∧ ((3 * i + (s_src r).length : Nat) : Int) < 180 ∧ ∀ s7, s7 = ms_u s6 51 ((3 * i + (s_src r).length : Nat) : Int) (am_i2b 1) → 0 ≤ (s7 18 0) ∧ (s7 18 0) < 2001 ∧ 0 ≤ ((3 * i + (s_src r).length : Nat) : Int) ∧ ((3 * i + (s_src r).length : Nat) : Int) < 180 ∧ ∀ s8, s8 = ms_u s7 52 ((3 * i + (s_src r).length : Nat) : Int) (s7 17 (s7 18 0)) → ∀ s9, s9 = ms_u s8 18 0 (am_w ((s8 18 0) + 1)) → mw (d + 1) 220 (am_blk 220 13) [159, i, x2, x3, ((3 * i + (s_src r).length : Nat) : Int), ((vA (wV U) + 1 : Nat) : Int), x6] [] s9 P) ∧ (¬ ((s6 14 (s6 18 0)) = 2) → md_wrong d s6 (fun _ s10 => P 0 s10))))) :
    mw (d + 1) 220 (am_blk 220 8) [159, (i : Int), x2, x3, ((3 * i + (s_src r).length : Nat) : Int), x5, x6] [] s P := by
  have i60 := h.i60
  have h1 := h.at (k := vA (wV U) + 1) (by omega)
  have h2' : SM _ b n K (w_v U (v_at (wV U) (vA (wV U) + 2))) i r k0 := h1.at (k := vA (wV U) + 2) (by omega)
  refine w220_8 (h.me.needW1 (by omega) tw_as (sty (by decide)) q3 ⟨fun w => absurd (h1.gd.symm.trans w) (by decide), fun _ => h1.me.name1 (by omega) q4 (w220_10 ⟨fun _ => ?_, fun w => absurd (fun e => absurd (h2'.gd.symm.trans e) (by decide)) w⟩)⟩)
  refine ⟨by omega, by omega, fun t1 e1 => ⟨by omega, by omega, fun t2 e2 => ⟨by omega, by omega, fun t3 e3 => ⟨by omega, by omega, fun t4 e4 => ⟨by omega, by omega, fun t5 e5 => ⟨by omega, by omega, fun w => absurd w ?_, fun _ => ?_⟩⟩⟩⟩⟩⟩
  · rw [e5, ms_u_f _ _ _ (by decide), e4, ms_u_f _ _ _ (by decide), e3, ms_u_f _ _ _ (by decide), e2, ms_u_f _ _ _ (by decide), e1, ms_u_f _ _ _ (by decide), ms_u_f _ _ _ (by decide), ms_u_f _ _ _ (by decide)]; exact hst
  · have ht5 : SM t5 b n K (w_v U (v_at (wV U) (vA (wV U) + 2))) i r k0 := by
      rw [e5, e4, e3, e2, e1]
      exact ((((h2'.s1 l3 (by omega)).s1 l3 (by omega)).s1 l3 (by omega)).s1 l3 (by omega)).s1 l3 (by omega)
    refine k0' t5 ht5 ⟨?_, ?_, ?_, ?_, ?_, ?_⟩ ?_
    · rw [e5, ms_u_f _ _ _ (by decide), e4, ms_u_f _ _ _ (by decide), e3, ms_u_f _ _ _ (by decide), e2, ms_u_f _ _ _ (by decide), e1, ms_u_f _ _ _ (by decide), ms_u_f _ _ _ (by decide), ms_u_f _ _ _ (by decide)]
    · rw [e5, ms_u_f _ _ _ (by decide), e4, ms_u_f _ _ _ (by decide), e3, ms_u_f _ _ _ (by decide), e2, ms_u_f _ _ _ (by decide), e1, ms_u_f _ _ _ (by decide), ms_u_f _ _ _ (by decide), ms_u_f _ _ _ (by decide)]
    · rw [e5, ms_u_f _ _ _ (by decide), e4, ms_u_f _ _ _ (by decide), e3, ms_u_f _ _ _ (by decide), e2, ms_u_f _ _ _ (by decide), e1, ms_u_eq]; rfl
    · rw [e5, ms_u_f _ _ _ (by decide), e4, ms_u_f _ _ _ (by decide), e3, ms_u_f _ _ _ (by decide), e2, ms_u_eq]
    · rw [e5, ms_u_f _ _ _ (by decide), e4, ms_u_eq]; rfl
    · rw [e5, ms_u_eq, am_i2b_b hx2]
    · have ob : ∀ (q : Nat) (s : ms_S) (v : Int), 49 ≤ q → q ≤ 58 → oF i s (ms_u s q ((3 * i + (s_src r).length : Nat) : Int) v) := fun q s v h1 h2 => oF.u (Or.inl (Or.inr (Or.inr ⟨⟨h1, h2⟩, by omega, by omega⟩)))
      rw [e5, e4, e3, e2, e1]
      exact ((((((oF.u (by omega)).tr (oF.u (by omega))).tr (ob _ _ _ (by omega) (by omega))).tr (ob _ _ _ (by omega) (by omega))).tr (ob _ _ _ (by omega) (by omega))).tr (ob _ _ _ (by omega) (by omega))).tr (ob _ _ _ (by omega) (by omega))
end
