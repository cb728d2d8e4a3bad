set_option maxRecDepth 100000
/-! readers: SOURCES, a QUERY within -/
section
variable {L B B' : Nat} {pl : Int} {b : Int → Int} {n K : Nat} {Z : gZ} {U : tV} {i : Nat} {r : vSel} {k0 m00 k00 : Nat} {jn : Int} {lf : Bool} {OS : Int → Prop} {OQ : Nat → Int → Prop} {c : cs_S} {d : Nat} {Q : Int → cs_S → Prop}
/-- the end with a fault -/
theorem os_ff (kk : ∀ c' Z', tU pl OS OQ c Z c' Z' → cov OS OQ c' pl Z' m00 k00 → ZT c' pl Z' → oP L (B + 1) pl b n K U i r k0 jn lf c' Z' → Q 0 c') {c1 : cs_S} {Z1 : gZ} {f p : Int} {k : Nat} (him : m00 ≤ i) (hc : CF c1 pl f p) (hz : ZT c1 pl Z1) (u : tU pl OS OQ c Z c1 Z1) (cv : cov OS OQ c1 pl Z1 m00 k00) (hi : i < zS Z1) (hk : k < 4) (hs : c_v c1 365 (zs Z1 i) 0 = (k : Int)) (hm : mEn (fun s => SM s b n K U i r k0) (fun D s P => md_source D i (if lf = true then 1 else 0) (m_pl b n jn) s P) (B + 1) (fun s _ s' => MF s' f p ∧ qF i k0 s s')) {x5 x6 x7 : Int} : cw (d + 1) 75 (am_blk 75 11) [pl, zs Z1 i, jn, if lf = true then 1 else 0, k, x5, x6, x7] [] c1 Q := by
  have hsl := (hz.2.2.1.2.2.2.1 i hi).2
  refine rs_11 hsl hk hs (by cases lf <;> decide) ?_
  have s : c_sm (sOw (zs Z1 i)) c1 (c_u (c_u (c_u c1 871 (zs Z1 i + 9) k jn) 872 (zs Z1 i + 10) k (if lf = true then 1 else 0)) 365 (zs Z1 i) 0 ((k + 1 : Nat) : Int)) := ((c_sm.u c1 (sOw_a (by omega) (by omega) (by omega)) _ _).tr (c_sm.u _ (sOw_a (by omega) (by omega) (by omega)) _ _)).tr (c_sm.u _ (sOw_f (by decide)) _ _)
  obtain ⟨g1, g2⟩ := hc.own hz s
  obtain ⟨o1, o2, o3⟩ := own_u hz (s.mono (fun q a w => sOw_own (pl := pl) w)) cv him hi
  exact kk _ Z1 (u.tr o1) o2 g2 (Or.inr ⟨f, p, g1, hm⟩)
/-- ( QUERY ) as NAME -/
theorem r_srcq (hI : ∀ L', L = L' + 1 → qX B' L') (hB : 10 ≤ B) (hB' : B' ≤ B) (h : SE c pl b n K Z U i r k0) (hL : vD (wV U) + L = 12) (hbd : bd2 U L) (hM : vM (wV U) = false) (hsrc : (s_src r).length ≤ vS (wV U)) (hmk : m00 ≤ i ∧ k00 ≤ k0 ∧ k0 ≤ wq U) (hc : cov OS OQ c pl Z m00 k00) (hD : B ≤ d) (q : tk_is b n (vA (wV U)) (st_str (-36)))
    (kk : ∀ c' Z', tU pl OS OQ c Z c' Z' → cov OS OQ c' pl Z' m00 k00 → ZT c' pl Z' → oP L (B + 1) pl b n K U i r k0 jn lf c' Z' → Q 0 c') :
    kplan_opens d pl c (fun v8 c8 => (v8 ≠ 0 → c_r c8 pl = 1003 ∧ c_r c8 pl = 1003 ∧ ∀ c9, c9 = c_u c8 122 pl 0 (am_w ((c_v c8 122 pl 0) + 1)) → c_r c9 pl = 1003 ∧ kplan_readQuery d pl c9 (fun v9 c10 => c_r c10 pl = 1003 ∧ c_r c10 pl = 1003 ∧ kplan_want d pl (-48) c10 (fun _ c11 => c_r c11 pl = 1003 ∧ c_r c11 pl = 1003 ∧ ∀ c12, c12 = c_u c11 125 pl 0 (am_w ((c_v c11 125 pl 0) - 1)) → c_r c12 pl = 1003 ∧ kplan_want d pl (-88) c12 (fun _ c13 => c_r c13 pl = 1003 ∧ kplan_wantName d pl c13 (fun v10 c14 => c_r c14 pl = 1003 ∧ kplan_good d pl c14 (fun v11 c15 => (v11 = 0 → cw (d + 1) 75 (am_blk 75 3) [pl, zs Z i, jn, if lf = true then 1 else 0, ((s_src r).length : Int), v9, (c_v c10 122 pl 0), v10] [] c15 Q) ∧ (¬ (v11 = 0) → c_r c15 (zs Z i) = 1009 ∧ c_r c15 (c_v c15 366 (zs Z i) 0) = 866 ∧ 0 ≤ ((s_src r).length : Int) ∧ ((s_src r).length : Int) < c_l c15 (c_v c15 366 (zs Z i) 0) ∧ ∀ c16, c16 = c_u c15 866 (c_v c15 366 (zs Z i) 0) ((s_src r).length : Int) v9 → c_r c16 (zs Z i) = 1009 ∧ c_r c16 (c_v c16 367 (zs Z i) 0) = 867 ∧ 0 ≤ ((s_src r).length : Int) ∧ ((s_src r).length : Int) < c_l c16 (c_v c16 367 (zs Z i) 0) ∧ ∀ c17, c17 = c_u c16 867 (c_v c16 367 (zs Z i) 0) ((s_src r).length : Int) (c_v c10 122 pl 0) → c_r c17 (zs Z i) = 1009 ∧ c_r c17 (c_v c17 370 (zs Z i) 0) = 870 ∧ 0 ≤ ((s_src r).length : Int) ∧ ((s_src r).length : Int) < c_l c17 (c_v c17 370 (zs Z i) 0) ∧ ∀ c18, c18 = c_u c17 870 (c_v c17 370 (zs Z i) 0) ((s_src r).length : Int) v10 → cw (d + 1) 75 (am_blk 75 3) [pl, zs Z i, jn, if lf = true then 1 else 0, ((s_src r).length : Int), v9, (c_v c10 122 pl 0), v10] [] c18 Q))))))) ∧ (¬ (v8 ≠ 0) → Q 0 c8)) := by
  have hce := h.ce
  have hl := hce.le
  have ha := hce.2.2.1.1
  have hK := tk_is_lt hce.2.1.2.1 hl.1 q
  have hb3 := h.bd.2.1
  obtain ⟨hsl, hiz, h237⟩ := h.sl
  refine k_opens hce (by omega) (fun h12 => ⟨fun _ => ?_, fun w => absurd (by omega : (1 : Int) ≠ 0) w⟩) (fun h12 => ⟨fun w => absurd rfl w, fun _ => ?_⟩)
  · have h8 := h.deep (k := vD (wV U) + 1) (by omega)
    refine ⟨h8.ce.r, h8.ce.r, fun c9 e9 => ?_⟩
    rw [c_u_q (by decide), ha, am_w_s (by omega)] at e9
    have h9 : SE c9 pl b n K Z (w_v U (v_at (v_deep (wV U) (vD (wV U) + 1)) (vA (wV U) + 1))) i r k0 := by rw [e9]; exact h8.at (k := vA (wV U) + 1) (by omega)
    have s9 : c_sm (sWr pl (zs Z i)) c c9 := by rw [e9]; exact (pf_own (by decide)).tr (pf_own (by decide))
    obtain ⟨o1, o2, o3⟩ := h.ow s9 hc hmk.1
    obtain ⟨L', rfl⟩ : ∃ L', L = L' + 1 := ⟨L - 1, by omega⟩
    generalize hU9 : w_v U (v_at (v_deep (wV U) (vD (wV U) + 1)) (vA (wV U) + 1)) = U9 at h9
    have eU9 : wm U9 = wm U ∧ wq U9 = wq U ∧ wV U9 = v_at (v_deep (wV U) (vD (wV U) + 1)) (vA (wV U) + 1) ∧ wS U9 = wS U ∧ wQ U9 = wQ U := by rw [← hU9]; exact ⟨rfl, rfl, rfl, rfl, rfl⟩
    obtain ⟨em9, eq9, eV9, eS9, eQ9⟩ := eU9
    have eP9 : p_e (wP b n U9) = p_e (wP b n U) ∧ p_s (wP b n U9) = p_s (wP b n U) ∧ p_q (wP b n U9) = p_q (wP b n U) ∧ p_c (wP b n U9) = p_c (wP b n U) := by rw [← hU9]; exact ⟨rfl, rfl, rfl, rfl⟩
    have eY9 : p_y (wP b n U) + 1 ≤ p_y (wP b n U9) := by
      rw [← hU9]
      exact tk_p_1 hce.2.1.2.1 hK
    have hx9 : vS (wV U9) = vS (wV U) ∧ vM (wV U9) = false ∧ vG (wV U9) = vG (wV U) ∧ vN (wV U9) = vN (wV U) ∧ vT (wV U9) = vT (wV U) ∧ vB (wV U9) = vB (wV U) ∧ vD (wV U9) = vD (wV U) + 1 ∧ vA (wV U9) = vA (wV U) + 1 := by rw [eV9]; exact ⟨rfl, hM, rfl, rfl, rfl, rfl, rfl, rfl⟩
    obtain ⟨xS9, xM9, xG9, xN9, xT9, xB9, xD9, xA9⟩ := hx9
    -- the model up to there
    have T0 : mGo (fun s => SM s b n K U i r k0) (fun D s P => md_source D i (if lf = true then 1 else 0) (m_pl b n jn) s P) B (fun s s1 => SM s1 b n K U9 i r k0 ∧ qF i k0 s s1) (fun d' s P => md_queryOf d' s (fun v4 s8 => mw (d' + 1) 220 (am_blk 220 3) [159, i, if lf = true then 1 else 0, m_pl b n jn, ((3 * i + (s_src r).length : Nat) : Int), 0, 0] [v4] s8 P)) := by
      intro s d' P hs hd hk
      have hsl := hs.me.le
      refine w220_e ⟨fun _ => ⟨by omega, by have := hs.i60; omega, hs.me.isS1 ts_40 q ⟨fun w => absurd w (by omega), fun _ => ⟨by rw [hs.me.2.1.1]; omega, by rw [hs.me.2.1.1]; omega, hs.me.deeper1 (by omega) h12 (fun s7 e7 => ?_)⟩⟩⟩, fun w => absurd (by rw [hs.gd]; decide) w⟩
      rw [ms_u_f _ _ _ (by decide), hs.me.2.1.1, am_w_s (by omega)] at e7
      have hs7 : SM s7 b n K U9 i r k0 := by rw [e7, ← hU9]; exact (hs.deep (k := vD (wV U) + 1) (by omega)).at (k := vA (wV U) + 1) (by omega)
      refine ⟨fun w => absurd (hs7.gd.symm.trans w) (by decide), fun _ => ?_⟩
      rw [so_o hs]
      exact hk s7 ⟨hs7, qF.hd (fun q j hq => by rw [e7, ms_u_f _ _ _ (by omega), ms_u_f _ _ _ (by omega)])⟩
    refine ⟨h9.ce.r, hI L' rfl pl b n K Z U9 (oS c9 Z (wm U9)) (oQ c9 pl Z (wq U9)) c9 d _ h9.1 (by omega) ⟨by rw [xS9]; exact hbd.1, by rw [xS9, em9]; exact hbd.2.1, by rw [em9, eq9]; exact hbd.2.2⟩ xM9 (cov.rf _ _ _ _ _) (by omega) (fun v9 c10 Z' u10 cv10 zt10 hP => ?_)⟩
    obtain ⟨i1, i2⟩ := o2.inn (m1 := wm U9) (k1 := wq U9) (by have := h9.2.1; omega) (by omega) o3 h9.1.2.2.2.1 h9.1.2.2.2.2 u10 cv10
    have ez := u10.2.1.2.2.1 i hiz
    have u10c := o1.tr i1
    have hiz' : i < zS Z' := by have := u10.2.1.1; omega
    have hs10 : c_v c10 365 (zs Z' i) 0 = ((s_src r).length : Int) := (h9.sel.inn h9.2.2.2.1 o3 h9.2.1 h9.1.2.2.2.1 h9.1.2.2.2.2 u10).1.2.2.1.1
    rw [← ez]
    -- a fault, from then on
    have ff : ∀ (c1 : cs_S) (f p : Int) (x5 x6 x7 : Int), CF c1 pl f p → c_sm (sWr pl (zs Z' i)) c10 c1 → c_v c1 365 (zs Z' i) 0 = ((s_src r).length : Int) → mEn (fun s => SM s b n K U i r k0) (fun D s P => md_source D i (if lf = true then 1 else 0) (m_pl b n jn) s P) (B + 1) (fun s _ s' => MF s' f p ∧ qF i k0 s s') → cw (d + 1) 75 (am_blk 75 3) [pl, zs Z' i, jn, if lf = true then 1 else 0, ((s_src r).length : Int), x5, x6, x7] [] c1 Q := by
      intro c1 f p x5 x6 x7 hf s1 hs1 hm
      obtain ⟨w1, w2, w3⟩ := own_u zt10 s1 i2 hmk.1 hiz'
      exact u75_3 (os_ff kk hmk.1 hf w3 (u10c.tr w1) w2 hiz' (by omega) hs1 hm)
    rcases hP with ⟨U10, q10, rd10, tc10, wx10, qb10, ⟨bd10, vs10⟩, ev, mm⟩ | ⟨f, p, hf, mf⟩
    · have h10 := h9.inn u10 q10 rd10 tc10 wx10
      have h10l := h10.ce.le
      have hA10 := h10.ce.2.2.1.1
      have xD10 : vD (wV U10) = vD (wV U) + 1 := wx10.2.2.2.1.trans xD9
      have m60 : wm U10 ≤ 60 := by
        have b2 : bd2 U9 (L' + 1) := ⟨by rw [xS9]; exact hbd.1, by rw [xS9, em9]; exact hbd.2.1, by rw [em9, eq9]; exact hbd.2.2⟩
        have := (b2.nx bd10).2.1
        omega
      have T1 : mGo (fun s => SM s b n K U i r k0) (fun D s P => md_source D i (if lf = true then 1 else 0) (m_pl b n jn) s P) B (fun s s1 => SM s1 b n K U10 i r k0 ∧ qF i k0 s s1) (fun d' s P => mw (d' + 1) 220 (am_blk 220 3) [159, i, if lf = true then 1 else 0, m_pl b n jn, ((3 * i + (s_src r).length : Nat) : Int), 0, 0] [(wq U : Int)] s P) :=
        T0.go (fun s0 s d' P _ hr hd hk => mm s d' _ (hr.1.qm xM9) (by omega) (fun v s1 hv => by
          obtain ⟨e1, e2, e3, e4⟩ := hv
          rw [e1, eq9]
          exact hk s1 ⟨hr.1.inn e2 e3 e4 wx10 m60, hr.2.tr (e4.mono (by have := h9.2.1; omega) (by omega))⟩))
      refine ⟨h10.ce.r, h10.ce.r, k_want h10.ce (by omega) (sty (by decide)) (fun q2 => ?_) (fun q2 => ?_)⟩
      · have hK2 := tk_is_lt h10.ce.2.1.2.1 h10l.1 q2
        have h11 := h10.at (k := vA (wV U10) + 1) (by omega)
        refine ⟨h11.ce.r, h11.ce.r, fun c12 e12 => ?_⟩
        rw [h11.ce.2.2.1.2.2.2.1, show vD (wV (w_v U10 (v_at (wV U10) (vA (wV U10) + 1)))) = vD (wV U) + 1 from xD10, am_w_in (by omega) (by omega), show ((vD (wV U) + 1 : Nat) : Int) - 1 = (vD (wV U) : Int) by omega] at e12
        have h12 : SE c12 pl b n K Z' (w_v U10 (v_deep (v_at (wV U10) (vA (wV U10) + 1)) (vD (wV U)))) i r k0 := by rw [e12]; exact h11.deep (k := vD (wV U)) (by omega)
        have s12 : c_sm (sWr pl (zs Z' i)) c10 c12 := by rw [e12]; exact (pf_own (by decide)).tr (pf_own (by decide))
        -- the model behind )
        have T2 : mGo (fun s => SM s b n K U i r k0) (fun D s P => md_source D i (if lf = true then 1 else 0) (m_pl b n jn) s P) B (fun s s1 => SM s1 b n K (w_v U10 (v_deep (v_at (wV U10) (vA (wV U10) + 1)) (vD (wV U)))) i r k0 ∧ (s1 49 ((3 * i + (s_src r).length : Nat) : Int) = -1 ∧ s1 53 ((3 * i + (s_src r).length : Nat) : Int) = (wq U : Int) ∧ s1 54 ((3 * i + (s_src r).length : Nat) : Int) = (tk_p b n (vA (wV U10)) : Int)) ∧ qF i k0 s s1) (fun d' s P => mw (d' + 1) 220 (am_blk 220 8) [159, i, if lf = true then 1 else 0, m_pl b n jn, ((3 * i + (s_src r).length : Nat) : Int), (wq U : Int), (tk_p b n (vA (wV U10)) : Int)] [] s P) := by
          refine T1.go (fun s0 s d' P _ hr hd hk => ?_)
          have hs := hr.1
          have hsl := hs.me.le
          have i60 := hs.i60
          have l3 : (s_src r).length < 3 := by have := bd10.2.1; omega
          refine w220_3 (fun s1 e1 => ?_)
          rw [hs.me.2.1.2.2.2.1, xD10, am_w_in (by omega) (by omega), show ((vD (wV U) + 1 : Nat) : Int) - 1 = (vD (wV U) : Int) by omega] at e1
          have hs1 : SM s1 b n K (w_v U10 (v_deep (wV U10) (vD (wV U)))) i r k0 := by rw [e1]; exact hs.deep (k := vD (wV U)) (by omega)
          have hp1 : s1 15 (s1 18 0) = (tk_p b n (vA (wV U10)) : Int) := hs1.me.pl
          have ha1 : s1 18 0 = (vA (wV U10) : Int) := hs1.me.2.1.1
          rw [hp1, ha1]
          refine ⟨by omega, by omega, hs1.me.needS1 (by omega) ts_41 q2 ⟨fun w => absurd (hs1.gd.symm.trans ((ms_u_f _ _ _ (by decide)).symm.trans w)) (by decide), fun _ => ?_⟩⟩
          have hs2 := hs1.at (k := vA (wV U10) + 1) (by omega)
          refine ⟨by omega, by omega, fun s3 e3 => ⟨by omega, by omega, fun s4 e4 => ⟨by omega, by omega, fun s5 e5 => w220_4 ?_⟩⟩⟩
          have hs5 : SM s5 b n K (w_v U10 (v_deep (v_at (wV U10) (vA (wV U10) + 1)) (vD (wV U)))) i r k0 := by
            rw [e5, e4, e3]
            exact ((hs2.s1 l3 (by omega)).s1 l3 (by omega)).s1 l3 (by omega)
          refine hk s5 ⟨hs5, ⟨?_, ?_, ?_⟩, hr.2.tr ?_⟩
          · rw [e5, ms_u_f _ _ _ (by decide), e4, ms_u_f _ _ _ (by decide), e3, ms_u_eq]
          · rw [e5, ms_u_f _ _ _ (by decide), e4, ms_u_eq]
          · rw [e5, ms_u_eq]
          · have o : oF i s s5 := by
              rw [e5, e4, e3, e1]
              exact ((((oF.u (by omega)).tr (oF.u (by omega))).tr (oF.u (Or.inl (Or.inr (Or.inr ⟨by omega, by omega, by omega⟩))))).tr (oF.u (Or.inl (Or.inr (Or.inr ⟨by omega, by omega, by omega⟩))))).tr (oF.u (Or.inl (Or.inr (Or.inr ⟨by omega, by omega, by omega⟩))))
            exact o.qf (Nat.le_refl _) i60
        generalize hU12 : w_v U10 (v_deep (v_at (wV U10) (vA (wV U10) + 1)) (vD (wV U))) = U12 at h12 T2
        have hx12 : wV U12 = v_deep (v_at (wV U10) (vA (wV U10) + 1)) (vD (wV U)) ∧ U12.2 = U10.2 := by rw [← hU12]; exact ⟨rfl, rfl⟩
        have xA12 : vA (wV U12) = vA (wV U10) + 1 := by rw [hx12.1]; rfl
        have h12l := h12.ce.le
        have hs12 := h12.sel.2.2.1.1
        -- as
        refine ⟨h12.ce.r, k_want h12.ce (by omega) (sty (by decide)) (fun q3 => ?_) (fun q3 => ?_)⟩
        · have hK3 := tk_is_lt h12.ce.2.1.2.1 h12l.1 q3
          have h13 := h12.at (k := vA (wV U12) + 1) (by omega)
          generalize hU13 : w_v U12 (v_at (wV U12) (vA (wV U12) + 1)) = U13 at h13
          have hx13 : wV U13 = v_at (wV U12) (vA (wV U12) + 1) ∧ U13.2 = U12.2 := by rw [← hU13]; exact ⟨rfl, rfl⟩
          have xA13 : vA (wV U13) = vA (wV U12) + 1 := by rw [hx13.1]; rfl
          have T3 : mGo (fun s => SM s b n K U i r k0) (fun D s P => md_source D i (if lf = true then 1 else 0) (m_pl b n jn) s P) B (fun s s1 => SM s1 b n K U13 i r k0 ∧ (s1 49 ((3 * i + (s_src r).length : Nat) : Int) = -1 ∧ s1 53 ((3 * i + (s_src r).length : Nat) : Int) = (wq U : Int) ∧ s1 54 ((3 * i + (s_src r).length : Nat) : Int) = (tk_p b n (vA (wV U10)) : Int)) ∧ qF i k0 s s1) (fun d' s P => md_name d' s (fun v1 s2 => mw (d' + 1) 220 (am_blk 220 10) [159, i, if lf = true then 1 else 0, m_pl b n jn, ((3 * i + (s_src r).length : Nat) : Int), (wq U : Int), (tk_p b n (vA (wV U10)) : Int)] [v1] s2 P)) := by
            refine T2.go (fun s0 s d' P _ hr hd hk => ?_)
            have hs := hr.1
            have hs1 := hs.at (k := vA (wV U12) + 1) (by omega)
            rw [hU13] at hs1
            refine w220_8 (hs.me.needW1 (by omega) tw_as (sty (by omega)) q3 ⟨fun w => absurd (hs1.gd.symm.trans w) (by decide), fun _ => hk _ ⟨hs1, ?_, hr.2.2.tr (qF.hd (fun q j hq => ms_u_f _ _ _ (by omega)))⟩⟩)
            rw [ms_u_f _ _ _ (by decide), ms_u_f _ _ _ (by decide), ms_u_f _ _ _ (by decide)]
            exact hr.2.1
          have s13 : c_sm (sWr pl (zs Z' i)) c10 (c_u c12 122 pl 0 ((vA (wV U12) + 1 : Nat) : Int)) := s12.tr (pf_own (by decide))
          have h13l := h13.ce.le
          have hs13 := h13.sel.2.2.1.1
          refine ⟨h13.ce.r, k_wantName h13.ce (by omega) (fun q4 => ?_) (fun q4 v10 => ?_)⟩
          · have hK4 : vA (wV U13) < K := by
              by_cases cc : vA (wV U13) = K
              · have := q4.1
                have := h13.ce.2.1.2.1.2
                rw [← cc] at this
                omega
              · omega
            have h14 := h13.at (k := vA (wV U13) + 1) (by omega)
            generalize hU14 : w_v U13 (v_at (wV U13) (vA (wV U13) + 1)) = U14 at h14
            have hx14 : wV U14 = v_at (wV U13) (vA (wV U13) + 1) ∧ U14.2 = U13.2 := by rw [← hU14]; exact ⟨rfl, rfl⟩
            have l3 : (s_src r).length < 3 := by have := bd10.2.1; omega
            have hr14 := h14.ce.r
            have s14 := s13.tr (pf_own (q0 := 122) (v := ((vA (wV U13) + 1 : Nat) : Int)) (A := zs Z' i) (c := c_u c12 122 pl 0 ((vA (wV U12) + 1 : Nat) : Int)) (pl := pl) (by omega))
            refine ⟨hr14, k_good1 hr14 h14.ce.2.2.1.2.2.1 ⟨fun w => absurd w (by omega), fun _ => ?_⟩⟩
            obtain ⟨hsl14, hiz14, -⟩ := h14.sl
            have f4 : c_v _ 366 (zs Z' i) 0 = zs Z' i + 4 ∧ c_r _ (zs Z' i + 4) = 866 ∧ c_l _ (zs Z' i + 4) = 4 := hsl14.2 (366, 4, 4) (by decide)
            have f5 : c_v _ 367 (zs Z' i) 0 = zs Z' i + 5 ∧ c_r _ (zs Z' i + 5) = 867 ∧ c_l _ (zs Z' i + 5) = 4 := hsl14.2 (367, 5, 4) (by decide)
            have f8 : c_v _ 370 (zs Z' i) 0 = zs Z' i + 8 ∧ c_r _ (zs Z' i + 8) = 870 ∧ c_l _ (zs Z' i + 8) = 4 := hsl14.2 (370, 8, 4) (by decide)
            rw [f4.1]
            refine ⟨hsl14.1, f4.2.1, by omega, by rw [f4.2.2]; omega, fun c16 e16 => ?_⟩
            have v5 : c_v c16 367 (zs Z' i) 0 = zs Z' i + 5 := by rw [e16, c_u_q (by decide)]; exact f5.1
            rw [v5]
            refine ⟨by rw [e16]; exact hsl14.1, by rw [e16]; exact f5.2.1, by omega, by rw [e16]; show _ < c_l _ _; rw [show c_l (c_u (c_u (c_u c12 _ _ _ _) _ _ _ _) _ _ _ _) (zs Z' i + 5) = 4 from f5.2.2]; omega, fun c17 e17 => ?_⟩
            have v8 : c_v c17 370 (zs Z' i) 0 = zs Z' i + 8 := by rw [e17, c_u_q (by decide), e16, c_u_q (by decide)]; exact f8.1
            rw [v8]
            refine ⟨by rw [e17, e16]; exact hsl14.1, by rw [e17, e16]; exact f8.2.1, by omega, by rw [e17, e16]; show _ < c_l _ _; rw [show c_l (c_u (c_u (c_u (c_u c12 _ _ _ _) _ _ _ _) _ _ _ _) _ _ _ _) (zs Z' i + 8) = 4 from f8.2.2]; omega, fun c18 e18 => u75_3 ?_⟩
            have hs14 := h14.sel.2.2.1.1
            have sl18 : slA c18 (zs Z' i) := by
              rw [e18, e17, e16]
              exact hsl14.sm (((c_sm.u _ (sOw_a (A := zs Z' i) (by omega) (by omega) (by omega)) _ _).tr (c_sm.u _ (sOw_a (by omega) (by omega) (by omega)) _ _)).tr (c_sm.u _ (sOw_a (by omega) (by omega) (by omega)) _ _)) (fun t ht w => w.2.2.2.2.2 (Or.inr (Or.inr (Or.inr (Or.inr (Or.inr ⟨t, ht, rfl⟩))))))
            refine rs_11 sl18 (by omega) (by rw [e18, c_u_q (by decide), e17, c_u_q (by decide), e16, c_u_q (by decide)]; exact hs14) (by cases lf <;> decide) ?_
            have hw14 : wm U14 = wm U10 ∧ wq U14 = wq U10 ∧ wS U14 = wS U10 ∧ wQ U14 = wQ U10 := by
              have e : U14.2 = U10.2 := by rw [hx14.2, hx13.2, hx12.2]
              unfold wm wq wS wQ
              rw [e]; exact ⟨rfl, rfl, rfl, rfl⟩
            have hq14 : wq U < wq U14 := by
              have := qb10.le.2
              have e1 : p_q (wP b n U9) = wq U9 := rfl
              have e2 : p_q (wP b n U10) = wq U10 := rfl
              omega
            have fin := h14.srq (q := wq U) (tok := vA (wV U10)) (nm := vA (wV U13)) (jn := jn) (lf := lf) l3 hq14
            rw [e18, e17, e16, ev, eq9, hA10]
            have sF : c_sm (sWr pl (zs Z' i)) c10 _ := s14.tr (((((((c_sm.u _ (sOw_a (A := zs Z' i) (q := 866) (a := zs Z' i + 4) (by omega) (by omega) (by omega)) ((s_src r).length : Int) (zq Z' (wq U))).tr (c_sm.u _ (sOw_a (q := 867) (a := zs Z' i + 5) (by omega) (by omega) (by omega)) ((s_src r).length : Int) (vA (wV U10) : Int))).tr (c_sm.u _ (sOw_a (q := 870) (a := zs Z' i + 8) (by omega) (by omega) (by omega)) ((s_src r).length : Int) (vA (wV U13) : Int))).tr (c_sm.u _ (sOw_a (q := 871) (a := zs Z' i + 9) (by omega) (by omega) (by omega)) ((s_src r).length : Int) jn)).tr (c_sm.u _ (sOw_a (q := 872) (a := zs Z' i + 10) (by omega) (by omega) (by omega)) ((s_src r).length : Int) (if lf = true then 1 else 0))).tr (c_sm.u _ (sOw_f (q := 365) (by omega)) 0 (((s_src r).length + 1 : Nat) : Int))).mono (fun q a w => sOw_own (pl := pl) w))
            obtain ⟨w1, w2, w3⟩ := own_u zt10 sF i2 hmk.1 hiz'
            have vv : vT (wV U14) = vT (wV U10) ∧ vB (wV U14) = vB (wV U10) ∧ vN (wV U14) = vN (wV U10) ∧ vS (wV U14) = vS (wV U10) ∧ vM (wV U14) = vM (wV U10) ∧ vG (wV U14) = vG (wV U10) ∧ vD (wV U14) = vD (wV U) ∧ vA (wV U14) = vA (wV U10) + 3 := by
              rw [hx14.1, hx13.1, hx12.1]; exact ⟨rfl, rfl, rfl, rfl, rfl, rfl, rfl, rfl⟩
            obtain ⟨yT, yB, yN, yS, yM, yG, yD, yA⟩ := vv
            have eY14 : wY U14 = wY U10 := by unfold wY; rw [yT, yB, hw14.2.2.1, hw14.2.2.2]
            have k1 := tk_p_1 h10.ce.2.1.2.1 hK2
            have k2 := tk_is_y q3 (by decide +kernel)
            have k2' : (st_str (-88)).length = 2 := by decide +kernel
            have k3 := tk_p_1 h13.ce.2.1.2.1 hK4
            rw [k2'] at k2
            obtain ⟨⟨wa1, wa2, wa3⟩, ⟨wb1, wb2⟩, ⟨wc1, wc2⟩, wd1, wd2, wd3⟩ := wx10
            refine kk _ Z' (u10c.tr w1) w2 w3 (Or.inl ⟨U14, _, fin, ⟨⟨by omega, by omega, fun e he => ?_⟩, ⟨by omega, fun j hj => ?_⟩, ⟨by omega, fun j hj => ?_⟩, yD, by rw [yM, wd2, xM9, hM], by rw [yG, wd3, xG9]⟩, ⟨rfl, rfl, rfl⟩, ⟨by show vA (wV U13) ≤ K; omega, by show vA (wV U10) ≤ K; omega, wP b n U9, wP b n U10, ⟨eY9, eP9.1, eP9.2.1, eP9.2.2.1, eP9.2.2.2⟩, eq9, ?_, ?_⟩, ⟨⟨?_, ?_, ?_, ?_⟩, by omega⟩, ?_⟩)
            · rw [yT, yB, (wa3 e (by omega)).1, (wa3 e (by omega)).2, xT9, xB9]; exact ⟨rfl, rfl⟩
            · rw [hw14.2.2.1, wb2 j (by omega), eS9]
            · rw [hw14.2.2.2, wc2 j (by omega), eQ9]
            · rw [eY14, ← eq9]; exact qb10
            · refine ⟨?_, by show vN (wV U14) = vN (wV U10); exact yN, by show wm U14 = wm U10; exact hw14.1, by show wq U14 = wq U10; exact hw14.2.1, by show vS (wV U14) = vS (wV U10); exact yS⟩
              show tk_p b n (vA (wV U10)) + 4 ≤ tk_p b n (vA (wV U14))
              rw [yA, show vA (wV U10) + 3 = vA (wV U10) + 1 + 1 + 1 from rfl]
              rw [xA12] at k2
              rw [xA13, xA12] at k3
              omega
            · have := bd10.1; omega
            · have := bd10.2.1; omega
            · have := bd10.2.2.1
              rw [hw14.1, yS]
              rw [em9, xS9] at this
              exact this
            · have := bd10.2.2.2; omega
            · refine T3.en (fun s0 s d' P _ hr hd hk => ?_)
              have hs := hr.1
              have i60 := hs.i60
              have hs1 := hs.at (k := vA (wV U13) + 1) (by omega)
              rw [hU14] at hs1
              obtain ⟨g1, g2, g3⟩ := hr.2.1
              refine hs.me.name1 (by omega) q4 (w220_10 ⟨fun _ => ?_, fun w => absurd (by rw [hs1.gd]; decide) w⟩)
              refine ⟨by omega, by omega, fun t1 e1 => ⟨by omega, by omega, fun t2 e2 => ⟨by omega, by omega, fun t3 e3 => ⟨by omega, by omega, fun t4 e4 => ⟨by omega, by omega, fun t5 e5 => ⟨by omega, by omega, fun _ => w220_13 ⟨by omega, by omega, by omega, by omega, fun t6 e6 => ?_⟩, fun w => absurd ?_ w⟩⟩⟩⟩⟩⟩
              · have ht5 : SM t5 b n K U14 i r k0 := by
                  rw [e5, e4, e3, e2, e1]
                  exact ((((hs1.s1 l3 (by omega)).s1 l3 (by omega)).s1 l3 (by omega)).s1 l3 (by omega)).s1 l3 (by omega)
                rw [ht5.k, am_w_s (by omega)] at e6
                have ms5 : m_src t5 b n ((3 * i + (s_src r).length : Nat) : Int) ((some (wq U), vA (wV U10), 0, vA (wV U13)), (jn, lf, -2)) := by
                  refine ⟨⟨?_, ?_, ?_⟩, ?_, ?_, ?_, fun w => absurd rfl w⟩
                  · rw [e5, ms_u_f _ _ _ (by decide), e4, ms_u_f _ _ _ (by decide), e3, ms_u_f _ _ _ (by decide), e2, ms_u_f _ _ _ (by decide), e1, ms_u_f _ _ _ (by decide), ms_u_f _ _ _ (by decide)]; exact g1
                  · rw [e5, ms_u_f _ _ _ (by decide), e4, ms_u_f _ _ _ (by decide), e3, ms_u_f _ _ _ (by decide), e2, ms_u_f _ _ _ (by decide), e1, ms_u_f _ _ _ (by decide), ms_u_f _ _ _ (by decide)]; exact g2
                  · rw [e5, ms_u_f _ _ _ (by decide), e4, ms_u_f _ _ _ (by decide), e3, ms_u_f _ _ _ (by decide), e2, ms_u_f _ _ _ (by decide), e1, ms_u_f _ _ _ (by decide), ms_u_f _ _ _ (by decide)]; exact g3
                  · rw [e5, ms_u_f _ _ _ (by decide), e4, ms_u_f _ _ _ (by decide), e3, ms_u_f _ _ _ (by decide), e2, ms_u_f _ _ _ (by decide), e1, ms_u_eq]; rfl
                  · rw [e5, ms_u_f _ _ _ (by decide), e4, ms_u_f _ _ _ (by decide), e3, ms_u_f _ _ _ (by decide), e2, ms_u_eq]; rfl
                  · rw [e5, ms_u_eq, am_i2b_b (by cases lf <;> decide)]; rfl
                refine hk _ _ ⟨by rw [e6]; exact ht5.src l3 ms5, hr.2.2.tr ?_⟩
                · have o : oF i s t6 := by
                    rw [e6, e5, e4, e3, e2, e1]
                    have ob : ∀ (q : Nat) (s : ms_S) (v : Int), 49 ≤ q → q ≤ 58 → oF i s (ms_u s q ((3 * i + (s_src r).length : Nat) : Int) v) := fun q s v h1 h2 => oF.u (Or.inl (Or.inr (Or.inr ⟨⟨h1, h2⟩, by omega, by omega⟩)))
                    exact ((((((oF.u (by omega)).tr (ob _ _ _ (by omega) (by omega))).tr (ob _ _ _ (by omega) (by omega))).tr (ob _ _ _ (by omega) (by omega))).tr (ob _ _ _ (by omega) (by omega))).tr (ob _ _ _ (by omega) (by omega))).tr (oF.u (Or.inl (Or.inl ⟨by omega, rfl⟩)))
                  exact o.qf (Nat.le_refl _) i60
              · rw [e5, ms_u_f _ _ _ (by decide), e4, ms_u_f _ _ _ (by decide), e3, ms_u_f _ _ _ (by decide), e2, ms_u_f _ _ _ (by decide), e1, ms_u_f _ _ _ (by decide), ms_u_f _ _ _ (by decide)]; exact g1
          · have hf := h13.ce.cf (x := 1) (y := (tk_p b n (vA (wV U13)) : Int)) (by omega)
            refine ⟨hf.1, k_good0 hf.1 hf.nz ⟨fun _ => ff _ _ _ _ _ _ hf (s13.tr fl_own) (by rw [(c_fl_sm (R := 0)).v (by unfold eW; omega)]; exact hs13) ?_, fun w => absurd rfl w⟩⟩
            refine T3.en (fun s0 s d' P _ hr hd hk => ?_)
            have hs := hr.1
            exact hs.me.name0 (by omega) q4 (w220_10 ⟨fun w => absurd hs.me.mf.1 w, fun _ => hk _ _ ⟨hs.me.mf, hr.2.2.tr qF.fl⟩⟩)
        · have hf := h12.ce.cf (x := 1) (y := (tk_p b n (vA (wV U12)) : Int)) (by omega)
          refine ⟨hf.1, k_wantName0 hf (by omega) (fun v10 => ⟨hf.1, k_good0 hf.1 hf.nz ⟨fun _ => ff _ _ _ _ _ _ hf (s12.tr fl_own) (by rw [(c_fl_sm (R := 0)).v (by unfold eW; omega)]; exact hs12) ?_, fun w => absurd rfl w⟩⟩)⟩
          refine T2.en (fun s0 s d' P _ hr hd hk => ?_)
          have hs := hr.1
          have hf2 := hs.me.mf (f := 1) (p := (tk_p b n (vA (wV U12)) : Int))
          exact w220_8 (hs.me.needW0 (by omega) tw_as (sty (by decide)) q3 ⟨fun _ => w220_10 ⟨fun w => absurd hf2.1 w, fun _ => hk _ _ ⟨hf2, hr.2.2.tr qF.fl⟩⟩, fun w => absurd hf2.1 w⟩)
      · have hf := h10.ce.cf (x := 1) (y := (tk_p b n (vA (wV U10)) : Int)) (by omega)
        refine ⟨hf.1, hf.1, fun c12 e12 => ?_⟩
        have hf2 : CF c12 pl 1 (tk_p b n (vA (wV U10))) := by rw [e12]; exact hf.deep
        have s12 : c_sm (sWr pl (zs Z' i)) c10 c12 := by rw [e12]; exact fl_own.tr (pf_own (by decide))
        refine ⟨hf2.1, k_want0 hf2 (by omega) ⟨hf2.1, k_wantName0 hf2 (by omega) (fun v10 => ⟨hf2.1, k_good0 hf2.1 hf2.nz ⟨fun _ => ff _ _ _ _ _ _ hf2 s12 ?_ ?_, fun w => absurd rfl w⟩⟩)⟩⟩
        · rw [e12, c_u_q (by decide), (c_fl_sm (R := 0)).v (by unfold eW; omega)]; exact hs10
        · refine T1.en (fun s0 s d' P _ hr hd hk => ?_)
          have hs := hr.1
          have hsl := hs.me.le
          refine w220_3 (fun s1 e1 => ?_)
          rw [hs.me.2.1.2.2.2.1, xD10, am_w_in (by omega) (by omega), show ((vD (wV U) + 1 : Nat) : Int) - 1 = (vD (wV U) : Int) by omega] at e1
          have hs1 : SM s1 b n K (w_v U10 (v_deep (wV U10) (vD (wV U)))) i r k0 := by rw [e1]; exact hs.deep (k := vD (wV U)) (by omega)
          have ha1 : s1 18 0 = (vA (wV U10) : Int) := hs1.me.2.1.1
          have hf3 := hs1.me.mf (f := 1) (p := (tk_p b n (vA (wV U10)) : Int))
          refine ⟨by rw [ha1]; omega, by rw [ha1]; omega, hs1.me.needS0 (by omega) ts_41 q2 ⟨fun _ => w220_4 (so_8f hf3 (by omega) (hk _ _ ⟨hf3, hr.2.tr (qF.tr (qF.hd (fun q j hq => by rw [e1]; exact ms_u_f _ _ _ (by omega))) qF.fl)⟩)), fun w => absurd hf3.1 w⟩⟩
    · refine ⟨hf.1, hf.1, k_want0 hf (by omega) ⟨hf.1, hf.1, fun c12 e12 => ?_⟩⟩
      have hf2 : CF c12 pl f p := by rw [e12]; exact hf.deep
      have s12 : c_sm (sWr pl (zs Z' i)) c10 c12 := by rw [e12]; exact pf_own (by decide)
      refine ⟨hf2.1, k_want0 hf2 (by omega) ⟨hf2.1, k_wantName0 hf2 (by omega) (fun v10 => ⟨hf2.1, k_good0 hf2.1 hf2.nz ⟨fun _ => ff _ _ _ _ _ _ hf2 s12 ?_ ?_, fun w => absurd rfl w⟩⟩)⟩⟩
      · rw [e12, c_u_q (by decide)]; exact hs10
      · refine T0.en (fun s0 s d' P _ hr hd hk => mf s d' _ (hr.1.qm xM9) (by omega) (fun v s1 hv => so_3f hv.1 (by omega) (fun s2 hf3 e3 => hk _ _ ⟨hf3, hr.2.tr ((hv.2.mono (by have := h9.2.1; omega) (by omega)).tr (qF.hd (fun q j hq => e3 q j (by omega))))⟩)))
  · have hf := hce.cf (x := 7) (y := (tk_p b n (vA (wV U)) : Int)) (by omega)
    obtain ⟨o1, o2, o3⟩ := h.ow (fl_own (x := 7) (y := (tk_p b n (vA (wV U)) : Int))) hc hmk.1
    refine kk _ Z o1 o2 o3 (Or.inr ⟨7, _, hf, ?_⟩)
    intro s D P hs hD2 hk
    obtain ⟨d', rfl⟩ : ∃ d', D = d' + 1 := ⟨D - 1, by omega⟩
    have hsl := hs.me.le
    refine w220_e ⟨fun _ => ⟨by omega, by have := hs.i60; omega, hs.me.isS1 ts_40 q ⟨fun w => absurd w (by omega), fun _ => ⟨by rw [hs.me.2.1.1]; omega, by rw [hs.me.2.1.1]; omega, hs.me.deeper0 (by omega) h12 (fun s7 e7 => ?_)⟩⟩⟩, fun w => absurd (by rw [hs.gd]; decide) w⟩
    have hp : s 15 (s 18 0) = (tk_p b n (vA (wV U)) : Int) := hs.me.pl
    rw [hp] at e7
    have e18 : m_fl (ms_u s 70 0 13) 7 (tk_p b n (vA (wV U))) 18 0 = (vA (wV U) : Int) := by rw [m_fl_f (by omega) (by omega) (by omega), ms_u_f _ _ _ (by decide)]; exact hs.me.2.1.1
    rw [e18, am_w_s (by omega)] at e7
    have hf7 : MF s7 7 (tk_p b n (vA (wV U))) := by
      have hf6 : MF (m_fl (ms_u s 70 0 13) 7 (tk_p b n (vA (wV U)))) 7 (tk_p b n (vA (wV U))) := m_fl_MF (by rw [ms_u_f _ _ _ (by decide), hs.me.2.1.1]; omega) (by rw [ms_u_f _ _ _ (by decide), hs.me.2.1.1]; omega)
      obtain ⟨f1, f2, f3, f4⟩ := hf6
      rw [e7]
      exact ⟨by rw [ms_u_f _ _ _ (by decide)]; exact f1, by rw [ms_u_f _ _ _ (by decide)]; exact f2, by rw [ms_u_f _ _ _ (by decide)]; exact f3, by rw [ms_u_eq]; omega, by rw [ms_u_eq]; omega⟩
    refine ⟨fun _ => so_3f hf7 (by omega) (fun s2 hf3 e3 => hk _ _ ⟨hf3, qF.hd (fun q j hq => by rw [e3 q j (by omega), e7, ms_u_f _ _ _ (by omega), m_fl_f (by omega) (by omega) (by omega), ms_u_f _ _ _ (by omega)])⟩), fun w => absurd hf7.1 w⟩
end
