set_option maxRecDepth 100000
/-! the component: expressions come behind one another -/
theorem tkn_case : tkn (st_str (-38)) := ⟨108, by decide +kernel, by decide +kernel, by decide +kernel, by decide +kernel⟩
theorem tkn_span : tkn (st_str (-40)) := ⟨183, by decide +kernel, by decide +kernel, by decide +kernel, by decide +kernel⟩
theorem tkn_count : tkn (st_str (-20)) := ⟨165, by decide +kernel, by decide +kernel, by decide +kernel, by decide +kernel⟩
theorem tkn_sum : tkn (st_str (-22)) := ⟨171, by decide +kernel, by decide +kernel, by decide +kernel, by decide +kernel⟩
theorem tkn_min : tkn (st_str (-24)) := ⟨175, by decide +kernel, by decide +kernel, by decide +kernel, by decide +kernel⟩
theorem tkn_max : tkn (st_str (-26)) := ⟨179, by decide +kernel, by decide +kernel, by decide +kernel, by decide +kernel⟩
theorem tkn_time : tkn (st_str (-28)) := ⟨198, by decide +kernel, by decide +kernel, by decide +kernel, by decide +kernel⟩
theorem tkn_not : tkn (st_str (-44)) := ⟨135, by decide +kernel, by decide +kernel, by decide +kernel, by decide +kernel⟩
theorem tkn_null : tkn (st_str (-30)) := ⟨139, by decide +kernel, by decide +kernel, by decide +kernel, by decide +kernel⟩
theorem tkn_true : tkn (st_str (-32)) := ⟨154, by decide +kernel, by decide +kernel, by decide +kernel, by decide +kernel⟩
theorem tkn_false : tkn (st_str (-34)) := ⟨159, by decide +kernel, by decide +kernel, by decide +kernel, by decide +kernel⟩
def xaW (ad : Int) (q : Nat) (a : Int) : Prop := (a = ad ∧ q = 200) ∨ (ad + 1 ≤ a ∧ a ≤ ad + 11 ∧ 701 ≤ q ∧ q ≤ 711 ∧ q ≠ 706)
section
variable {c c' : cs_S} {pl R ad : Int} {b : Int → Int} {d D n k K e N : Nat} {V : pV} {Q : Int → cs_S → Prop} {x y act a1 b1 c1 : Int} {W : Nat → Int → Prop} {g : List Nat}
theorem k_xadd {tok : Int} (h : xpA c ad) (hz : c_v c 200 ad 0 = (N : Int)) (hN : N < 121) (kk : ∀ c', c_sm (xaW ad) c c' → c_v c' 200 ad 0 = ((N + 1 : Nat) : Int) → (∀ q a j, j ≠ (N : Int) → q ≠ 200 → c_v c' q a j = c_v c q a j) → (c_v c' 701 (ad + 1) N = act ∧ c_v c' 702 (ad + 2) N = a1 ∧ c_v c' 703 (ad + 3) N = b1 ∧ c_v c' 704 (ad + 4) N = c1 ∧ c_v c' 705 (ad + 5) N = -1 ∧ c_v c' 707 (ad + 7) N = tok ∧ c_v c' 708 (ad + 8) N = 0 ∧ c_v c' 709 (ad + 9) N = 0 ∧ c_v c' 710 (ad + 10) N = -1 ∧ c_v c' 711 (ad + 11) N = tok) → Q N c') : kexp_add d ad act a1 b1 c1 tok c Q := by
  have wd : ∀ {c0 c2 : cs_S}, c_sm (xaW ad) c0 c2 → xpA c0 ad → xpA c2 ad := fun s h => h.sm s (fun q a w => by unfold xaW at w; omega)
  refine u121_e ⟨h.1, h.1, h.1, fun k1 e1 => ?_⟩
  rw [hz] at e1 ⊢
  rw [am_w_s (by omega)] at e1
  have s1 : c_sm (xaW ad) c k1 := by rw [e1]; exact c_sm.u c (by unfold xaW; omega) _ _
  obtain ⟨h0, ⟨p1, p2, p3⟩, -⟩ := id (wd s1 h)
  rw [p1, p2, p3]
  refine ⟨h0, rfl, by omega, by omega, fun k2 e2 => ?_⟩
  have s2 : c_sm (xaW ad) c k2 := s1.tr (by rw [e2]; exact c_sm.u k1 (by unfold xaW; omega) _ _)
  obtain ⟨h0, -, ⟨p1, p2, p3⟩, -⟩ := id (wd s2 h)
  rw [p1, p2, p3]
  refine ⟨h0, rfl, by omega, by omega, fun k3 e3 => ?_⟩
  have s3 : c_sm (xaW ad) c k3 := s2.tr (by rw [e3]; exact c_sm.u k2 (by unfold xaW; omega) _ _)
  obtain ⟨h0, -, -, ⟨p1, p2, p3⟩, -⟩ := id (wd s3 h)
  rw [p1, p2, p3]
  refine ⟨h0, rfl, by omega, by omega, fun k4 e4 => ?_⟩
  have s4 : c_sm (xaW ad) c k4 := s3.tr (by rw [e4]; exact c_sm.u k3 (by unfold xaW; omega) _ _)
  obtain ⟨h0, -, -, -, ⟨p1, p2, p3⟩, -⟩ := id (wd s4 h)
  rw [p1, p2, p3]
  refine ⟨h0, rfl, by omega, by omega, fun k5 e5 => ?_⟩
  have s5 : c_sm (xaW ad) c k5 := s4.tr (by rw [e5]; exact c_sm.u k4 (by unfold xaW; omega) _ _)
  obtain ⟨h0, -, -, -, -, ⟨p1, p2, p3⟩, -⟩ := id (wd s5 h)
  rw [p1, p2, p3]
  refine ⟨h0, rfl, by omega, by omega, fun k6 e6 => ?_⟩
  have s6 : c_sm (xaW ad) c k6 := s5.tr (by rw [e6]; exact c_sm.u k5 (by unfold xaW; omega) _ _)
  obtain ⟨h0, -, -, -, -, -, -, ⟨p1, p2, p3⟩, -⟩ := id (wd s6 h)
  rw [p1, p2, p3]
  refine ⟨h0, rfl, by omega, by omega, fun k7 e7 => ?_⟩
  have s7 : c_sm (xaW ad) c k7 := s6.tr (by rw [e7]; exact c_sm.u k6 (by unfold xaW; omega) _ _)
  obtain ⟨h0, -, -, -, -, -, -, -, -, -, -, ⟨p1, p2, p3⟩⟩ := id (wd s7 h)
  rw [p1, p2, p3]
  refine ⟨h0, rfl, by omega, by omega, fun k8 e8 => ?_⟩
  have s8 : c_sm (xaW ad) c k8 := s7.tr (by rw [e8]; exact c_sm.u k7 (by unfold xaW; omega) _ _)
  obtain ⟨h0, -, -, -, -, -, -, -, ⟨p1, p2, p3⟩, -⟩ := id (wd s8 h)
  rw [p1, p2, p3]
  refine ⟨h0, rfl, by omega, by omega, fun k9 e9 => ?_⟩
  have s9 : c_sm (xaW ad) c k9 := s8.tr (by rw [e9]; exact c_sm.u k8 (by unfold xaW; omega) _ _)
  obtain ⟨h0, -, -, -, -, -, -, -, -, ⟨p1, p2, p3⟩, -⟩ := id (wd s9 h)
  rw [p1, p2, p3]
  refine ⟨h0, rfl, by omega, by omega, fun k10 e10 => ?_⟩
  rw [show am_i2b 0 = 0 by decide] at e10
  have s10 : c_sm (xaW ad) c k10 := s9.tr (by rw [e10]; exact c_sm.u k9 (by unfold xaW; omega) _ _)
  obtain ⟨h0, -, -, -, -, -, -, -, -, -, ⟨p1, p2, p3⟩, -⟩ := id (wd s10 h)
  rw [p1, p2, p3]
  refine ⟨h0, rfl, by omega, by omega, fun k11 e11 => ?_⟩
  have s11 : c_sm (xaW ad) c k11 := s10.tr (by rw [e11]; exact c_sm.u k10 (by unfold xaW; omega) _ _)
  refine kk k11 s11 ?_ (fun q a j hj hq => ?_) ⟨?_, ?_, ?_, ?_, ?_, ?_, ?_, ?_, ?_, ?_⟩
  · rw [e11, c_u_q (by omega), e10, c_u_q (by omega), e9, c_u_q (by omega), e8, c_u_q (by omega), e7, c_u_q (by omega), e6, c_u_q (by omega), e5, c_u_q (by omega), e4, c_u_q (by omega), e3, c_u_q (by omega), e2, c_u_q (by omega), e1, c_u_eq]
  · rw [e11, c_u_j hj, e10, c_u_j hj, e9, c_u_j hj, e8, c_u_j hj, e7, c_u_j hj, e6, c_u_j hj, e5, c_u_j hj, e4, c_u_j hj, e3, c_u_j hj, e2, c_u_j hj, e1, c_u_q hq]
  · rw [e11, c_u_q (by omega), e10, c_u_q (by omega), e9, c_u_q (by omega), e8, c_u_q (by omega), e7, c_u_q (by omega), e6, c_u_q (by omega), e5, c_u_q (by omega), e4, c_u_q (by omega), e3, c_u_q (by omega), e2, c_u_eq]
  · rw [e11, c_u_q (by omega), e10, c_u_q (by omega), e9, c_u_q (by omega), e8, c_u_q (by omega), e7, c_u_q (by omega), e6, c_u_q (by omega), e5, c_u_q (by omega), e4, c_u_q (by omega), e3, c_u_eq]
  · rw [e11, c_u_q (by omega), e10, c_u_q (by omega), e9, c_u_q (by omega), e8, c_u_q (by omega), e7, c_u_q (by omega), e6, c_u_q (by omega), e5, c_u_q (by omega), e4, c_u_eq]
  · rw [e11, c_u_q (by omega), e10, c_u_q (by omega), e9, c_u_q (by omega), e8, c_u_q (by omega), e7, c_u_q (by omega), e6, c_u_q (by omega), e5, c_u_eq]
  · rw [e11, c_u_q (by omega), e10, c_u_q (by omega), e9, c_u_q (by omega), e8, c_u_q (by omega), e7, c_u_q (by omega), e6, c_u_eq]
  · rw [e11, c_u_q (by omega), e10, c_u_q (by omega), e9, c_u_q (by omega), e8, c_u_q (by omega), e7, c_u_eq]
  · rw [e11, c_u_q (by omega), e10, c_u_q (by omega), e9, c_u_eq]
  · rw [e11, c_u_q (by omega), e10, c_u_eq]
  · rw [e11, c_u_eq]
  · rw [e11, c_u_q (by omega), e10, c_u_q (by omega), e9, c_u_q (by omega), e8, c_u_eq]
theorem xaW_eW {q : Nat} {a : Int} (h : xaW (pl + 8) q a) : eW pl R q a := by unfold xaW at h; unfold eW; omega
theorem CE.xa (h : CE c pl b n K R V) : c_v c 121 pl 0 = pl + 8 ∧ c_r c (pl + 8) = 1005 := ⟨h.1.2.2.1, h.1.2.2.2.1⟩
theorem CE.add {tok beg : Nat} (h : CE c pl b n K R V) (hN : vN V < 120) (s : c_sm (xaW (pl + 8)) c c') (hz : c_v c' 200 (pl + 8) 0 = ((vN V + 1 : Nat) : Int)) (fr : ∀ q a j, j ≠ (vN V : Int) → q ≠ 200 → c_v c' q a j = c_v c q a j) (hr : c_v c' 701 (pl + 8 + 1) (vN V) = act ∧ c_v c' 702 (pl + 8 + 2) (vN V) = a1 ∧ c_v c' 703 (pl + 8 + 3) (vN V) = b1 ∧ c_v c' 704 (pl + 8 + 4) (vN V) = c1 ∧ c_v c' 705 (pl + 8 + 5) (vN V) = -1 ∧ c_v c' 707 (pl + 8 + 7) (vN V) = (tok : Int) ∧ c_v c' 708 (pl + 8 + 8) (vN V) = 0 ∧ c_v c' 709 (pl + 8 + 9) (vN V) = 0 ∧ c_v c' 710 (pl + 8 + 10) (vN V) = -1 ∧ c_v c' 711 (pl + 8 + 11) (vN V) = (beg : Int)) : CE c' pl b n K R (v_add V (act, a1, b1, c1, -1, c_v c 706 (pl + 8 + 6) (vN V)) tok beg) := by
  obtain ⟨p1, p2, p3, ⟨g1, g2, g3, g4, g5⟩, p5, p6⟩ := h
  have nn : c_v c' 706 (pl + 8 + 6) (vN V) = c_v c 706 (pl + 8 + 6) (vN V) := s.v (by unfold xaW; omega) _
  have pv : ∀ q : Nat, 120 ≤ q → q ≤ 141 → c_v c' q pl 0 = c_v c q pl 0 := fun q h1 h2 => s.v (by unfold xaW; omega) 0
  refine ⟨p1.sm s (fun q a w => by unfold xaW at w; omega), p2.sm s (fun q a w => by unfold xaW at w; omega), ?_, ⟨hz, by show vN V + 1 ≤ 120; omega, fun e => ?_, fun e he => ?_, fun e he => ?_⟩, p5.sm s (fun q a w => by unfold xaW at w; omega), p6⟩
  · unfold cur
    rw [pv _ (by omega) (by omega), pv _ (by omega) (by omega), pv _ (by omega) (by omega), pv _ (by omega) (by omega), pv _ (by omega) (by omega)]
    exact p3
  · show _ ≤ x_v (x_up (vT V) (vN V) _) e ∧ x_v (x_up (vT V) (vN V) _) e ≤ _
    unfold x_v
    by_cases ce : e = vN V
    · rw [ce, x_up_eq]; exact g4 (vN V) (by omega)
    · rw [x_up_ne _ ce]; exact g3 e
  · rw [s.v (by unfold xaW; omega)]; exact g4 e he
  · show xrow c' (pl + 8) e (x_up (vT V) (vN V) _ e) (if e = vN V then (tok, beg) else vB V e)
    have he : e < vN V + 1 := he
    by_cases ce : e = vN V
    · rw [ce, x_up_eq, if_pos rfl]
      obtain ⟨r1, r2, r3, r4, r5, r6, r7, r8, r9, r10⟩ := hr
      exact ⟨r1, r2, r3, r4, r5, nn, r6, r7, r8, r9, r10⟩
    · rw [x_up_ne _ ce, if_neg ce]
      have f : ∀ q a, q ≠ 200 → c_v c' q a e = c_v c q a e := fun q a hq => fr q a e (by omega) hq
      unfold xrow
      rw [f _ _ (by omega), f _ _ (by omega), f _ _ (by omega), f _ _ (by omega), f _ _ (by omega), f _ _ (by omega), f _ _ (by omega), f _ _ (by omega), f _ _ (by omega), f _ _ (by omega), f _ _ (by omega)]
      exact g5 e (by omega)
theorem k_node {tok : Nat} (h : CE c pl b n K R V) (hD : 3 ≤ D) (ht : tok ≤ K) (h1 : vN V < 120 → ∀ c' z, c_sm (eW pl R) c c' → CE c' pl b n K R (v_add V (act, a1, b1, c1, -1, z) tok tok) → Q (vN V : Int) c') (h0 : vN V = 120 → Q 0 (c_fl c pl 7 (tk_p b n tok))) : kplan_node D pl act a1 b1 c1 tok c Q := by
  obtain ⟨d, rfl⟩ : ∃ d', D = d' + 1 := ⟨D - 1, by omega⟩
  have hr := h.r
  have hf := h.2.2.1.2.2.1
  have had := h.xa
  have hz := h.2.2.2.1.1
  have h120 := h.2.2.2.1.2.1
  refine u64_e ⟨hr, k_good1 hr hf ⟨fun _ => ⟨hr, ?_⟩, fun w => absurd (by omega : (1 : Int) ≠ 0) w⟩⟩
  rw [had.1]
  refine ⟨had.2, u120_e ⟨had.2, fun w => u120_2 ⟨fun _ => ⟨hr, ?_⟩, fun w => absurd rfl w⟩, fun w => u120_2 ⟨fun w => absurd w (by omega), fun _ => ⟨hr, ?_⟩⟩⟩⟩
  · rw [had.1]
    refine ⟨had.2, k_xadd h.1.2.2.2 hz (by omega) (fun c' s z fr rw_ => ?_)⟩
    exact h1 (by omega) c' _ (s.mono (fun q a w => xaW_eW w)) (h.add (by omega) s z fr rw_)
  · rw [h.t.1]
    exact ⟨h.t.2, k_tplace h.2.1 ht ⟨hr, k_fail hr hf (h0 (by omega))⟩⟩
theorem k_node0 {f p tok : Int} (h : CF c pl f p) (hD : 1 ≤ D) (kk : Q 0 c) : kplan_node D pl act a1 b1 c1 tok c Q := by
  obtain ⟨d, rfl⟩ : ∃ d', D = d' + 1 := ⟨D - 1, by omega⟩
  exact u64_e ⟨h.1, k_good0 h.1 h.nz ⟨fun w => absurd rfl w, fun _ => kk⟩⟩
theorem CE.beg {g0 : Nat} (h : CE c pl b n K R V) (he : e < vN V) : CE (c_u c 711 (pl + 8 + 11) e g0) pl b n K R (v_beg V e g0) := by
  obtain ⟨p1, p2, p3, ⟨g1, g2, g3, g4, g5⟩, p5, p6⟩ := h
  have s : c_sm (fun q a => q = 711) c (c_u c 711 (pl + 8 + 11) e g0) := c_sm.u c rfl _ _
  refine ⟨p1.sm s (fun q a w => by omega), p2.sm s (fun q a w => by omega), ?_, ⟨?_, g2, g3, fun i hi => ?_, fun i hi => ?_⟩, p5.sm s (fun q a w => by omega), p6⟩
  · unfold cur
    rw [c_u_q (by omega), c_u_q (by omega), c_u_q (by omega), c_u_q (by omega), c_u_q (by omega)]
    exact p3
  · rw [c_u_q (by omega)]; exact g1
  · rw [c_u_q (by omega)]; exact g4 i hi
  · have := g5 i hi
    show xrow _ (pl + 8) i (vT V i) (if i = e then ((vB V i).1, g0) else vB V i)
    unfold xrow at this ⊢
    rw [c_u_q (by omega), c_u_q (by omega), c_u_q (by omega), c_u_q (by omega), c_u_q (by omega), c_u_q (by omega), c_u_q (by omega), c_u_q (by omega), c_u_q (by omega), c_u_q (by omega)]
    by_cases ce : i = e
    · rw [if_pos ce, ce, c_u_eq]
      rw [ce] at this
      exact ⟨this.1, this.2.1, this.2.2.1, this.2.2.2.1, this.2.2.2.2.1, this.2.2.2.2.2.1, this.2.2.2.2.2.2.1, this.2.2.2.2.2.2.2.1, this.2.2.2.2.2.2.2.2.1, this.2.2.2.2.2.2.2.2.2.1, rfl⟩
    · rw [if_neg ce, c_u_j (by omega)]
      exact this
theorem v_beg_add {r : Int × Int × Int × Int × Int × Int} {tok g0 g1 : Nat} : v_beg (v_add V r tok g1) (vN V) g0 = v_add V r tok g0 := by
  unfold v_beg v_add
  show (V.1, (vN V + 1, x_up (vT V) (vN V) r, fun i => if i = vN V then ((if i = vN V then (tok, g1) else vB V i).1, g0) else (if i = vN V then (tok, g1) else vB V i)), vG V) = _
  refine congrArg (fun z => (V.1, (vN V + 1, x_up (vT V) (vN V) r, z), vG V)) ?_
  funext i
  by_cases ci : i = vN V
  · rw [if_pos ci, if_pos ci, if_pos ci]
  · rw [if_neg ci, if_neg ci, if_neg ci]
theorem k_between {tok beg : Nat} (h : CE c pl b n K R V) (hD : 4 ≤ D) (ht : tok ≤ K) (h1 : vN V < 120 → ∀ c' z, c_sm (eW pl R) c c' → CE c' pl b n K R (v_add V (act, a1, b1, -1, -1, z) tok beg) → Q (vN V : Int) c') (h0 : vN V = 120 → Q 0 (c_fl c pl 7 (tk_p b n tok))) : kplan_between D pl act a1 b1 tok beg c Q := by
  obtain ⟨d, rfl⟩ : ∃ d', D = d' + 1 := ⟨D - 1, by omega⟩
  refine u70_e ⟨h.r, k_node h (by omega) ht (fun hN c' z s h' => ?_) (fun hN => ?_)⟩
  · have hr := h'.r
    refine ⟨hr, k_good1 hr h'.2.2.1.2.2.1 ⟨fun w => absurd w (by omega), fun _ => ⟨hr, ?_⟩⟩⟩
    have had := h'.xa
    obtain ⟨h0, -, -, -, -, -, -, -, -, -, -, ⟨p1, p2, p3⟩⟩ := id h'.1.2.2.2
    rw [had.1, p1, p2, p3]
    refine ⟨had.2, rfl, by omega, by omega, fun c3 e3 => u70_1 (h1 hN c3 z ?_ ?_)⟩
    · exact s.tr (by rw [e3]; exact c_sm.u c' (by unfold eW; omega) _ _)
    · have := h'.beg (e := vN V) (g0 := beg) (by show vN V < vN V + 1; omega)
      rw [v_beg_add, ← e3] at this
      exact this
  · have hc := h.cf (x := 7) (y := tk_p b n tok) (by omega)
    exact ⟨hc.1, k_good0 hc.1 hc.nz ⟨fun _ => u70_1 (h0 hN), fun w => absurd rfl w⟩⟩
theorem k_between0 {f p tok beg : Int} (h : CF c pl f p) (hD : 2 ≤ D) (kk : Q 0 c) : kplan_between D pl act a1 b1 tok beg c Q := by
  obtain ⟨d, rfl⟩ : ∃ d', D = d' + 1 := ⟨D - 1, by omega⟩
  exact u70_e ⟨h.1, k_node0 h (by omega) ⟨h.1, k_good0 h.1 h.nz ⟨fun _ => u70_1 kk, fun w => absurd rfl w⟩⟩⟩
/-- a number is written, a list goes on -/
def r_v (r : Int × Int × Int × Int × Int × Int) (v : Int) : Int × Int × Int × Int × Int × Int := (r.1, r.2.1, r.2.2.1, r.2.2.2.1, r.2.2.2.2.1, v)
def r_n (r : Int × Int × Int × Int × Int × Int) (v : Int) : Int × Int × Int × Int × Int × Int := (r.1, r.2.1, r.2.2.1, r.2.2.2.1, v, r.2.2.2.2.2)
theorem CE.num {v : Int} (h : CE c pl b n K R V) (he : e < vN V) (h0 : -9223372036854775808 ≤ v) (h1 : v ≤ 9223372036854775807) : CE (c_u c 706 (pl + 8 + 6) e v) pl b n K R (v_row V e (r_v (vT V e) v)) := by
  obtain ⟨p1, p2, p3, ⟨g1, g2, g3, g4, g5⟩, p5, p6⟩ := h
  have s : c_sm (fun q a => q = 706) c (c_u c 706 (pl + 8 + 6) e v) := c_sm.u c rfl _ _
  refine ⟨p1.sm s (fun q a w => by omega), p2.sm s (fun q a w => by omega), ?_, ⟨?_, g2, fun i => ?_, fun i hi => ?_, fun i hi => ?_⟩, p5.sm s (fun q a w => by omega), p6⟩
  · unfold cur
    rw [c_u_q (by omega), c_u_q (by omega), c_u_q (by omega), c_u_q (by omega), c_u_q (by omega)]
    exact p3
  · rw [c_u_q (by omega)]; exact g1
  · show _ ≤ x_v (x_up (vT V) e _) i ∧ x_v (x_up (vT V) e _) i ≤ _
    unfold x_v
    by_cases ce : i = e
    · rw [ce, x_up_eq]; exact ⟨h0, h1⟩
    · rw [x_up_ne _ ce]; exact g3 i
  · by_cases ce : i = e
    · rw [ce, c_u_eq]; exact ⟨h0, h1⟩
    · rw [c_u_j (by omega)]; exact g4 i hi
  · have := g5 i hi
    show xrow _ (pl + 8) i (x_up (vT V) e _ i) (vB V i)
    unfold xrow at this ⊢
    rw [c_u_q (q := 701) (by omega), c_u_q (q := 702) (by omega), c_u_q (q := 703) (by omega), c_u_q (q := 704) (by omega), c_u_q (q := 705) (by omega), c_u_q (q := 707) (by omega), c_u_q (q := 708) (by omega), c_u_q (q := 709) (by omega), c_u_q (q := 710) (by omega), c_u_q (q := 711) (by omega)]
    by_cases ce : i = e
    · rw [ce, x_up_eq, c_u_eq]
      rw [ce] at this
      exact ⟨this.1, this.2.1, this.2.2.1, this.2.2.2.1, this.2.2.2.2.1, rfl, this.2.2.2.2.2.2⟩
    · rw [x_up_ne _ ce, c_u_j (by omega)]
      exact this
theorem CE.nx {v : Int} (h : CE c pl b n K R V) (he : e < vN V) : CE (c_u c 705 (pl + 8 + 5) e v) pl b n K R (v_row V e (r_n (vT V e) v)) := by
  obtain ⟨p1, p2, p3, ⟨g1, g2, g3, g4, g5⟩, p5, p6⟩ := h
  have s : c_sm (fun q a => q = 705) c (c_u c 705 (pl + 8 + 5) e v) := c_sm.u c rfl _ _
  refine ⟨p1.sm s (fun q a w => by omega), p2.sm s (fun q a w => by omega), ?_, ⟨?_, g2, fun i => ?_, fun i hi => ?_, fun i hi => ?_⟩, p5.sm s (fun q a w => by omega), p6⟩
  · unfold cur
    rw [c_u_q (by omega), c_u_q (by omega), c_u_q (by omega), c_u_q (by omega), c_u_q (by omega)]
    exact p3
  · rw [c_u_q (by omega)]; exact g1
  · show _ ≤ x_v (x_up (vT V) e _) i ∧ x_v (x_up (vT V) e _) i ≤ _
    unfold x_v
    by_cases ce : i = e
    · rw [ce, x_up_eq]; exact g3 e
    · rw [x_up_ne _ ce]; exact g3 i
  · rw [c_u_q (by omega)]; exact g4 i hi
  · have := g5 i hi
    show xrow _ (pl + 8) i (x_up (vT V) e _ i) (vB V i)
    unfold xrow at this ⊢
    rw [c_u_q (q := 701) (by omega), c_u_q (q := 702) (by omega), c_u_q (q := 703) (by omega), c_u_q (q := 704) (by omega), c_u_q (q := 706) (by omega), c_u_q (q := 707) (by omega), c_u_q (q := 708) (by omega), c_u_q (q := 709) (by omega), c_u_q (q := 710) (by omega), c_u_q (q := 711) (by omega)]
    by_cases ce : i = e
    · rw [ce, x_up_eq, c_u_eq]
      rw [ce] at this
      exact ⟨this.1, this.2.1, this.2.2.1, this.2.2.2.1, rfl, this.2.2.2.2.2⟩
    · rw [x_up_ne _ ce, c_u_j (by omega)]
      exact this
theorem CE.ag (h : CE c pl b n K R V) (hR : R ≠ -1) (hl : (vG V).length < 12) : CE (c_u (c_u c 884 (R + 16) ((vG V).length : Int) e) 383 R 0 (((vG V).length + 1 : Nat) : Int)) pl b n K R (v_agg V (vG V ++ [e])) := by
  obtain ⟨p1, p2, p3, p4, p5, p6⟩ := h
  have s : c_sm (fun q a => q = 884 ∨ q = 383) c (c_u (c_u c 884 (R + 16) ((vG V).length : Int) e) 383 R 0 (((vG V).length + 1 : Nat) : Int)) := (c_sm.u c (Or.inl rfl) _ _).tr (c_sm.u _ (Or.inr rfl) _ _)
  refine ⟨p1.sm s (fun q a w => by omega), p2.sm s (fun q a w => by omega), ?_, p4.sm s (fun q a w => by omega), ?_, p6⟩
  · unfold cur
    rw [s.v (by omega), s.v (by omega), s.v (by omega), s.v (by omega), s.v (by omega)]
    exact p3
  · rcases p5 with p5 | ⟨h1, h2, h3, h4, h5, h6, h7, h8⟩
    · exact absurd p5 hR
    · refine Or.inr ⟨by rw [s.r]; exact h1, by rw [s.v (by omega)]; exact h2, by rw [s.r]; exact h3, by rw [s.l]; exact h4, by rw [s.v (by omega)]; exact h5, ?_, ?_, fun k i hi => ?_⟩
      · rw [c_u_eq]
        show _ = ((vG V ++ [e]).length : Int)
        rw [List.length_append]; rfl
      · show (vG V ++ [e]).length ≤ 12
        rw [List.length_append]; show (vG V).length + 1 ≤ 12; omega
      · rw [c_u_q (by omega)]
        have hi : (vG V ++ [e])[k]? = some i := hi
        rw [List.getElem?_append] at hi
        split at hi
        · rename_i ck
          rw [c_u_j (by omega)]
          exact h8 k i hi
        · rename_i ck
          have hk := (List.getElem?_eq_some_iff.mp hi).1
          have : k = (vG V).length := by simp at hk; omega
          subst this
          rw [c_u_eq]
          simp at hi
          rw [hi]
/-! what can begin -/
def tk_ag (b : Int → Int) (n k : Nat) : Prop := tk_is b n k (st_str (-20)) ∨ tk_is b n k (st_str (-22)) ∨ tk_is b n k (st_str (-24)) ∨ tk_is b n k (st_str (-26))
def tk_bs (b : Int → Int) (n k : Nat) (m : Bool) : Prop := tk_s b n k = 2 ∨ tk_nm b n k ∨ tk_is b n k (st_str (-28)) ∨ tk_is b n k (st_str (-30)) ∨ tk_is b n k (st_str (-32)) ∨ tk_is b n k (st_str (-34)) ∨ tk_is b n k (st_str (-36)) ∨ tk_is b n k (st_str (-38)) ∨ tk_is b n k (st_str (-40)) ∨ tk_is b n k (st_str (-42)) ∨ (tk_ag b n k ∧ m = true)
theorem st_is_c {y : Int} (h0 : y ≤ -10) (h1 : -200 ≤ y) (h2 : y % 2 = 0) : st_is y := ⟨h0, h1, h2⟩
theorem k_beginsSum (h : CE c pl b n K R V) (hD : 4 ≤ D) (h1 : tk_bs b n (vA V) (vM V) → Q 1 c) (h0 : ¬ tk_bs b n (vA V) (vM V) → Q 0 c) : kplan_beginsSum D pl c Q := by
  obtain ⟨d, rfl⟩ : ∃ d', D = d' + 1 := ⟨D - 1, by omega⟩
  have hr := h.r
  have yes : ∀ z : Int, tk_bs b n (vA V) (vM V) → cw (d + 1) 55 (am_blk 55 4) [pl, z] [] c Q := fun z q => u55_4 (u55_6 (h1 q))
  have b3 : ∀ z : Int, (z = 0 ∨ z = 1) → (z = 0 ↔ ¬ tk_ag b n (vA V)) → cw (d + 1) 55 (am_blk 55 3) [pl, 0] [z] c Q := by
    intro z hz hza
    refine u55_3 ⟨hr, hr, ?_⟩
    rw [h.t.1, h.2.2.1.1]
    refine ⟨h.t.2, k_tnum h.2.1 h.le.1 (fun q => ⟨fun _ => yes _ (Or.inl q), fun w => absurd (by omega : (1 : Int) ≠ 0) w⟩) (fun n1 => ⟨fun w => absurd rfl w, fun _ => ⟨hr, hr, ?_⟩⟩)⟩
    rw [h.t.1, h.2.2.1.1]
    refine ⟨h.t.2, ?_⟩
    refine k_tname h.2.1 h.le.1 (fun q => ⟨fun _ => yes _ (Or.inr (Or.inl q)), fun w => absurd (by omega : (1 : Int) ≠ 0) w⟩) (fun n2 => ⟨fun w => absurd rfl w, fun _ => ⟨hr, ?_⟩⟩)
    refine k_is h (by omega) (by unfold st_is; omega) (fun q => ⟨fun _ => yes _ (Or.inr (Or.inr (Or.inl q))), fun w => absurd (by omega : (1 : Int) ≠ 0) w⟩) (fun n3 => ⟨fun w => absurd rfl w, fun _ => ⟨hr, ?_⟩⟩)
    refine k_is h (by omega) (by unfold st_is; omega) (fun q => ⟨fun _ => yes _ (Or.inr (Or.inr (Or.inr (Or.inl q)))), fun w => absurd (by omega : (1 : Int) ≠ 0) w⟩) (fun n4 => ⟨fun w => absurd rfl w, fun _ => ⟨hr, ?_⟩⟩)
    refine k_is h (by omega) (by unfold st_is; omega) (fun q => ⟨fun _ => yes _ (Or.inr (Or.inr (Or.inr (Or.inr (Or.inl q))))), fun w => absurd (by omega : (1 : Int) ≠ 0) w⟩) (fun n5 => ⟨fun w => absurd rfl w, fun _ => ⟨hr, ?_⟩⟩)
    refine k_is h (by omega) (by unfold st_is; omega) (fun q => ⟨fun _ => yes _ (Or.inr (Or.inr (Or.inr (Or.inr (Or.inr (Or.inl q)))))), fun w => absurd (by omega : (1 : Int) ≠ 0) w⟩) (fun n6 => ⟨fun w => absurd rfl w, fun _ => ⟨hr, ?_⟩⟩)
    refine k_is h (by omega) (by unfold st_is; omega) (fun q => ⟨fun _ => yes _ (Or.inr (Or.inr (Or.inr (Or.inr (Or.inr (Or.inr (Or.inl q))))))), fun w => absurd (by omega : (1 : Int) ≠ 0) w⟩) (fun n7 => ⟨fun w => absurd rfl w, fun _ => ⟨hr, ?_⟩⟩)
    refine k_is h (by omega) (by unfold st_is; omega) (fun q => ⟨fun _ => yes _ (Or.inr (Or.inr (Or.inr (Or.inr (Or.inr (Or.inr (Or.inr (Or.inl q)))))))), fun w => absurd (by omega : (1 : Int) ≠ 0) w⟩) (fun n8 => ⟨fun w => absurd rfl w, fun _ => ⟨hr, ?_⟩⟩)
    refine k_is h (by omega) (by unfold st_is; omega) (fun q => ⟨fun _ => yes _ (Or.inr (Or.inr (Or.inr (Or.inr (Or.inr (Or.inr (Or.inr (Or.inr (Or.inl q))))))))), fun w => absurd (by omega : (1 : Int) ≠ 0) w⟩) (fun n9 => ⟨fun w => absurd rfl w, fun _ => ⟨hr, ?_⟩⟩)
    refine k_is h (by omega) (by unfold st_is; omega) (fun q => ⟨fun _ => yes _ (Or.inr (Or.inr (Or.inr (Or.inr (Or.inr (Or.inr (Or.inr (Or.inr (Or.inr (Or.inl q)))))))))), fun w => absurd (by omega : (1 : Int) ≠ 0) w⟩) (fun n10 => ⟨fun w => absurd rfl w, fun _ => ?_⟩)
    have no : ¬ (tk_ag b n (vA V) ∧ vM V = true) → ¬ tk_bs b n (vA V) (vM V) := by
      intro n11 q
      rcases q with q | q | q | q | q | q | q | q | q | q | q
      · exact n1 q
      · exact n2 q
      · exact n3 q
      · exact n4 q
      · exact n5 q
      · exact n6 q
      · exact n7 q
      · exact n8 q
      · exact n9 q
      · exact n10 q
      · exact n11 q
    refine ⟨fun w => u55_5 (u55_6 (h0 (no (fun q => hza.mp w q.1)))), fun w => ⟨hr, ?_⟩⟩
    rw [h.2.2.1.2.2.2.2.2.2]
    have ha : tk_ag b n (vA V) := Classical.not_not.mp (fun q => w (hza.mpr q))
    cases hm : vM V with
    | false => exact ⟨fun _ => u55_5 (u55_6 (h0 (no (fun q => by rw [hm] at q; cases q.2)))), fun w => absurd rfl w⟩
    | true => exact ⟨fun w => absurd w (by decide), fun _ => yes _ (Or.inr (Or.inr (Or.inr (Or.inr (Or.inr (Or.inr (Or.inr (Or.inr (Or.inr (Or.inr ⟨ha, hm⟩))))))))))⟩
  have y1 : tk_ag b n (vA V) → cw (d + 1) 55 (am_blk 55 1) [pl, 0] [] c Q := fun q => u55_1 (b3 1 (Or.inr rfl) ⟨fun w => absurd w (by omega), fun w => absurd q w⟩)
  refine u55_e ⟨hr, ?_⟩
  refine k_is h (by omega) (by unfold st_is; omega) (fun q => ⟨fun _ => y1 (Or.inl q), fun w => absurd (by omega : (1 : Int) ≠ 0) w⟩) (fun m1 => ⟨fun w => absurd rfl w, fun _ => ⟨hr, ?_⟩⟩)
  refine k_is h (by omega) (by unfold st_is; omega) (fun q => ⟨fun _ => y1 (Or.inr (Or.inl q)), fun w => absurd (by omega : (1 : Int) ≠ 0) w⟩) (fun m2 => ⟨fun w => absurd rfl w, fun _ => ⟨hr, ?_⟩⟩)
  refine k_is h (by omega) (by unfold st_is; omega) (fun q => ⟨fun _ => y1 (Or.inr (Or.inr (Or.inl q))), fun w => absurd (by omega : (1 : Int) ≠ 0) w⟩) (fun m3 => ⟨fun w => absurd rfl w, fun _ => ⟨hr, ?_⟩⟩)
  refine k_is h (by omega) (by unfold st_is; omega) (fun q => ⟨fun w => absurd w (by omega), fun _ => y1 (Or.inr (Or.inr (Or.inr q)))⟩) (fun m4 => ⟨fun _ => b3 0 (Or.inl rfl) ⟨fun _ q => ?_, fun _ => rfl⟩, fun w => absurd rfl w⟩)
  rcases q with q | q | q | q
  · exact m1 q
  · exact m2 q
  · exact m3 q
  · exact m4 q
theorem k_begins (h : CE c pl b n K R V) (hD : 5 ≤ D) (h1 : (tk_bs b n (vA V) (vM V) ∨ tk_is b n (vA V) (st_str (-44))) → Q 1 c) (h0 : ¬ (tk_bs b n (vA V) (vM V) ∨ tk_is b n (vA V) (st_str (-44))) → Q 0 c) : kplan_begins D pl c Q := by
  obtain ⟨d, rfl⟩ : ∃ d', D = d' + 1 := ⟨D - 1, by omega⟩
  refine u54_e ⟨h.r, k_beginsSum h (by omega) (fun q => ⟨fun _ => u54_1 (u54_3 (h1 (Or.inl q))), fun w => absurd (by omega : (1 : Int) ≠ 0) w⟩) (fun n1 => ⟨fun w => absurd rfl w, fun _ => ⟨h.r, ?_⟩⟩)⟩
  refine k_is h (by omega) (by unfold st_is; omega) (fun q => ⟨fun w => absurd w (by omega), fun _ => u54_1 (u54_3 (h1 (Or.inr q)))⟩) (fun n2 => ⟨fun _ => u54_3 (h0 (fun q => by rcases q with q | q; exact n1 q; exact n2 q)), fun w => absurd rfl w⟩)
end
