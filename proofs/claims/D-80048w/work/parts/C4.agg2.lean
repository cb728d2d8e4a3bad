set_option maxRecDepth 100000
/-! readers: aggregates, read -/
section
variable {d : Nat} {pl R f p : Int} {Q : Int → cs_S → Prop} {c : cs_S} {x1 x2 x3 x4 x5 : Int}
theorem CF.may {x : Int} (h : CF c pl f p) : CF (c_u c 134 pl 0 x) pl f p := by
  obtain ⟨f1, f2, f3, f4, f5, f6⟩ := h
  exact ⟨f1, by rw [c_u_q (by omega)]; exact f2, by rw [c_u_q (by omega)]; exact f3, f4, by rw [c_u_q (by omega)]; exact f5, by rw [c_u_q (by omega)]; exact f6⟩
theorem og9_f (hd : 9 ≤ d) (h : CF c pl f p) (hq : ∀ c', c_sm (eW pl R) c c' → CF c' pl f p → Q 0 c') : cw (d + 1) 69 (am_blk 69 9) [pl, x1, x2, x3, x4, x5] [] c Q := by
  refine u69_9 ⟨h.1, fun c1 e1 => ?_⟩
  have h1 : CF c1 pl f p := by rw [e1]; exact h.may
  refine ⟨h1.1, k_want0 h1 (by omega) ⟨h1.1, h1.1, fun c3 e3 => ?_⟩⟩
  have h3 : CF c3 pl f p := by rw [e3]; exact h1.deep
  refine ⟨h3.1, k_node0 h3 (by omega) ⟨h3.1, k_good0 h3.1 h3.nz ⟨fun _ => u69_10 (hq _ ?_ h3), fun w => absurd rfl w⟩⟩⟩
  rw [e3, e1]
  exact (c_sm.u _ (by unfold eW; omega) _ _).tr (c_sm.u _ (by unfold eW; omega) _ _)
theorem og8_f (hd : 9 ≤ d) (h : CF c pl f p) (hq : ∀ c', c_sm (eW pl R) c c' → CF c' pl f p → Q 0 c') : cw (d + 1) 69 (am_blk 69 8) [pl, x1, x2, x3, x4, x5] [] c Q := by
  refine u69_8 ⟨h.1, f_or pl f p c d _ h hd (og9_f hd h hq)⟩
end
section
variable {K : Nat} {V W W0 : pV}
theorem eX.na (x : eX K W0 W) (hm : vM W0 = false) : x_na (vT W) K (vN W0) (vN W - 1) := by
  obtain ⟨⟨-, -, -, a4, g, a5, a6, a7⟩, -, -, b4, -, -, -, b8, -⟩ := x
  have hg : g = [] := by
    have := b8 hm
    rw [a5] at this
    exact List.append_right_eq_self.mp this
  refine ⟨by omega, fun e h1 h2 => ?_⟩
  have hlt : x_act (vT W) e < 25 := by
    have := a7 e h1 (by omega)
    rw [hg] at this
    by_cases c : 25 ≤ x_act (vT W) e
    · exact (List.not_mem_nil (this.mp c)).elim
    · omega
  exact ⟨hlt, (a4 e h1 (by omega)).1.1 hlt⟩
theorem x_p_ag {T : xt} {lo e : Nat} {act a z : Int} (ha : act = 25 ∨ (26 ≤ act ∧ act ≤ 29 ∧ ∃ l x : Nat, a = x ∧ lo ≤ l ∧ x < e ∧ x_na T K l x)) : x_p (x_up T e (act, a, -1, -1, -1, z)) K lo e := by
  have xe : x_up T e (act, a, -1, -1, -1, z) e = (act, a, -1, -1, -1, z) := x_up_eq _ _ _
  refine ⟨fun q => ?_, ?_, fun q => ?_⟩
  · unfold x_act at q; rw [xe] at q; have q : act < 25 := q; omega
  · unfold x_act; rw [xe]; show act ≤ 29; omega
  · unfold x_act at q; rw [xe] at q
    have q : 26 ≤ act := q
    rcases ha with h | ⟨-, -, l, x, h1, h2, h3, h4⟩
    · omega
    · refine ⟨l, x, by unfold x_a; rw [xe]; exact h1, h2, h3, h4.congr (fun i hi => ?_) (fun i _ hi => ?_)⟩
      · unfold x_act x_a x_b x_c x_v; rw [x_up_ne _ (by omega)]; exact ⟨rfl, rfl, rfl, rfl, rfl⟩
      · unfold x_n; rw [x_up_ne _ (by omega)]
/-- with its place among the aggregates -/
theorem eX.ag {r : Int × Int × Int × Int × Int × Int} {tok beg : Nat} (y : eY K (vN V) V W) (hA : vA V < vA W) (hK : vA W ≤ K) (hD : vD W = vD V) (hS : vS W = vS V) (hM : vM W = true) (hMV : vM V = true) (hp : x_p (x_up (vT W) (vN W) r) K (vN V) (vN W)) (h25 : 25 ≤ r.1) (hn : r.2.2.2.2.1 = -1) (ht : tok ≤ K) (hb : beg ≤ K) (hxo : xo (x_up (vT W) (vN W) r) (vN V) (vN W + 1) (fun e => e + 1 = vN W + 1)) : eX K V (v_agg (v_add W r tok beg) (vG W ++ [vN W])) := by
  have yn := y.2.1
  refine ⟨y.tr (eY.addg hp ht hb h25), hA, hK, by show vN V < vN W + 1; omega, hD, hS, by show vM W = vM V; rw [hM, hMV], fun q => absurd (hMV.symm.trans q) (by decide), ?_, fun q => ?_, hxo⟩
  · show x_n (x_up (vT W) (vN W) r) (vN W + 1 - 1) = -1
    rw [Nat.add_sub_cancel]
    unfold x_n
    rw [x_up_eq]
    exact hn
  · exfalso
    have q : x_act (x_up (vT W) (vN W) r) (vN W + 1 - 1) = 3 := q
    rw [Nat.add_sub_cancel] at q
    unfold x_act at q
    rw [x_up_eq] at q
    omega
end
section
variable {s s0 : ms_S} {b : Int → Int} {n K si d' : Nat} {R : Int} {V W : pV} {P : Int → ms_S → Prop} {f p : Int}
/-- behind what an aggregate is of -/
def MZ (s0 s : ms_S) (b : Int → Int) (n K si : Nat) (V W : pV) (k : Nat) : Prop := mkT s b n K ∧ s 18 0 = (k : Int) ∧ s 21 0 = 1 ∧ s 70 0 = ((vD V + 1 : Nat) : Int) ∧ s 69 0 = (vS V : Int) ∧ mEx s b n W ∧ s 42 si = (((vG V).length + 1 : Nat) : Int) ∧ s 43 si = (if vG V = [] then (tk_p b n (vA V) : Int) else g_fst b n (vB V) (vG V)) ∧ (s 71 0 = (si : Int) ∧ si < 60) ∧ (s 72 0 = 1 ∧ s 73 0 = 0) ∧ eF si s0 s
theorem MA.mz {k : Nat} (h : MA s0 s si V b n k) (h0 : ME s0 b n K R si V) (hm : vM V = true) (hW : W.2 = V.2) : MZ s0 s b n K si V W k := by
  obtain ⟨t1, t2⟩ := h.tk h0
  obtain ⟨m4, m5⟩ := h0.2.2.2.2.2.2.mp hm
  obtain ⟨a1, a2, a3, a4, a5⟩ := h0.2.2.2.1 hm
  have fr := h.1
  have eN : vN W = vN V := by unfold vN; rw [hW]
  have eT : vT W = vT V := by unfold vT; rw [hW]
  have eB : vB W = vB V := by unfold vB; rw [hW]
  refine ⟨t1, h.2.1, t2, h.2.2.1, by rw [fr _ _ (by omega) (by omega) (by omega)]; exact h0.2.1.2.2.2.2.2, ⟨?_, by rw [eN]; exact h0.2.2.1.2.1, fun i hi => ?_⟩, h.2.2.2.1, h.2.2.2.2, ⟨by rw [fr _ _ (by omega) (by omega) (by omega)]; exact a1, a2⟩, ⟨by rw [fr _ _ (by omega) (by omega) (by omega)]; exact m4, by rw [fr _ _ (by omega) (by omega) (by omega)]; exact m5⟩, h.eF⟩
  · rw [fr _ _ (by omega) (by omega) (by omega), eN]; exact h0.2.2.1.1
  · rw [eN] at hi
    have := h0.2.2.1.2.2 i hi
    unfold mr at this ⊢
    rw [eT, eB, fr _ _ (by omega) (by omega) (by omega), fr _ _ (by omega) (by omega) (by omega), fr _ _ (by omega) (by omega) (by omega), fr _ _ (by omega) (by omega) (by omega), fr _ _ (by omega) (by omega) (by omega), fr _ _ (by omega) (by omega) (by omega), fr _ _ (by omega) (by omega) (by omega), fr _ _ (by omega) (by omega) (by omega), fr _ _ (by omega) (by omega) (by omega)]
    exact this
/-- into what it is of -/
theorem MA.me {k : Nat} (h : MA s0 s si V b n k) (h0 : ME s0 b n K R si V) (hm : vM V = true) (hk : k ≤ K) (h12 : vD V < 12) : ME (ms_u s 73 0 1) b n K R 100 (v_may (v_at (v_deep V (vD V + 1)) k) false) := by
  have z := h.mz (W := V) h0 hm rfl
  obtain ⟨z1, z2, z3, z4, z5, ⟨g1, g2, g3⟩, z7, z8, z9, z10, z11⟩ := z
  have u : ∀ (q : Nat) (j : Int), q ≠ 73 → ms_u s 73 0 1 q j = s q j := fun q j hq => ms_u_f _ _ _ hq
  refine ⟨z1.fr (fun q j hq => u q j (by omega)), ⟨by rw [u _ _ (by omega)]; exact z2, hk, by rw [u _ _ (by omega)]; exact z3, by rw [u _ _ (by omega)]; exact z4, by show vD V + 1 ≤ 12; omega, by rw [u _ _ (by omega)]; exact z5⟩, ⟨by rw [u _ _ (by omega)]; exact g1, g2, fun i hi => ?_⟩, fun hq => ?_, ?_⟩
  · have := g3 i hi
    unfold mr at this ⊢
    rw [u _ _ (by omega), u _ _ (by omega), u _ _ (by omega), u _ _ (by omega), u _ _ (by omega), u _ _ (by omega), u _ _ (by omega), u _ _ (by omega), u _ _ (by omega)]
    exact this
  · have hq : false = true := hq
    cases hq
  · refine ⟨by rw [u _ _ (by omega)]; exact Or.inr z10.1, Or.inr (ms_u_eq _ _ _ _), ⟨fun hq => ?_, fun hq => ?_⟩⟩
    · have hq : false = true := hq; cases hq
    · have := hq.2
      rw [ms_u_eq] at this
      omega
/-- out of it -/
theorem MZ.of {k : Nat} {s1 s2 : ms_S} (h : MA s0 s si V b n k) (h0 : ME s0 b n K R si V) (hm : vM V = true) (h2 : ME s2 b n K R 100 W) (he : eF 100 (ms_u s 73 0 1) s2) (e1 : s1 = ms_u s2 73 0 0) (hD : vD W = vD V + 1) (hS : vS W = vS V) : MZ s0 s1 b n K si V W (vA W) := by
  have z := h.mz (W := V) h0 hm rfl
  obtain ⟨z1, z2, z3, z4, z5, -, z7, z8, z9, z10, z11⟩ := z
  have hsi := z9.2
  have u : ∀ (q : Nat) (j : Int), q ≠ 73 → s1 q j = s2 q j := fun q j hq => by rw [e1]; exact ms_u_f _ _ _ hq
  have v : ∀ (q : Nat) (j : Int), (q < 18 ∨ q = 31 ∨ (33 ≤ q ∧ q ≠ 42 ∧ q ≠ 43 ∧ q ≠ 70 ∧ q ≠ 74 ∧ q ≠ 73)) → s2 q j = s q j := fun q j hq => by rw [he q j (by omega), ms_u_f _ _ _ (by omega)]
  obtain ⟨t1, ⟨t2, t3, t4, t5, t6, t7⟩, ⟨g1, g2, g3⟩, -, -⟩ := h2
  refine ⟨t1.fr (fun q j hq => u q j (by omega)), by rw [u _ _ (by omega)]; exact t2, by rw [u _ _ (by omega)]; exact t4, by rw [u _ _ (by omega), t5, hD], by rw [u _ _ (by omega), t7, hS], ⟨by rw [u _ _ (by omega)]; exact g1, g2, fun i hi => ?_⟩, ?_, ?_, ⟨by rw [u _ _ (by omega), v _ _ (by omega)]; exact z9.1, hsi⟩, ⟨by rw [u _ _ (by omega), v _ _ (by omega)]; exact z10.1, by rw [e1, ms_u_eq]⟩, fun q j hq => ?_⟩
  · have := g3 i hi
    unfold mr at this ⊢
    rw [u _ _ (by omega), u _ _ (by omega), u _ _ (by omega), u _ _ (by omega), u _ _ (by omega), u _ _ (by omega), u _ _ (by omega), u _ _ (by omega), u _ _ (by omega)]
    exact this
  · rw [u _ _ (by omega), he _ _ (by omega), ms_u_f _ _ _ (by omega)]; exact z7
  · rw [u _ _ (by omega), he _ _ (by omega), ms_u_f _ _ _ (by omega)]; exact z8
  · by_cases c : q = 73
    · subst c
      rw [← z11 73 j hq]
      by_cases cj : j = 0
      · subst cj; rw [e1, ms_u_eq]; exact z10.2.symm
      · rw [e1, ms_u_i _ cj, he _ _ (by omega), ms_u_i _ cj]
    · rw [u q j c, he q j (by omega), ms_u_f _ _ _ c]
      exact z11 q j hq
/-- to its end -/
theorem MZ.ends {k : Nat} {act a z x3 kd : Int} (h : MZ s0 s b n K si V W k) (hd : 3 ≤ d') (hk : k < K) (hq : tk_s b n k = 41) (hN : vN W < 120) (hV12 : vD V ≤ 12) (hm : vM V = true) (hkd : kd = mk_kind act 0) (hact : 25 ≤ act ∧ act ≤ 29) (hWG : vG W = vG V) (hWB : ∀ e ∈ vG V, e < vN W ∧ vB W e = vB V e) (hWS : vS W = vS V) (hP : ∀ s', ME s' b n K R si (v_agg (v_add (v_deep (v_at (v_may W true) (k + 1)) (vD V)) (act, a, -1, -1, -1, z) (vA V) (vA V)) (vG W ++ [vN W])) → eF si s0 s' → P (vN W : Int) s') : mw (d' + 1) 216 (am_blk 216 12) [159, (tk_p b n (vA V) : Int), kd, a] [] s P := by
  obtain ⟨z1, z2, z3, z4, z5, ⟨g1, g2, g3⟩, z7, z8, z9, z10, z11⟩ := h
  have hl := z1.le
  obtain ⟨e, rfl⟩ : ∃ e, d' = e + 2 := ⟨d' - 2, by omega⟩
  refine w216_12 (k_mneedSign z1 z2 (by omega) z3 (fun _ s2 e2 => ?_) (fun q => absurd hq q))
  rw [ms_u_f _ _ _ (by omega), z4, am_w_in (by omega) (by omega), show ((vD V + 1 : Nat) : Int) - 1 = (vD V : Int) by omega] at e2
  have u2 : ∀ (q : Nat) (j : Int), q ≠ 18 → q ≠ 70 → s2 q j = s q j := fun q j h1 h2 => by rw [e2, ms_u_f _ _ _ h2, ms_u_f _ _ _ h1]
  refine k_mmake (N := vN W) (by rw [u2 _ _ (by omega) (by omega)]; exact z3) (by rw [u2 _ _ (by omega) (by omega)]; exact g1) (by omega) hN (fun s3 fr h22 rw3 => ?_)
  obtain ⟨w1, w2, w3, w4, w5, w6, w7, w8, w9⟩ := rw3
  have u3 : ∀ (q : Nat) (j : Int), q ≠ 18 → q ≠ 70 → (q < 22 ∨ 33 ≤ q) → s3 q j = s q j := fun q j h1 h2 h3 => by rw [fr q j (by omega) (by omega)]; exact u2 q j h1 h2
  refine hP s3 ⟨z1.fr (fun q j hq => u3 q j (by omega) (by omega) (by omega)), ⟨?_, by show k + 1 ≤ K; omega, by rw [u3 _ _ (by omega) (by omega) (by omega)]; exact z3, ?_, hV12, ?_⟩, ⟨h22, by show vN W + 1 ≤ 120; omega, fun i hi => ?_⟩, fun _ => ⟨by rw [u3 _ _ (by omega) (by omega) (by omega)]; exact z9.1, z9.2, ?_, ?_, ?_⟩, ⟨Or.inr ?_, Or.inl ?_, fun _ => ⟨?_, ?_⟩, fun _ => rfl⟩⟩ (fun q j hq => ?_)
  · show s3 18 0 = ((k + 1 : Nat) : Int)
    rw [fr _ _ (by omega) (by omega), e2, ms_u_f _ _ _ (by omega), ms_u_eq]
  · show s3 70 0 = (vD V : Int)
    rw [fr _ _ (by omega) (by omega), e2, ms_u_eq]
  · show s3 69 0 = (vS W : Int)
    rw [u3 _ _ (by omega) (by omega) (by omega), hWS]; exact z5
  · show mr s3 i (x_up (vT W) (vN W) (act, a, -1, -1, -1, z) i) ∧ s3 29 i = (tk_p b n (if i = vN W then (vA V, vA V) else vB W i).2 : Int)
    have hi : i < vN W + 1 := hi
    by_cases ci : i = vN W
    · rw [ci, x_up_eq, if_pos rfl]
      refine ⟨⟨?_, fun q => ?_, fun q1 q2 => ?_, fun _ => ⟨w2, w3⟩, w4, w9, fun q => ?_, ?_, ?_⟩, w7⟩
      · rw [w1, hkd]; exact (mk_kind_a (by show act ≠ 2; omega)).symm
      · have q : act = 0 := q; omega
      · have q2 : act ≤ 16 := q2; omega
      · have q : act = 3 := q; omega
      · show (-1 : Int) ≤ -1; omega
      · show (-1 : Int) ≤ -1; omega
    · rw [x_up_ne _ ci, if_neg ci]
      have f : ∀ q : Nat, 23 ≤ q → q ≤ 32 → s3 q i = s q i := fun q h1 h2 => by rw [fr q i (by omega) (by omega)]; exact u2 q i (by omega) (by omega)
      have := g3 i (by omega)
      unfold mr at this ⊢
      rw [f _ (by omega) (by omega), f _ (by omega) (by omega), f _ (by omega) (by omega), f _ (by omega) (by omega), f _ (by omega) (by omega), f _ (by omega) (by omega), f _ (by omega) (by omega), f _ (by omega) (by omega), f _ (by omega) (by omega)]
      exact this
  · show s3 42 si = ((vG W ++ [vN W]).length : Int)
    rw [u3 _ _ (by omega) (by omega) (by omega), z7, List.length_append, hWG]
    rfl
  · show s3 43 si = g_fst b n (fun i => if i = vN W then (vA V, vA V) else vB W i) (vG W ++ [vN W])
    rw [u3 _ _ (by omega) (by omega) (by omega), z8, hWG]
    cases hg : vG V with
    | nil =>
      rw [if_pos rfl]
      show _ = ((tk_p b n (if vN W = vN W then (vA V, vA V) else vB W (vN W)).1 : Nat) : Int)
      rw [if_pos rfl]
    | cons e0 l =>
      rw [if_neg (by simp)]
      have := hWB e0 (by rw [hg]; exact List.mem_cons_self)
      show ((tk_p b n (vB V e0).1 : Nat) : Int) = ((tk_p b n (if e0 = vN W then (vA V, vA V) else vB W e0).1 : Nat) : Int)
      rw [if_neg (by omega), this.2]
  · intro i hi
    show i < vN W + 1
    have hi : i ∈ vG W ++ [vN W] := hi
    rcases List.mem_append.mp hi with q | q
    · rw [hWG] at q; have := (hWB i q).1; omega
    · have := List.mem_singleton.mp q; omega
  · rw [u3 _ _ (by omega) (by omega) (by omega)]; exact z10.1
  · rw [u3 _ _ (by omega) (by omega) (by omega)]; exact z10.2
  · rw [u3 _ _ (by omega) (by omega) (by omega)]; exact z10.1
  · rw [u3 _ _ (by omega) (by omega) (by omega)]; exact z10.2
  · rw [fr q j (by omega) (by omega), u2 q j (by omega) (by omega)]
    exact z11 q j hq
/-- no closing sign, or no room -/
theorem MZ.ends0 {k : Nat} {x3 kd a : Int} (h : MZ s0 s b n K si V W k) (hd : 3 ≤ d') (hk : k ≤ K) (hq : (tk_s b n k ≠ 41 ∧ f = 1 ∧ p = tk_p b n k) ∨ (tk_s b n k = 41 ∧ k < K ∧ vN W = 120 ∧ f = 7 ∧ p = tk_p b n (vA V))) (hP : ∀ s', MF s' f p → eF si s0 s' → P 0 s') : mw (d' + 1) 216 (am_blk 216 12) [159, (tk_p b n (vA V) : Int), kd, a] [] s P := by
  obtain ⟨z1, z2, z3, z4, z5, ⟨g1, g2, g3⟩, z7, z8, z9, z10, z11⟩ := h
  have hl := z1.le
  obtain ⟨e, rfl⟩ : ∃ e, d' = e + 2 := ⟨d' - 2, by omega⟩
  rcases hq with ⟨hq, rfl, rfl⟩ | ⟨hq, hk2, hN, rfl, rfl⟩
  · refine w216_12 (k_mneedSign z1 z2 hk z3 (fun q => absurd q hq) (fun _ s2 e2 => ?_))
    have hf : MF (m_fl s 1 (tk_p b n k)) 1 (tk_p b n k) := m_fl_MF (by omega) (by omega)
    have hf2 : MF s2 1 (tk_p b n k) := hf.fr (fun q h1 h2 => by rw [e2]; exact ms_u_f _ _ _ (by omega))
    exact hf2.make (by omega) (hP s2 hf2 (z11.tr (eF.fl.tr (by rw [e2]; exact eF.u (by omega)))))
  · refine w216_12 (k_mneedSign z1 z2 (by omega) z3 (fun _ s2 e2 => ?_) (fun q => absurd hq q))
    have u2 : ∀ (q : Nat) (j : Int), q ≠ 18 → q ≠ 70 → s2 q j = s q j := fun q j h1 h2 => by rw [e2, ms_u_f _ _ _ h2, ms_u_f _ _ _ h1]
    have g2' : s2 21 0 = 1 := by rw [u2 _ _ (by omega) (by omega)]; exact z3
    refine w212_e ⟨fun _ => ⟨fun w => absurd (by rw [u2 _ _ (by omega) (by omega), g1, hN]; rfl) w, fun _ => k_mtell g2' (hP _ ?_ ?_)⟩, fun w => absurd (by rw [g2']; decide) w⟩
    · refine m_fl_MF ?_ ?_
      · rw [e2, ms_u_f _ _ _ (by omega), ms_u_eq]; omega
      · rw [e2, ms_u_f _ _ _ (by omega), ms_u_eq]; omega
    · exact z11.tr ((by rw [e2]; exact (eF.u (by omega)).tr (eF.u (by omega)) : eF si s s2).tr eF.fl)
theorem m1_ag (h : ME s b n K R si V) (hd : 4 ≤ d') (hi : tk_ag b n (vA V)) (kk : md_aggregate d' (tk_p b n (vA V) : Int) s (fun v1 s1 => mw (d' + 1) 211 (am_blk 211 23) [159, (tk_p b n (vA V) : Int), v1, 0, 0, 0] [] s1 P)) : md_one (d' + 1) s P := by
  have hs : tk_s b n (vA V) = 1 := by
    rcases hi with q | q | q | q
    · exact (tw_count.mp q).1
    · exact (tw_sum.mp q).1
    · exact (tw_min.mp q).1
    · exact (tw_max.mp q).1
  have ne : ∀ {y : Int}, st_str y ≠ st_str (-20) → st_str y ≠ st_str (-22) → st_str y ≠ st_str (-24) → st_str y ≠ st_str (-26) → ¬ tk_is b n (vA V) (st_str y) := by
    intro y h1 h2 h3 h4
    rcases hi with q | q | q | q
    · exact tk_ne q h1
    · exact tk_ne q h2
    · exact tk_ne q h3
    · exact tk_ne q h4
  refine m1_n3 h (by omega) ⟨by omega, ne (by decide +kernel) (by decide +kernel) (by decide +kernel) (by decide +kernel), ne (by decide +kernel) (by decide +kernel) (by decide +kernel) (by decide +kernel), ne (by decide +kernel) (by decide +kernel) (by decide +kernel) (by decide +kernel)⟩ ?_
  refine h.isS0 ts_40 (fun q => by have := ts_40.mp q; omega) ⟨fun _ => ?_, fun w => absurd rfl w⟩
  refine h.isW0 (by omega) tw_case (sty (by omega)) (ne (by decide +kernel) (by decide +kernel) (by decide +kernel) (by decide +kernel)) ⟨fun _ => ?_, fun w => absurd rfl w⟩
  refine h.isW0 (by omega) tw_span (sty (by omega)) (ne (by decide +kernel) (by decide +kernel) (by decide +kernel) (by decide +kernel)) ⟨fun _ => ?_, fun w => absurd rfl w⟩
  have b21 : mw (d' + 1) 211 (am_blk 211 21) [159, (tk_p b n (vA V) : Int), 0, 0, 0, 0] [] s P := w211_21 kk
  by_cases q1 : tk_is b n (vA V) (st_str (-20))
  · exact h.isW1 (by omega) tw_count (sty (by omega)) q1 ⟨fun _ => b21, fun w => absurd (by omega : (1 : Int) ≠ 0) w⟩
  · refine h.isW0 (by omega) tw_count (sty (by omega)) q1 ⟨fun w => absurd rfl w, fun _ => ?_⟩
    by_cases q2 : tk_is b n (vA V) (st_str (-22))
    · exact h.isW1 (by omega) tw_sum (sty (by omega)) q2 ⟨fun _ => b21, fun w => absurd (by omega : (1 : Int) ≠ 0) w⟩
    · refine h.isW0 (by omega) tw_sum (sty (by omega)) q2 ⟨fun w => absurd rfl w, fun _ => ?_⟩
      by_cases q3 : tk_is b n (vA V) (st_str (-24))
      · exact h.isW1 (by omega) tw_min (sty (by omega)) q3 ⟨fun _ => b21, fun w => absurd (by omega : (1 : Int) ≠ 0) w⟩
      · have q4 : tk_is b n (vA V) (st_str (-26)) := by
          rcases hi with q | q | q | q
          · exact absurd q q1
          · exact absurd q q2
          · exact absurd q q3
          · exact q
        exact h.isW0 (by omega) tw_min (sty (by omega)) q3 ⟨fun w => absurd rfl w, fun _ => h.isW1 (by omega) tw_max (sty (by omega)) q4 ⟨fun w => absurd w (by omega), fun _ => b21⟩⟩
end
