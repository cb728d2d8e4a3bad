set_option maxRecDepth 100000
/-! readers: aggregates -/
section
variable {s s0 : ms_S} {b : Int → Int} {n K si d' : Nat} {R : Int} {V : pV} {P : Int → ms_S → Prop} {f p : Int}
/-- the model with a fault, to the end -/
theorem ag_f12 {x1 x2 x3 : Int} (hd : 3 ≤ d') (h : MF s f p) (hP : ∀ s', MF s' f p → (∀ (q : Nat) (j : Int), q ≠ 18 → q ≠ 70 → s' q j = s q j) → P 0 s') : mw (d' + 1) 216 (am_blk 216 12) [159, x1, x2, x3] [] s P := by
  refine w216_12 (h.needS (by omega) (fun s2 e2 => ?_))
  have h2 : MF s2 f p := h.fr (fun q h1 h2 => by rw [e2]; exact ms_u_f _ _ _ (by omega))
  exact h2.make (by omega) (hP s2 h2 (fun q j h1 h2 => by rw [e2]; exact ms_u_f _ _ _ h2))
theorem ag_f11 {x1 x2 x3 z0 : Int} (hd : 3 ≤ d') (h : MF s f p) (h73 : s0 73 0 = 0) (he : ∀ (q : Nat) (j : Int), q ≠ 18 → q ≠ 70 → ¬ (q = 73 ∧ j = 0) → s q j = s0 q j) (hP : ∀ s', MF s' f p → (∀ (q : Nat) (j : Int), q ≠ 18 → q ≠ 70 → s' q j = s0 q j) → P 0 s') : mw (d' + 1) 216 (am_blk 216 11) [159, x1, x2, x3] [z0] s P := by
  refine w216_11 (fun s1 e1 => ag_f12 hd (h.fr (fun q h1 h2 => by rw [e1]; exact ms_u_f _ _ _ (by omega))) (fun s' hf' e' => hP s' hf' (fun q j h1 h2 => ?_)))
  rw [e' q j h1 h2, e1]
  by_cases c : q = 73 ∧ j = 0
  · obtain ⟨rfl, rfl⟩ := c; rw [ms_u_eq]; exact h73.symm
  · unfold ms_u; rw [if_neg (by omega)]; exact he q j h1 h2 c
theorem ag_f9 {x1 x2 x3 : Int} (hd : 3 ≤ d') (h : MF s f p) (h73 : s 73 0 = 0) (hP : ∀ s', MF s' f p → (∀ (q : Nat) (j : Int), q ≠ 18 → q ≠ 70 → s' q j = s q j) → P 0 s') : mw (d' + 1) 216 (am_blk 216 9) [159, x1, x2, x3] [] s P := by
  refine w216_9 (fun s1 e1 => ?_)
  have h1 : MF s1 f p := h.fr (fun q h1 h2 => by rw [e1]; exact ms_u_f _ _ _ (by omega))
  exact ⟨fun _ => ag_f11 hd h1 h73 (fun q j h1 h2 h3 => by rw [e1]; unfold ms_u; rw [if_neg (by omega)]) hP, fun w => absurd h1.1 w⟩
theorem ag_f8 {x1 x2 x3 z0 : Int} (hd : 3 ≤ d') (h : MF s f p) (h73 : s 73 0 = 0) (hat : s 18 0 ≤ 1999) (hP : ∀ s', MF s' f p → (∀ (q : Nat) (j : Int), q ≠ 18 → q ≠ 70 → s' q j = s q j) → P 0 s') : mw (d' + 1) 216 (am_blk 216 8) [159, x1, x2, x3] [z0] s P := by
  refine w216_8 (fun s1 e1 => ?_)
  obtain ⟨f1, f2, f3, f4, f5⟩ := id h
  have h1 : MF s1 f p := by
    rw [e1, am_w_in (by omega) (by omega)]
    exact ⟨by rw [ms_u_f _ _ _ (by omega)]; exact f1, by rw [ms_u_f _ _ _ (by omega)]; exact f2, by rw [ms_u_f _ _ _ (by omega)]; exact f3, by rw [ms_u_eq]; omega, by rw [ms_u_eq]; omega⟩
  have e73 : s1 73 0 = 0 := by rw [e1, ms_u_f _ _ _ (by omega)]; exact h73
  have nx : ∀ z x : Int, mw (d' + 1) 216 (am_blk 216 9) [159, x1, z, x] [] s1 P := fun z x => ag_f9 hd h1 e73 (fun s' hf' e' => hP s' hf' (fun q j q1 q2 => by rw [e' q j q1 q2, e1]; exact ms_u_f _ _ _ q1))
  exact h1.needS (by omega) ⟨fun _ => nx _ _, fun _ => h1.takeS (by omega) ⟨fun _ => nx _ _, fun w => absurd rfl w⟩⟩
theorem ag_f4 {x1 x2 x3 : Int} (hd : 3 ≤ d') (h : MF s f p) (h73 : s 73 0 = 0) (hat : s 18 0 ≤ 1999) (hP : ∀ s', MF s' f p → (∀ (q : Nat) (j : Int), q ≠ 18 → q ≠ 70 → s' q j = s q j) → P 0 s') : mw (d' + 1) 216 (am_blk 216 4) [159, x1, x2, x3] [] s P := by
  refine w216_4 ?_
  obtain ⟨e, rfl⟩ : ∃ e, d' = e + 1 := ⟨d' - 1, by omega⟩
  have nx : ∀ s1, s1 = ms_u s 70 0 (am_w (s 70 0 + 1)) → MF s1 f p → mw (e + 1) 213 (am_blk 213 1) [159, x1] [] s1 (fun _ s1 => md_isWord (e + 1) (-128) s1 (fun v1 s2 => (v1 = 0 → md_isWord (e + 1) (-130) s2 (fun v2 s3 => (v2 = 0 → md_isWord (e + 1) (-132) s3 (fun v3 s4 => (v3 = 0 → mw (e + 1 + 1) 216 (am_blk 216 8) [159, x1, x2, x3] [24] s4 P) ∧ (¬ (v3 = 0) → mw (e + 1 + 1) 216 (am_blk 216 8) [159, x1, x2, x3] [23] s4 P))) ∧ (¬ (v2 = 0) → mw (e + 1 + 1) 216 (am_blk 216 8) [159, x1, x2, x3] [22] s3 P))) ∧ (¬ (v1 = 0) → mw (e + 1 + 1) 216 (am_blk 216 8) [159, x1, x2, x3] [21] s2 P))) := by
    intro s1 e1 h1
    exact w213_1 (h1.isW (by omega) ⟨fun _ => h1.isW (by omega) ⟨fun _ => h1.isW (by omega) ⟨fun _ => ag_f8 hd h1 (by rw [e1, ms_u_f _ _ _ (by omega)]; exact h73) (by rw [e1, ms_u_f _ _ _ (by omega)]; exact hat) (fun s' hf' e' => hP s' hf' (fun q j q1 q2 => by rw [e' q j q1 q2, e1]; exact ms_u_f _ _ _ q2)), fun w => absurd rfl w⟩, fun w => absurd rfl w⟩, fun w => absurd rfl w⟩)
  refine w213_e (fun s1 e1 => ?_)
  have h1 : MF s1 f p := h.fr (fun q h1 h2 => by rw [e1]; exact ms_u_f _ _ _ (by omega))
  exact ⟨fun _ => nx s1 e1 h1, fun _ => k_mtell0 h1.1 (nx s1 e1 h1)⟩
theorem k_mmake {N : Nat} {what a1 b1 c1 first t7 : Int} {D : Nat} (hg : s 21 0 = 1) (hz : s 22 0 = (N : Int)) (hD : 1 ≤ D) (hN : N < 120) (kk : ∀ s', mkF N s s' → s' 22 0 = ((N + 1 : Nat) : Int) → (s' 23 N = what ∧ s' 24 N = a1 ∧ s' 25 N = b1 ∧ s' 26 N = c1 ∧ s' 27 N = 0 ∧ s' 28 N = 0 ∧ s' 29 N = first ∧ s' 30 N = 0 ∧ s' 32 N = -1) → P (N : Int) s') : md_make D what a1 b1 c1 first t7 s P := by
  obtain ⟨d, rfl⟩ : ∃ d', D = d' + 1 := ⟨D - 1, by omega⟩
  refine w212_e ⟨fun _ => ⟨fun _ => ?_, fun w => absurd w (by rw [hz]; omega)⟩, fun w => absurd (by rw [hg]; decide) w⟩
  rw [hz]
  refine fun s1 e1 => ⟨by omega, by omega, fun s2 e2 => ⟨by omega, by omega, fun s3 e3 => ⟨by omega, by omega, fun s4 e4 => ⟨by omega, by omega, fun s5 e5 => ⟨by omega, by omega, fun s6 e6 => ⟨by omega, by omega, fun s7 e7 => ⟨by omega, by omega, fun s8 e8 => ⟨by omega, by omega, fun s9 e9 => ⟨by omega, by omega, fun s10 e10 => ?_⟩⟩⟩⟩⟩⟩⟩⟩⟩
  rw [am_w_s (by omega)] at e1
  refine kk s10 (fun q j h1 h2 => ?_) ?_ ⟨?_, ?_, ?_, ?_, ?_, ?_, ?_, ?_, ?_⟩
  · rw [e10, e9, e8, e7, e6, e5, e4, e3, e2, e1]
    unfold ms_u
    rw [if_neg (by omega), if_neg (by omega), if_neg (by omega), if_neg (by omega), if_neg (by omega), if_neg (by omega), if_neg (by omega), if_neg (by omega), if_neg (by omega), if_neg (by omega)]
  · rw [e10, ms_u_f _ _ _ (by omega), e9, ms_u_f _ _ _ (by omega), e8, ms_u_f _ _ _ (by omega), e7, ms_u_f _ _ _ (by omega), e6, ms_u_f _ _ _ (by omega), e5, ms_u_f _ _ _ (by omega), e4, ms_u_f _ _ _ (by omega), e3, ms_u_f _ _ _ (by omega), e2, ms_u_f _ _ _ (by omega), e1, ms_u_eq]
  · rw [e10, ms_u_f _ _ _ (by omega), e9, ms_u_f _ _ _ (by omega), e8, ms_u_f _ _ _ (by omega), e7, ms_u_f _ _ _ (by omega), e6, ms_u_f _ _ _ (by omega), e5, ms_u_f _ _ _ (by omega), e4, ms_u_f _ _ _ (by omega), e3, ms_u_f _ _ _ (by omega), e2, ms_u_eq]
  · rw [e10, ms_u_f _ _ _ (by omega), e9, ms_u_f _ _ _ (by omega), e8, ms_u_f _ _ _ (by omega), e7, ms_u_f _ _ _ (by omega), e6, ms_u_f _ _ _ (by omega), e5, ms_u_f _ _ _ (by omega), e4, ms_u_f _ _ _ (by omega), e3, ms_u_eq]
  · rw [e10, ms_u_f _ _ _ (by omega), e9, ms_u_f _ _ _ (by omega), e8, ms_u_f _ _ _ (by omega), e7, ms_u_f _ _ _ (by omega), e6, ms_u_f _ _ _ (by omega), e5, ms_u_f _ _ _ (by omega), e4, ms_u_eq]
  · rw [e10, ms_u_f _ _ _ (by omega), e9, ms_u_f _ _ _ (by omega), e8, ms_u_f _ _ _ (by omega), e7, ms_u_f _ _ _ (by omega), e6, ms_u_f _ _ _ (by omega), e5, ms_u_eq]
  · rw [e10, ms_u_f _ _ _ (by omega), e9, ms_u_f _ _ _ (by omega), e8, ms_u_f _ _ _ (by omega), e7, ms_u_f _ _ _ (by omega), e6, ms_u_eq]
  · rw [e10, ms_u_f _ _ _ (by omega), e9, ms_u_f _ _ _ (by omega), e8, ms_u_f _ _ _ (by omega), e7, ms_u_eq]
  · rw [e10, ms_u_f _ _ _ (by omega), e9, ms_u_f _ _ _ (by omega), e8, ms_u_eq]
  · rw [e10, ms_u_f _ _ _ (by omega), e9, ms_u_eq]
  · rw [e10, ms_u_eq]
/-- while an aggregate is read -/
def MA (s0 s : ms_S) (si : Nat) (V : pV) (b : Int → Int) (n k : Nat) : Prop := (∀ (q : Nat) (j : Int), q ≠ 18 → q ≠ 70 → ¬ ((q = 42 ∨ q = 43) ∧ j = (si : Int)) → s q j = s0 q j) ∧ s 18 0 = (k : Int) ∧ s 70 0 = ((vD V + 1 : Nat) : Int) ∧ s 42 si = (((vG V).length + 1 : Nat) : Int) ∧ s 43 si = (if vG V = [] then (tk_p b n (vA V) : Int) else g_fst b n (vB V) (vG V))
theorem MA.tk {k : Nat} (h : MA s0 s si V b n k) (h0 : ME s0 b n K R si V) : mkT s b n K ∧ s 21 0 = 1 := ⟨h0.1.fr (fun q j hq => h.1 q j (by omega) (by omega) (by omega)), by rw [h.1 _ _ (by omega) (by omega) (by omega)]; exact h0.2.1.2.2.1⟩
theorem MA.at {k k' : Nat} (h : MA s0 s si V b n k) : MA s0 (ms_u s 18 0 (k' : Int)) si V b n k' := ⟨fun q j h1 h2 h3 => by rw [ms_u_f _ _ _ h1]; exact h.1 q j h1 h2 h3, ms_u_eq _ _ _ _, by rw [ms_u_f _ _ _ (by omega)]; exact h.2.2.1, by rw [ms_u_f _ _ _ (by omega)]; exact h.2.2.2.1, by rw [ms_u_f _ _ _ (by omega)]; exact h.2.2.2.2⟩
theorem MA.eF {k : Nat} (h : MA s0 s si V b n k) : eF si s0 s := fun q j hq => h.1 q j (by omega) (by omega) (by omega)
/-- the way in -/
theorem ag_in (h : ME s b n K R si V) (hm : vM V = true) (hd : 4 ≤ d') (hl : (vG V).length < 12) (h12 : vD V < 12) (kd : Int) (hkd : (tk_is b n (vA V) (st_str (-20)) ∧ kd = 21) ∨ (tk_is b n (vA V) (st_str (-22)) ∧ kd = 22) ∨ (tk_is b n (vA V) (st_str (-24)) ∧ kd = 23) ∨ (tk_is b n (vA V) (st_str (-26)) ∧ kd = 24)) (kk : ∀ s4, MA s s4 si V b n (vA V) → mw (d' + 1) 216 (am_blk 216 8) [159, (tk_p b n (vA V) : Int), 0, 0] [kd] s4 P) : md_aggregate (d' + 1) (tk_p b n (vA V) : Int) s P := by
  obtain ⟨m1, m2, m3⟩ := h.2.2.2.2
  obtain ⟨m4, m5⟩ := m3.mp hm
  obtain ⟨a1, a2, a3, a4, a5⟩ := h.2.2.2.1 hm
  have hsl := h.le
  have b4 : ∀ s4, s4 70 0 = (vD V : Int) → (∀ (q : Nat) (j : Int), ¬ ((q = 42 ∨ q = 43) ∧ j = (si : Int)) → s4 q j = s q j) → s4 42 si = (((vG V).length + 1 : Nat) : Int) → s4 43 si = (if vG V = [] then (tk_p b n (vA V) : Int) else g_fst b n (vB V) (vG V)) → mw (d' + 1) 216 (am_blk 216 4) [159, (tk_p b n (vA V) : Int), 0, 0] [] s4 P := by
    intro s4 e70 efr e42 e43
    refine w216_4 ?_
    obtain ⟨e, rfl⟩ : ∃ e, d' = e + 1 := ⟨d' - 1, by omega⟩
    refine w213_e (fun s5 e5 => ?_)
    rw [e70, am_w_s (by omega)] at e5
    have e70' : s5 70 0 = ((vD V + 1 : Nat) : Int) := by rw [e5, ms_u_eq]
    rw [e70']
    refine ⟨fun _ => w213_1 ?_, fun w => absurd (by omega) w⟩
    have hMA : MA s s5 si V b n (vA V) := ⟨fun q j h1 h2 h3 => by rw [e5, ms_u_f _ _ _ h2]; exact efr q j h3, by rw [e5, ms_u_f _ _ _ (by omega), efr _ _ (by omega)]; exact h.2.1.1, e70', by rw [e5, ms_u_f _ _ _ (by omega)]; exact e42, by rw [e5, ms_u_f _ _ _ (by omega)]; exact e43⟩
    obtain ⟨t1, t2⟩ := hMA.tk h
    obtain ⟨e', rfl⟩ : ∃ e', e = e' + 1 := ⟨e - 1, by omega⟩
    rcases hkd with ⟨q, rfl⟩ | ⟨q, rfl⟩ | ⟨q, rfl⟩ | ⟨q, rfl⟩
    · exact k_misWord t1 hMA.2.1 hsl.1 t2 (sty (by omega)) (fun _ => ⟨fun w => absurd w (by omega), fun _ => kk s5 hMA⟩) (fun z => absurd (tw_count.mp q) z)
    · exact k_misWord t1 hMA.2.1 hsl.1 t2 (sty (by omega)) (fun z => absurd (tw_count.mpr z) (tk_ne q (by decide +kernel))) (fun _ => ⟨fun _ => k_misWord t1 hMA.2.1 hsl.1 t2 (sty (by omega)) (fun _ => ⟨fun w => absurd w (by omega), fun _ => kk s5 hMA⟩) (fun z => absurd (tw_sum.mp q) z), fun w => absurd rfl w⟩)
    · exact k_misWord t1 hMA.2.1 hsl.1 t2 (sty (by omega)) (fun z => absurd (tw_count.mpr z) (tk_ne q (by decide +kernel))) (fun _ => ⟨fun _ => k_misWord t1 hMA.2.1 hsl.1 t2 (sty (by omega)) (fun z => absurd (tw_sum.mpr z) (tk_ne q (by decide +kernel))) (fun _ => ⟨fun _ => k_misWord t1 hMA.2.1 hsl.1 t2 (sty (by omega)) (fun _ => ⟨fun w => absurd w (by omega), fun _ => kk s5 hMA⟩) (fun z => absurd (tw_min.mp q) z), fun w => absurd rfl w⟩), fun w => absurd rfl w⟩)
    · exact k_misWord t1 hMA.2.1 hsl.1 t2 (sty (by omega)) (fun z => absurd (tw_count.mpr z) (tk_ne q (by decide +kernel))) (fun _ => ⟨fun _ => k_misWord t1 hMA.2.1 hsl.1 t2 (sty (by omega)) (fun z => absurd (tw_sum.mpr z) (tk_ne q (by decide +kernel))) (fun _ => ⟨fun _ => k_misWord t1 hMA.2.1 hsl.1 t2 (sty (by omega)) (fun z => absurd (tw_min.mpr z) (tk_ne q (by decide +kernel))) (fun _ => ⟨fun _ => kk s5 hMA, fun w => absurd rfl w⟩), fun w => absurd rfl w⟩), fun w => absurd rfl w⟩)
  refine w216_e ⟨fun w => absurd w (by omega), fun _ => ⟨fun _ => ?_, fun w => absurd m5 w⟩⟩
  rw [a1, a3, am_w_s (by omega)]
  refine ⟨by omega, by omega, by omega, by omega, fun s1 e1 => ?_⟩
  have e71 : s1 71 0 = (si : Int) := by rw [e1, ms_u_f _ _ _ (by omega)]; exact a1
  have e42 : s1 42 si = (((vG V).length + 1 : Nat) : Int) := by rw [e1, ms_u_eq]
  rw [e71, e42]
  refine ⟨by omega, by omega, fun _ => w216_3 ?_, fun w => absurd (by omega) w⟩
  have e43 : s1 43 si = g_fst b n (vB V) (vG V) := by rw [e1, ms_u_f _ _ _ (by omega)]; exact a4
  have e70 : s1 70 0 = (vD V : Int) := by rw [e1, ms_u_f _ _ _ (by omega)]; exact h.2.1.2.2.2.1
  have fr1 : ∀ (q : Nat) (j : Int), ¬ ((q = 42 ∨ q = 43) ∧ j = (si : Int)) → s1 q j = s q j := fun q j hq => by rw [e1]; unfold ms_u; rw [if_neg (by omega)]
  rw [e71, e43]
  refine ⟨by omega, by omega, fun w => b4 s1 e70 fr1 e42 ?_, fun w => ⟨by omega, by omega, fun s2 e2 => b4 s2 ?_ (fun q j hq => ?_) ?_ ?_⟩⟩
  · rw [e43, if_neg]
    intro hg
    rw [hg] at w
    exact w rfl
  · rw [e2, ms_u_f _ _ _ (by omega)]; exact e70
  · rw [e2]; unfold ms_u; rw [if_neg (by omega)]; exact fr1 q j hq
  · rw [e2, ms_u_f _ _ _ (by omega)]; exact e42
  · rw [e2, ms_u_eq, if_pos]
    cases hg : vG V with
    | nil => rfl
    | cons e l =>
      exfalso
      rw [hg] at w
      have w := Classical.not_not.mp w
      have : ((tk_p b n (vB V e).1 : Nat) : Int) = -1 := w
      omega
/-- the thirteenth, or too deep: told, and on to the end -/
theorem ag_in0 (h : ME s b n K R si V) (hm : vM V = true) (hd : 4 ≤ d') (hK : vA V < K) (hl : (vG V).length = 12 ∨ ((vG V).length < 12 ∧ vD V = 12)) (hP : ∀ s', MF s' 7 (tk_p b n (vA V)) → eF si s s' → P 0 s') : md_aggregate (d' + 1) (tk_p b n (vA V) : Int) s P := by
  obtain ⟨m1, m2, m3⟩ := h.2.2.2.2
  obtain ⟨m4, m5⟩ := m3.mp hm
  obtain ⟨a1, a2, a3, a4, a5⟩ := h.2.2.2.1 hm
  have hsl := h.le
  have h18 := h.2.1.1
  have hgl : (vG V).length ≤ 12 := by omega
  refine w216_e ⟨fun w => absurd w (by omega), fun _ => ⟨fun _ => ?_, fun w => absurd m5 w⟩⟩
  rw [a1, a3, am_w_s (by omega)]
  refine ⟨by omega, by omega, by omega, by omega, fun s1 e1 => ?_⟩
  have e71 : s1 71 0 = (si : Int) := by rw [e1, ms_u_f _ _ _ (by omega)]; exact a1
  have e42 : s1 42 si = (((vG V).length + 1 : Nat) : Int) := by rw [e1, ms_u_eq]
  have g1 : s1 21 0 = 1 := by rw [e1, ms_u_f _ _ _ (by omega)]; exact h.2.1.2.2.1
  have at1 : s1 18 0 = (vA V : Int) := by rw [e1, ms_u_f _ _ _ (by omega)]; exact h18
  have n1 : s1 70 0 = (vD V : Int) := by rw [e1, ms_u_f _ _ _ (by omega)]; exact h.2.1.2.2.2.1
  have i1 : s1 73 0 = 0 := by rw [e1, ms_u_f _ _ _ (by omega)]; exact m5
  have ef1 : eF si s s1 := by rw [e1]; exact eF.u (by omega)
  rw [e71, e42]
  -- behind the first one's place
  have b3 : ∀ s2, s2 71 0 = (si : Int) → (∀ s3, (∀ (q : Nat) (j : Int), q ≠ 43 → s3 q j = s2 q j) → eF si s2 s3 → mw (d' + 1) 216 (am_blk 216 4) [159, (tk_p b n (vA V) : Int), 0, 0] [] s3 P) → mw (d' + 1) 216 (am_blk 216 3) [159, (tk_p b n (vA V) : Int), 0, 0] [] s2 P := by
    intro s2 e71 hk
    refine w216_3 ?_
    rw [e71]
    exact ⟨by omega, by omega, fun _ => hk s2 (fun _ _ _ => rfl) (eF.rf _), fun _ => ⟨by omega, by omega, fun s3 e3 => hk s3 (fun q j hq => by rw [e3]; exact ms_u_f _ _ _ hq) (by rw [e3]; exact eF.u (by omega))⟩⟩
  refine ⟨by omega, by omega, fun w => b3 s1 e71 (fun s3 fr3 ef3 => ?_), fun w => k_mtell g1 (b3 _ ?_ (fun s3 fr3 ef3 => ?_))⟩
  · -- too deep
    have h12 : vD V = 12 := by omega
    refine w216_4 ?_
    obtain ⟨e, rfl⟩ : ∃ e, d' = e + 1 := ⟨d' - 1, by omega⟩
    refine w213_e (fun s5 e5 => ?_)
    have n3 : s3 70 0 = (vD V : Int) := by rw [fr3 _ _ (by omega)]; exact n1
    rw [n3, am_w_s (by omega), h12] at e5
    have e70' : s5 70 0 = 13 := by rw [e5, ms_u_eq]; rfl
    rw [e70']
    have g5 : s5 21 0 = 1 := by rw [e5, ms_u_f _ _ _ (by omega), fr3 _ _ (by omega)]; exact g1
    refine ⟨fun w => absurd w (by omega), fun _ => k_mtell g5 (w213_1 ?_)⟩
    have hf : MF (m_fl s5 7 (tk_p b n (vA V))) 7 (tk_p b n (vA V)) := m_fl_MF (by rw [e5, ms_u_f _ _ _ (by omega), fr3 _ _ (by omega), at1]; omega) (by rw [e5, ms_u_f _ _ _ (by omega), fr3 _ _ (by omega), at1]; omega)
    have ef5 : eF si s (m_fl s5 7 (tk_p b n (vA V))) := ef1.tr (ef3.tr ((by rw [e5]; exact eF.u (by omega) : eF si s3 s5).tr eF.fl))
    have e73 : m_fl s5 7 (tk_p b n (vA V)) 73 0 = 0 := by rw [m_fl_f (by omega) (by omega) (by omega), e5, ms_u_f _ _ _ (by omega), fr3 _ _ (by omega)]; exact i1
    have e18 : m_fl s5 7 (tk_p b n (vA V)) 18 0 ≤ 1999 := by rw [m_fl_f (by omega) (by omega) (by omega), e5, ms_u_f _ _ _ (by omega), fr3 _ _ (by omega), at1]; omega
    exact hf.isW (by omega) ⟨fun _ => hf.isW (by omega) ⟨fun _ => hf.isW (by omega) ⟨fun _ => ag_f8 (by omega) hf e73 e18 (fun s' hf' e' => hP s' hf' (ef5.tr (fun q j hq => e' q j (by omega) (by omega)))), fun w => absurd rfl w⟩, fun w => absurd rfl w⟩, fun w => absurd rfl w⟩
  · rw [m_fl_f (by omega) (by omega) (by omega)]; exact e71
  · have hf : MF s3 7 (tk_p b n (vA V)) := (m_fl_MF (s := s1) (by omega) (by omega)).fr (fun q h1 h2 => fr3 q 0 (by omega))
    refine ag_f4 (by omega) hf ?_ ?_ (fun s' hf' e' => hP s' hf' (ef1.tr (eF.fl.tr (ef3.tr (fun q j hq => e' q j (by omega) (by omega))))))
    · rw [fr3 _ _ (by omega), m_fl_f (by omega) (by omega) (by omega)]; exact i1
    · rw [fr3 _ _ (by omega), m_fl_f (by omega) (by omega) (by omega), at1]; omega
end
