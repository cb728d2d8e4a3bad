set_option maxRecDepth 100000
/-! the rows of keys: room for so many -/
section
variable {W : Nat → Int → Prop} {G : nG} {c c' c2 : cs_S} {E E' : Int → bw_L} {P P' : List Int} {o o' o2 : Int → Int} {a b n r x : Int} {Q : Int → cs_S → Prop} {d w D N Nl Nr : Nat} {S : List Int}
theorem PK.up2 (h : PK c S o) (h7 : c_r c 7 = 1002) (u : c_up W c c') (w1 : ¬ W 82 7) (w2 : ¬ W 83 7) (w3 : ¬ W 582 (c_v c 82 7 0)) (w4 : ∀ y, ¬ W 40 y) (ho : ∀ x, x < c_n c → o x = -1 → o' x = -1) : PK c' S o' ∧ pk_K c' = pk_K c ∧ (∀ i, pk_y c' i = pk_y c i) ∧ c_v c' 82 7 0 = c_v c 82 7 0 := by
  obtain ⟨h1, h2, h3, h4, h5, h6⟩ := h
  have e7 : c_r c 7 ≠ 0 := by rw [h7]; decide
  have ek : c_v c' 82 7 0 = c_v c 82 7 0 := u.v e7 w1 0
  have em : c_v c' 83 7 0 = c_v c 83 7 0 := u.v e7 w2 0
  have nk : c_r c (c_v c 82 7 0) ≠ 0 := by rw [h1]; decide
  have nm : c_r c (c_v c 83 7 0) ≠ 0 := by rw [h2]; decide
  have eK : pk_K c' = pk_K c := by unfold pk_K; rw [ek, u.l nk]
  have ey : ∀ i, pk_y c' i = pk_y c i := by intro i; unfold pk_y; rw [ek, u.v nk w3]
  refine ⟨⟨by rw [ek]; exact u.r h1 (by decide), by rw [em]; exact u.r h2 (by decide), by rw [em, u.l nm, eK]; exact h3, by rw [eK]; exact h4, by rw [eK]; exact h5, fun i hi hi2 => ?_⟩, eK, ey, ek⟩
  rw [eK] at hi2
  rw [ey]
  obtain ⟨a1, a2, a3, a4, a5⟩ := h6 i hi hi2
  refine ⟨a1.up u (w4 _), ho _ (c_r_in (by rw [a1.1]; decide)).2 a2, a3, a4, fun j hj hj2 hne => ?_⟩
  rw [ey]
  rw [eK] at hj2
  exact a5 j hj hj2 hne
/-- all but the keys -/
theorem NS.up2 (h : NS G c o) (h7 : c_r c 7 = 1002) (u : c_up W c c') (hw : ∀ q a, nq q → ¬ W q a) (hwo : ∀ n ∈ gS G, ¬ W 426 n) (w1 : ¬ W 82 7) (w2 : ¬ W 83 7) (w3 : ¬ W 582 (c_v c 82 7 0)) (ho : ∀ x, x < c_n c → o x = -1 → o' x = -1) : NS G c' o' ∧ pk_K c' = pk_K c ∧ b_sum (n_ol c') (gS G) = b_sum (n_ol c) (gS G) ∧ (∀ i, pk_y c' i = pk_y c i) ∧ c_v c' 82 7 0 = c_v c 82 7 0 := by
  obtain ⟨h1, h2, h3, h4, h5, h6, h237⟩ := h
  obtain ⟨p1, p2, p3, p4⟩ := h5.up2 h7 u w1 w2 w3 (fun y => hw _ y (by unfold nq; omega)) ho
  refine ⟨⟨h1.up u (fun q a hq => hw q a (Or.inl hq)), fun n hn => ?_, h3, fun n hn => ⟨(h4 n hn).1, (h4 n hn).2.up (h2 n (h4 n hn).1).1 u hw⟩, p1, h6, by have := u.1; omega⟩, p2, b_sum_congr (fun n hn => ((h2 n hn).1.up u hw (hwo n hn)).2), p3, p4⟩
  obtain ⟨a1, a2, a3, a4, a5⟩ := h2 n hn
  exact ⟨(a1.up u hw (hwo n hn)).1, a2, ho _ (c_r_in (by rw [a1.2.2.2.2.2.2.2.2.2.2.2.2.1.1]; decide)).2 a3, ho _ (c_r_in (by rw [a1.2.2.2.2.2.2.2.2.2.2.2.2.2.1.1]; decide)).2 a4, a5⟩
/-- the same, with other keys -/
theorem NS.keys (h : NS G c o) (hp : PK c' (gS G) o) (u : c_up W c c') (hw : ∀ q a, nq q → ¬ W q a) (hwo : ∀ n ∈ gS G, ¬ W 426 n) : NS G c' o ∧ b_sum (n_ol c') (gS G) = b_sum (n_ol c) (gS G) := by
  obtain ⟨h1, h2, h3, h4, h5, h6, h237⟩ := h
  refine ⟨⟨h1.up u (fun q a hq => hw q a (Or.inl hq)), fun n hn => ?_, h3, fun n hn => ⟨(h4 n hn).1, (h4 n hn).2.up (h2 n (h4 n hn).1).1 u hw⟩, hp, h6, by have := u.1; omega⟩, b_sum_congr (fun n hn => ((h2 n hn).1.up u hw (hwo n hn)).2)⟩
  obtain ⟨a1, a2⟩ := h2 n hn
  exact ⟨(a1.up u hw (hwo n hn)).1, a2⟩
theorem k_max {x0 x1 : Int} (kk : Q (max x0 x1) c) : kmath_max d x0 x1 c Q := by
  refine u301_e ⟨fun q => u301_2 ?_, fun q => u301_2 ?_⟩
  · have : max x0 x1 = x1 := by omega
    rw [this] at kk; exact kk
  · have : max x0 x1 = x0 := by omega
    rw [this] at kk; exact kk
theorem n_keys (h : NI G c E P o) (hv0 : 0 ≤ x) (hv : x ≤ 512) (hD : 5 ≤ D) (kk : ∀ c', NI G c' E P o → nx c o c' o → x ≤ pk_K c' → Q (c_v c' 82 7 0) c') : kpool_keys (D + 1) 7 x c Q := by
  obtain ⟨⟨m0, n0, hB, hm0, hn0⟩, hS⟩ := id h
  have h7 := h.p7
  have hP := hS.2.2.2.2.1
  obtain ⟨p1, p2, p3, p4, p5, p6⟩ := id hP
  have hnn := hB.nn
  have hKn : 0 ≤ pk_K c := by rcases p4 with q | ⟨j, q⟩; omega; have : (0 : Int) < 2 ^ j := Int.pow_pos (by decide); omega
  refine u39_e ⟨h7, p1, hKn, fun q => u39_5 ⟨h7, kk c h (nx.rf c o) q⟩, fun q => ⟨h7, p1, hKn, k_max ?_⟩⟩
  have q : pk_K c < x := by unfold pk_K; omega
  -- the new rows, then all is laid
  have loop : ∀ (M A : Int), (M = 64 ∨ M = 128 ∨ M = 256 ∨ M = 512) → 2 * pk_K c ≤ M → x ≤ M → c_n c ≤ A → ∀ (t : Nat) (x4 : Int) (c2 : cs_S), x4 + t = M → pk_K c ≤ x4 → BI (gb G, gcp G, glm G, gR G, m0 + M + 27 * (x4 - pk_K c), n0 + 1 + 2 * (x4 - pk_K c)) c2 E P o → NS G c2 o → pk_K c2 = pk_K c → b_sum (n_ol c2) (gS G) = b_sum (n_ol c) (gS G) → nx c o c2 o → c_r c2 A = 582 → c_l c2 A = M → A ≠ c_v c2 82 7 0 → (∀ i : Int, 0 ≤ i → i < x4 → rw_ok c2 (c_v c2 582 A i) ∧ o (c_v c2 582 A i) = -1 ∧ 237 ≤ c_v c2 582 A i ∧ (∀ n ∈ gS G, c_v c2 582 A i + 1 < n ∨ n + 21 ≤ c_v c2 582 A i) ∧ ∀ j : Int, 0 ≤ j → j < x4 → j ≠ i → c_v c2 582 A j ≠ c_v c2 582 A i) → cw (D + 1) 39 (am_blk 39 3) [7, x, M, A, x4] [] c2 Q := by
    intro M A hM hM2 hxM hA t
    induction t with
    | zero =>
      intro x4 c2 ht hx4 hB2 hS2 hK2 hO2 x2 hr hl hne hrows
      have h72 : c_r c2 7 = 1002 := hB2.1.1
      have e4 : x4 = M := by omega
      subst e4
      refine u39_3 ⟨fun _ => ⟨h72, fun c3 e3 => ?_⟩, fun w => absurd (by omega) w⟩
      have s3 : c_sm (fun q a => q = 82 ∧ a = 7) c2 c3 := by subst e3; exact c_sm.u c2 ⟨rfl, rfl⟩ _ _
      have hn3 : 0 ≤ c_n c3 := by rw [s3.n]; exact hB2.nn
      refine ⟨by omega, by omega, hn3, fun c4 e4 => ?_⟩
      have u4 : c_up (fun _ _ => False) c3 c4 := by subst e4; exact c_up.a c3 hn3 _ _ _
      have r4 : c_r c4 (c_n c3) = 583 := by subst e4; exact c_r_an c3 hn3 _ _ _
      have l4 : c_l c4 (c_n c3) = x4 := by subst e4; exact c_l_an c3 _ _ _
      have h73 : c_r c3 7 = 1002 := by rw [s3.r]; exact h72
      have h74 := u4.r h73 (by decide)
      refine ⟨h74, fun c5 e5 => ?_⟩
      have s5 : c_sm (fun q a => q = 83 ∧ a = 7) c4 c5 := by subst e5; exact c_sm.u c4 ⟨rfl, rfl⟩ _ _
      have u : c_up (fun q a => (q = 82 ∧ a = 7) ∨ (q = 83 ∧ a = 7)) c2 c5 := (s3.up.mono (fun q a hw => Or.inl hw)).tr ((u4.mono (fun _ _ hw => hw.elim)).tr (s5.up.mono (fun q a hw => Or.inr hw)))
      have nA : c_r c2 A ≠ 0 := by rw [hr]; decide
      have ek : c_v c5 82 7 0 = A := by
        rw [s5.v (by omega), u4.v (by rw [h73]; decide) (fun w => w)]
        subst e3; exact c_u_eq _ _ _ _ _
      have em : c_v c5 83 7 0 = c_n c3 := by subst e5; exact c_u_eq _ _ _ _ _
      have vA : ∀ i, c_v c5 582 A i = c_v c2 582 A i := fun i => u.v nA (by omega) i
      have eK : pk_K c5 = x4 := by unfold pk_K; rw [ek, u.l nA]; exact hl
      have hP5 : PK c5 (gS G) o := by
        refine ⟨by rw [ek]; exact u.r hr (by decide), by rw [em, s5.r]; exact r4, by rw [em, s5.l, eK]; exact l4, ?_, by rw [eK]; omega, fun i hi hi2 => ?_⟩
        · right
          rw [eK]
          rcases hM with w | w | w | w <;> subst w
          · exact ⟨0, by decide⟩
          · exact ⟨1, by decide⟩
          · exact ⟨2, by decide⟩
          · exact ⟨3, by decide⟩
        · rw [eK] at hi2
          obtain ⟨a1, a2, a3, a4, a5⟩ := hrows i hi hi2
          unfold pk_y
          rw [ek, vA]
          refine ⟨a1.up u (by omega), a2, a3, a4, fun j hj hj2 hne2 => ?_⟩
          rw [vA]
          rw [eK] at hj2
          exact a5 j hj hj2 hne2
      obtain ⟨g1, g2⟩ := hS2.keys hP5 u (fun q a hq hw => by unfold nq ex_q at hq; omega) (fun n hn hw => by omega)
      have hB5 := hB2.grow (k := x4) (j := 1) u (fun q a hw => by unfold bw_k; omega) (by rw [s5.m]; subst e4; rw [c_m_a, s3.m]) (by rw [s5.n]; subst e4; rw [c_n_a, s3.n]; omega)
      refine u39_5 ⟨by rw [s5.r]; exact h74, ?_⟩
      refine kk c5 ⟨⟨_, _, hB5, ?_, ?_⟩, g1⟩ (x2.tr ⟨u.mono (fun q a hw => by unfold nw; omega), fun _ _ w => w⟩) (by rw [eK]; exact hxM)
      · show m0 + x4 + 27 * (x4 - pk_K c) + x4 ≤ _
        rw [g2, hO2, eK]; omega
      · show n0 + 1 + 2 * (x4 - pk_K c) + 1 ≤ _
        rw [g2, hO2, eK]; omega
    | succ t ih =>
      intro x4 c2 ht hx4 hB2 hS2 hK2 hO2 x2 hr hl hne hrows
      have h72 : c_r c2 7 = 1002 := hB2.1.1
      have hn2 := hB2.nn
      have hcn : c_n c ≤ c_n c2 := x2.1.1
      refine u39_3 ⟨fun w => absurd w (by omega), fun _ => ⟨hn2, fun c3 e3 => ⟨by subst e3; exact c_r_on c2 hn2 1, ?_⟩⟩⟩
      subst e3
      obtain ⟨d, rfl⟩ : ∃ d, D = d + 1 := ⟨D - 1, by omega⟩
      refine rw_new hn2 (fun c4 u4 n4 m4 r4 => ?_)
      have nA : c_r c2 A ≠ 0 := by rw [hr]; decide
      have hA2 := (c_r_in nA).2
      have rA4 : c_r c4 A = 582 := u4.r hr (by decide)
      refine ⟨rA4, by omega, by rw [u4.l nA, hl]; omega, fun c5 e5 => ?_⟩
      have s5 : c_sm (fun q a => q = 582 ∧ a = A) c4 c5 := by subst e5; exact c_sm.u c4 ⟨rfl, rfl⟩ _ _
      have u : c_up (fun q a => q = 582 ∧ a = A) c2 c5 := (u4.mono (fun _ _ hw => hw.elim)).tr s5.up
      have vA : ∀ i, i ≠ x4 → c_v c5 582 A i = c_v c2 582 A i := by
        intro i hi; subst e5; rw [c_u_j hi, u4.v nA (fun w => w)]
      have vN : c_v c5 582 A x4 = c_n c2 := by subst e5; exact c_u_eq _ _ _ _ _
      rw [am_w_in (by omega) (by omega)]
      obtain ⟨g1, g2, g3, g4, g5⟩ := hS2.up2 (o' := o) h72 u (fun q a hq hw => by unfold nq ex_q at hq; omega) (fun n hn hw => by omega) (by omega) (by omega) (by omega) (fun _ _ w => w)
      have hB5 := hB2.grow (k := 27) (j := 2) u (fun q a hw => by unfold bw_k; omega) (by rw [s5.m]; exact m4) (by rw [s5.n, n4]; omega)
      have hlt : ∀ i, 0 ≤ i → i < x4 → c_v c2 582 A i < c_n c2 := fun i hi hi2 => (c_r_in (by rw [(hrows i hi hi2).1.1]; decide)).2
      have hon : o (c_n c2) = -1 := by
        apply Classical.byContradiction
        intro w
        have := (hB2.2.2.2.1 _ w).2
        omega
      have hfree : ∀ n ∈ gS G, n + 21 ≤ c_n c2 := fun n hn => (hS2.2.1 n hn).1.2.2.2.2.2.2.2.2.2.2.2.2.2.2
      have eB : (gb G, gcp G, glm G, gR G, m0 + M + 27 * (x4 - pk_K c) + 27, n0 + 1 + 2 * (x4 - pk_K c) + 2) = (gb G, gcp G, glm G, gR G, m0 + M + 27 * (x4 + 1 - pk_K c), n0 + 1 + 2 * (x4 + 1 - pk_K c)) := by
        have q1 : m0 + M + 27 * (x4 - pk_K c) + 27 = m0 + M + 27 * (x4 + 1 - pk_K c) := by omega
        have q2 : n0 + 1 + 2 * (x4 - pk_K c) + 2 = n0 + 1 + 2 * (x4 + 1 - pk_K c) := by omega
        rw [q1, q2]
      have hB5' : BI (gb G, gcp G, glm G, gR G, m0 + M + 27 * (x4 + 1 - pk_K c), n0 + 1 + 2 * (x4 + 1 - pk_K c)) c5 E P o := by rw [← eB]; exact hB5
      refine ih (x4 + 1) c5 (by omega) (by omega) hB5' g1 (g2.trans hK2) (g3.trans hO2) (x2.tr ⟨u.mono (fun q a hw => by unfold nw; omega), fun _ _ w => w⟩) (by rw [s5.r]; exact rA4) (by rw [u.l nA]; exact hl) (by rw [g5]; exact hne) (fun i hi hi2 => ?_)
      by_cases e : i = x4
      · subst e
        rw [vN]
        refine ⟨r4.1.up s5.up (by omega), hon, ?_, fun n hn => Or.inr (hfree n hn), fun j hj hj2 hne2 => ?_⟩
        · exact hS2.2.2.2.2.2.2
        · rw [vA j hne2]; have := hlt j hj (by omega); omega
      · obtain ⟨a1, a2, a3, a4, a5⟩ := hrows i hi (by omega)
        rw [vA i e]
        refine ⟨a1.up u (by omega), a2, a3, a4, fun j hj hj2 hne2 => ?_⟩
        by_cases e2 : j = x4
        · subst e2; rw [vN]; have := hlt i hi (by omega); omega
        · rw [vA j e2]; exact a5 j hj (by omega) hne2
  have ex : ∀ M : Int, (M = 64 ∨ M = 128 ∨ M = 256 ∨ M = 512) → 2 * pk_K c ≤ M → x ≤ M → 0 ≤ M ∧ M ≤ 1000000 ∧ 0 ≤ c_n c ∧ ∀ c1, c1 = c_a c 582 M (-1) → c_r c1 7 = 1002 ∧ c_r c1 7 = 1002 ∧ c_r c1 (c_v c1 82 7 0) = 582 ∧ 0 ≤ c_l c1 (c_v c1 82 7 0) ∧ c_r c1 (c_v c1 82 7 0) = 582 ∧ c_r c1 (c_n c) = 582 ∧ 0 ≤ (c_l c1 (c_v c1 82 7 0)) ∧ (0 : Int) ≤ 0 ∧ (0 : Int) ≤ 0 ∧ 0 + (c_l c1 (c_v c1 82 7 0)) ≤ c_l c1 (c_v c1 82 7 0) ∧ 0 + (c_l c1 (c_v c1 82 7 0)) ≤ c_l c1 (c_n c) ∧ ∀ c2, c2 = c_c c1 582 (c_v c1 82 7 0) 0 582 (c_n c) 0 (c_l c1 (c_v c1 82 7 0)) → c_r c2 7 = 1002 ∧ c_r c2 (c_v c2 82 7 0) = 582 ∧ 0 ≤ c_l c2 (c_v c2 82 7 0) ∧ cw (D + 1) 39 (am_blk 39 3) [7, x, M, (c_n c), (c_l c2 (c_v c2 82 7 0))] [] c2 Q := by
    intro M hM hM2 hxM
    refine ⟨by omega, by omega, hnn, fun c1 e1 => ?_⟩
    have u1 : c_up (fun _ _ => False) c c1 := by subst e1; exact c_up.a c hnn _ _ _
    have r1 : c_r c1 (c_n c) = 582 := by subst e1; exact c_r_an c hnn _ _ _
    have l1 : c_l c1 (c_n c) = M := by subst e1; exact c_l_an c _ _ _
    have e7 : c_r c 7 ≠ 0 := by rw [h7]; decide
    have nk : c_r c (c_v c 82 7 0) ≠ 0 := by rw [p1]; decide
    have ek := u1.v e7 (fun w => w) 0 (q := 82)
    have elk : c_l c1 (c_v c 82 7 0) = pk_K c := u1.l nk
    have h71 := u1.r h7 (by decide)
    have rk := u1.r p1 (by decide)
    rw [ek, elk, l1]
    refine ⟨h71, h71, rk, hKn, rk, r1, hKn, by omega, by omega, by omega, by omega, fun c2 e2 => ?_⟩
    have s2 : c_sm (fun q a => q = 582 ∧ a = c_n c) c1 c2 := by subst e2; exact c_sm.c c1 ⟨rfl, rfl⟩ _ _ _ _
    have u : c_up (fun q a => q = 582 ∧ a = c_n c) c c2 := (u1.mono (fun _ _ hw => hw.elim)).tr s2.up
    have hkc : c_v c 82 7 0 < c_n c := (c_r_in nk).2
    obtain ⟨g1, g2, g3, g4, g5⟩ := hS.up2 (o' := o) h7 u (fun q a hq hw => by unfold nq ex_q at hq; omega) (fun n hn hw => by omega) (by omega) (by omega) (by omega) (fun _ _ w => w)
    have hB2 := hB.grow (k := M) (j := 1) u (fun q a hw => by unfold bw_k; omega) (by rw [s2.m]; subst e1; rw [c_m_a]) (by rw [s2.n]; subst e1; rw [c_n_a]; omega)
    have vN : ∀ i, 0 ≤ i → i < pk_K c → c_v c2 582 (c_n c) i = pk_y c i := by
      intro i hi hi2
      subst e2
      rw [c_v_c, if_pos ⟨rfl, rfl, by omega, by omega⟩]
      unfold pk_y
      rw [u1.v nk (fun w => w)]
      congr 1
      omega
    have elk2 : c_l c2 (c_v c2 82 7 0) = pk_K c := g2
    rw [elk2]
    refine ⟨by rw [s2.r]; exact h71, by rw [g5, s2.r]; exact rk, hKn, ?_⟩
    have eB : (gb G, gcp G, glm G, gR G, m0 + M, n0 + 1) = (gb G, gcp G, glm G, gR G, m0 + M + 27 * (pk_K c - pk_K c), n0 + 1 + 2 * (pk_K c - pk_K c)) := by
      have q1 : m0 + M + 27 * (pk_K c - pk_K c) = m0 + M := by omega
      have q2 : n0 + 1 + 2 * (pk_K c - pk_K c) = n0 + 1 := by omega
      rw [q1, q2]
    have hB2' : BI (gb G, gcp G, glm G, gR G, m0 + M + 27 * (pk_K c - pk_K c), n0 + 1 + 2 * (pk_K c - pk_K c)) c2 E P o := by rw [← eB]; exact hB2
    refine loop M (c_n c) hM hM2 hxM (Int.le_refl _) (M - pk_K c).toNat (pk_K c) c2 (by omega) (Int.le_refl _) hB2' g1 g2 g3 ⟨u.mono (fun q a hw => by unfold nw; omega), fun _ _ w => w⟩ (by rw [s2.r]; exact r1) (by rw [s2.l]; exact l1) (by rw [g5]; omega) (fun i hi hi2 => ?_)
    rw [vN i hi hi2]
    obtain ⟨a1, a2, a3, a4, a5⟩ := p6 i hi hi2
    refine ⟨a1.up u (by omega), a2, a3, a4, fun j hj hj2 hne2 => ?_⟩
    rw [vN j hj hj2]
    exact a5 j hj hj2 hne2
  have d2 : ∀ k : Int, 0 ≤ k → k ≤ 512 → am_w (2 * k) = 2 * k := fun k h1 h2 => am_w_in (by omega) (by omega)
  have hKs : pk_K c = 0 ∨ pk_K c = 64 ∨ pk_K c = 128 ∨ pk_K c = 256 ∨ 512 ≤ pk_K c := by
    rcases p4 with u | ⟨j, u⟩
    · exact Or.inl u
    · rcases j with - | - | - | j
      · simp at u; omega
      · simp at u; omega
      · simp at u; omega
      · have : (0 : Int) < 2 ^ j := Int.pow_pos (by decide)
        rw [Int.pow_succ, Int.pow_succ, Int.pow_succ] at u; omega
  have b512 : ∀ y3 y4 : Int, cw (D + 1) 39 (am_blk 39 1) [7, x, 512, y3, y4] [] c Q := fun y3 y4 => u39_1 ⟨fun w => ex 512 (by omega) (by omega) w, fun w => absurd hv w⟩
  have b256 : ∀ y3 y4 : Int, cw (D + 1) 39 (am_blk 39 1) [7, x, 256, y3, y4] [] c Q := fun y3 y4 => u39_1 ⟨fun w => ex 256 (by omega) (by omega) w, fun w => by rw [d2 256 (by omega) (by omega)]; exact b512 y3 y4⟩
  have b128 : ∀ y3 y4 : Int, cw (D + 1) 39 (am_blk 39 1) [7, x, 128, y3, y4] [] c Q := fun y3 y4 => u39_1 ⟨fun w => ex 128 (by omega) (by omega) w, fun w => by rw [d2 128 (by omega) (by omega)]; exact b256 y3 y4⟩
  have b64 : ∀ y3 y4 : Int, cw (D + 1) 39 (am_blk 39 1) [7, x, 64, y3, y4] [] c Q := fun y3 y4 => u39_1 ⟨fun w => ex 64 (by omega) (by omega) w, fun w => by rw [d2 64 (by omega) (by omega)]; exact b128 y3 y4⟩
  have hmx : max 64 (c_l c (c_v c 82 7 0)) = 64 ∨ max 64 (c_l c (c_v c 82 7 0)) = 128 ∨ max 64 (c_l c (c_v c 82 7 0)) = 256 := by unfold pk_K at hKs q; omega
  rcases hmx with u | u | u
  · rw [u]; exact b64 0 0
  · rw [u]; exact b128 0 0
  · rw [u]; exact b256 0 0
end
