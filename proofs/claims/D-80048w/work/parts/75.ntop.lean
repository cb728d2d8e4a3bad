set_option maxRecDepth 100000
/-! nodes: sorted, and the first ones -/
section
variable {W : Nat → Int → Prop} {G : nG} {c c' c2 : cs_S} {E E' : Int → bw_L} {P P' : List Int} {o o' o2 : Int → Int} {a b n r x : Int} {l m k : rwt} {U L L' R R' F F' V K : List rwt} {Q : Int → cs_S → Prop} {d w D N Nl Nr : Nat} {τ τl τr : List Int} {t v z1 z2 s : Int} {es B : bw_L}
theorem n_sort2 (hn : n ∈ gA G) (hb : b ∈ gb G) (hD : 270 ≤ D) (hty : ∀ e ∈ E b, rg τ e.2.1) (h8 : (n_list (gX G) n).length ≤ 8) (hdl : (n_down (gX G) n).length = (n_list (gX G) n).length) (hw : ∀ e ∈ n_list (gX G) n, e < gN G ∧ ∃ t, x_wt (gT G) (gsl G) (gct G) τ 121 e t) (h512 : (E b).length ≤ 512) (hgood : o_good (n_cmp G n) ((E b).map (·.2.1)))
    (kk : ∀ c' σ, NI G c' E P o → nx c o c' o → OS c' n σ → σ.Perm (List.range (E b).length) → o_ps (n_cmp G n) (E b) σ → Q ((E b).length : Int) c') : ∀ (p kx : Nat) (c1 : cs_S) (σ : List Nat) (y3 : Int), kx + p = (E b).length → NI G c1 E P o → nx c o c1 o → ((E b).length : Int) ≤ n_ol c1 n → OS c1 n σ → σ.Perm (List.range kx) → o_ps (n_cmp G n) (E b) σ → cw (D + 1) 280 (am_blk 280 2) [n, b, (kx : Int), y3] [] c1 Q := by
  intro p
  induction p with
  | zero =>
    intro kx c1 σ y3 hk I1 x1 hol hos hp hs
    have ek : kx = (E b).length := by omega
    subst ek
    exact u280_2 ⟨I1.rb hb, k_bsize (I1.bag hb) ⟨fun _ => ⟨I1.rb hb, k_bsize (I1.bag hb) (kk c1 σ I1 x1 hos hp hs)⟩, fun z => absurd (by omega) z⟩⟩
  | succ p ih =>
    intro kx c1 σ y3 hk I1 x1 hol hos hp hs
    have hkb : kx < (E b).length := by omega
    have hkg := List.getElem?_eq_getElem hkb
    generalize he0 : (E b)[kx] = e0 at *
    have hσl : σ.length = kx := by rw [hp.length_eq, List.length_range]
    have hσm : ∀ i ∈ σ, i < kx := fun i hi => List.mem_range.mp (hp.mem_iff.mp hi)
    refine u280_2 ⟨I1.rb hb, k_bsize (I1.bag hb) ⟨fun z => absurd z (by omega), fun _ => ?_⟩⟩
    refine n_sort3 (τ := τ) (σ := σ) (A := c_v c1 426 n 0) hn hb hD hty h8 hdl hw hkg hσl hσm (by omega) I1 rfl (by omega) (fun c2 at_ I2 x2 eA eo hat h1 h2 h3 h4 => ?_) kx c1 (by omega) I1 (nx.rf c1 o) rfl rfl (fun j i hj hs => hos.2 j i hs) (fun j i hj hs => by have := (List.getElem?_eq_some_iff.mp hs).1; omega) (fun j i e hj hs _ => by have := (List.getElem?_eq_some_iff.mp hs).1; omega)
    obtain ⟨os1, os2, os3⟩ := (I2.ns (I2.aS hn)).2.2.2.2.2.2.2.2.2.2.2.1
    have eol : n_ol c2 n = c_l c2 (c_v c1 426 n 0) := by unfold n_ol; rw [eA]
    rw [eA] at os1
    refine u280_4 ⟨I2.rn hn, ?_⟩
    rw [eA]
    refine ⟨os1, by omega, by omega, fun c3 e3 => ?_⟩
    have s3 : c_sm (osw n (c_v c1 426 n 0)) c2 c3 := by subst e3; exact c_sm.u c2 ⟨rfl, rfl⟩ _ _
    obtain ⟨I3, x3⟩ := I2.os s3
    have eA3 : c_v c3 426 n 0 = c_v c1 426 n 0 := by rw [s3.v (by unfold osw; omega)]; exact eA
    have v3 : ∀ j, j ≠ (at_ : Int) → c_v c3 926 (c_v c1 426 n 0) j = c_v c2 926 (c_v c1 426 n 0) j := by
      intro j hj; subst e3; rw [c_u_j hj]
    have v3k : c_v c3 926 (c_v c1 426 n 0) at_ = (kx : Int) := by subst e3; rw [c_u_eq]
    have eo3 : n_ol c3 n = n_ol c1 n := by rw [← eo]; unfold n_ol; rw [eA3, s3.l, eA]
    rw [am_w1 (by omega)]
    have hatl : at_ ≤ σ.length := by omega
    refine ih (kx + 1) c3 (σ.take at_ ++ kx :: σ.drop at_) _ (by omega) I3 ((x1.tr x2).tr x3) (by rw [eo3]; exact hol) ⟨?_, fun j i hj => ?_⟩ ?_ ?_
    · rw [l_ins_len _ hatl, eo3]; omega
    · rw [eA3]
      rcases l_ins_get hatl hj with ⟨q1, q2⟩ | ⟨q1, q2⟩ | ⟨q1, q2⟩
      · rw [v3 _ (by omega)]; exact h1 j i q1 q2
      · subst q1; subst q2; exact v3k
      · rw [v3 _ (by omega)]
        have := h2 (j - 1) i (by omega) q2
        have e : j - 1 + 1 = j := by omega
        rw [e] at this
        exact this
    · refine List.perm_middle.trans ?_
      rw [List.take_append_drop, List.range_succ]
      exact (hp.cons kx).trans (List.perm_append_singleton kx (List.range kx)).symm
    · have hsp : o_ps (n_cmp G n) (E b) (σ.take at_ ++ σ.drop at_) := by rw [List.take_append_drop]; exact hs
      unfold o_ps at hsp ⊢
      rw [List.pairwise_append] at hsp
      rw [List.pairwise_append, List.pairwise_cons]
      refine ⟨hsp.1, ⟨fun j hj x y hx hy => ?_, hsp.2.1⟩, fun i hi j hj x y hx hy => ?_⟩
      · rw [hkg] at hx
        cases hx
        obtain ⟨q, hq⟩ := List.mem_iff_getElem?.mp hj
        rw [List.getElem?_drop] at hq
        have := h3 (at_ + q) j y (by omega) hq hy
        have hg := (hgood y.2.1 (List.mem_map.mpr ⟨y, List.mem_of_getElem? hy, rfl⟩) e0.2.1 (List.mem_map.mpr ⟨e0, List.mem_of_getElem? hkg, rfl⟩)).1
        omega
      · rcases List.mem_cons.mp hj with u | u
        · subst u
          rw [hkg] at hy
          cases hy
          -- the last of the first ones is not behind, so none is
          obtain ⟨q, hq⟩ := List.mem_iff_getElem?.mp hi
          have hqa : q < at_ := by have := (List.getElem?_eq_some_iff.mp hq).1; rw [List.length_take] at this; omega
          rw [List.getElem?_take_of_lt hqa] at hq
          have hlt : at_ - 1 < σ.length := by omega
          have hl := List.getElem?_eq_getElem hlt
          generalize σ[at_ - 1] = il at *
          have hilk := hσm il (List.mem_of_getElem? hl)
          have hilb : il < (E b).length := by omega
          have hilg := List.getElem?_eq_getElem hilb
          generalize (E b)[il] = el at *
          have c1 := h4 il el (by omega) hl hilg
          have m1 : x.2.1 ∈ (E b).map (·.2.1) := List.mem_map.mpr ⟨x, List.mem_of_getElem? hx, rfl⟩
          have m2 : el.2.1 ∈ (E b).map (·.2.1) := List.mem_map.mpr ⟨el, List.mem_of_getElem? hilg, rfl⟩
          have m3 : e0.2.1 ∈ (E b).map (·.2.1) := List.mem_map.mpr ⟨e0, List.mem_of_getElem? hkg, rfl⟩
          by_cases eq : q = at_ - 1
          · subst eq
            rw [hl] at hq
            cases hq
            rw [hilg] at hx
            cases hx
            exact c1
          · have hs' := hs
            unfold o_ps at hs'
            rw [List.pairwise_iff_getElem] at hs'
            have hq0 := (List.getElem?_eq_some_iff.mp hq)
            have hl0 := (List.getElem?_eq_some_iff.mp hl)
            have := hs' q (at_ - 1) hq0.1 hl0.1 (by omega)
            rw [hq0.2, hl0.2] at this
            exact hgood.le m1 m2 m3 (this x el hx hilg) c1
        · exact hsp.2.2 i hi j u x y hx hy
theorem n_sorted (h : NI G c E P o) (hn : n ∈ gA G) (hb : b ∈ gb G) (hD : 270 ≤ D) (hty : ∀ e ∈ E b, rg τ e.2.1) (h8 : (n_list (gX G) n).length ≤ 8) (hdl : (n_down (gX G) n).length = (n_list (gX G) n).length) (hw : ∀ e ∈ n_list (gX G) n, e < gN G ∧ ∃ t, x_wt (gT G) (gsl G) (gct G) τ 121 e t) (h512 : (E b).length ≤ 512)
    (kk : ∀ c' σ, NI G c' E P o → nx c o c' o → OS c' n σ → σ.Perm (List.range (E b).length) → o_ps (n_cmp G n) (E b) σ → Q ((E b).length : Int) c') : knode_sorted (D + 1) n b c Q := by
  have hgood : o_good (n_cmp G n) ((E b).map (·.2.1)) := o_cmp_good (w := τ.length) (fun y hy => by
    obtain ⟨e, he, rfl⟩ := List.mem_map.mp hy
    exact (hty e he).1)
  obtain ⟨os1, os2, os3⟩ := (h.ns (h.aS hn)).2.2.2.2.2.2.2.2.2.2.2.1
  have go : ∀ c1, NI G c1 E P o → nx c o c1 o → ((E b).length : Int) ≤ n_ol c1 n → cw (D + 1) 280 (am_blk 280 1) [n, b, 0, 0] [] c1 Q := by
    intro c1 I1 x1 hol
    have hos : OS c1 n [] := ⟨by show ((0 : Nat) : Int) ≤ _; omega, fun j i hj => by simp at hj⟩
    exact u280_1 (n_sort2 (τ := τ) hn hb hD hty h8 hdl hw h512 hgood kk (E b).length 0 c1 [] 0 (by omega) I1 x1 hol hos (by simp) List.Pairwise.nil)
  refine u280_e ⟨h.rn hn, os1, by omega, h.rb hb, k_bsize (h.bag hb) ⟨fun z => go c h (nx.rf c o) z, fun z => ⟨h.rb hb, k_bsize (h.bag hb) ?_⟩⟩⟩
  rw [am_w_in (by omega) (by omega)]
  obtain ⟨⟨m0, n0, hB, hm0, hn0⟩, hS⟩ := id h
  have hnn := hB.nn
  refine ⟨by omega, by omega, hnn, fun c1 e1 => ?_⟩
  have u1 : c_up (fun _ _ => False) c c1 := by subst e1; exact c_up.a c hnn _ _ _
  have r1 : c_r c1 (c_n c) = 926 := by subst e1; exact c_r_an c hnn _ _ _
  have l1 : c_l c1 (c_n c) = 2 * ((E b).length : Int) := by subst e1; exact c_l_an c _ _ _
  have rn1 : c_r c1 n = 1010 := u1.r (h.rn hn) (by decide)
  refine ⟨rn1, fun c2 e2 => ?_⟩
  have s2 : c_sm (fun q a => q = 426 ∧ a = n) c1 c2 := by subst e2; exact c_sm.u c1 ⟨rfl, rfl⟩ _ _
  have u : c_up (fun q a => q = 426 ∧ a = n) c c2 := (u1.mono (fun _ _ hw => hw.elim)).tr s2.up
  have eo : c_v c2 426 n 0 = c_n c := by subst e2; exact c_u_eq _ _ _ _ _
  have eol : n_ol c2 n = 2 * ((E b).length : Int) := by unfold n_ol; rw [eo, s2.l]; exact l1
  have hB2 := hB.grow (k := 2 * ((E b).length : Int)) (j := 1) u (fun q a hw => by unfold bw_k; omega) (by rw [s2.m]; subst e1; rw [c_m_a]) (by rw [s2.n]; subst e1; rw [c_n_a]; omega)
  obtain ⟨k1, k2, k3, k4, k5, k6, k7⟩ := id hS
  obtain ⟨p1, p2, p3, p4⟩ := k5.up2 (o' := o) h.p7 u (by omega) (by omega) (by omega) (fun y hw => by omega) (fun _ _ w => w)
  have hwq : ∀ q a, nq q → ¬ (q = 426 ∧ a = n) := fun q a hq hw => by unfold nq ex_q at hq; omega
  have nsn : ns_C c2 n := by
    obtain ⟨h1, h2, h3, h4, h5, h6, h7, h8', ⟨h9, h10, h11⟩, ⟨h12, h13, h14⟩, ⟨h15, h16, h17⟩, ⟨h18, h19, h19b⟩, h20, h21, h22⟩ := h.ns (h.aS hn)
    have en : c_r c n ≠ 0 := by rw [h1]; decide
    have e5 : c_r c (n + 5) ≠ 0 := by rw [h10]; decide
    have e6 : c_r c (n + 6) ≠ 0 := by rw [h13]; decide
    have e7 : c_r c (n + 7) ≠ 0 := by rw [h16]; decide
    have v : ∀ {q : Nat}, nq q → c_v c2 q n 0 = c_v c q n 0 := fun hq => u.v en (hwq _ _ hq) 0
    refine ⟨u.r h1 (by decide), ?_, ?_, ?_, ?_, ?_, ?_, ?_, ⟨?_, u.r h10 (by decide), by rw [u.l e5]; exact h11⟩, ⟨?_, u.r h13 (by decide), by rw [u.l e6]; exact h14⟩, ⟨?_, u.r h16 (by decide), by rw [u.l e7]; exact h17⟩, ⟨by rw [eo, s2.r]; exact r1, by rw [eo, s2.l, l1]; unfold n_ol at *; omega, by rw [eo, s2.l, l1]; omega⟩, h20.up u (hwq _ _ (by unfold nq; omega)), h21.up u (hwq _ _ (by unfold nq; omega)), by have := u.1; omega⟩
    · rw [v (by unfold nq; omega)]; exact h2
    · rw [v (by unfold nq; omega)]; exact h3
    · rw [v (by unfold nq; omega)]; exact h4
    · rw [v (by unfold nq; omega)]; exact h5
    · rw [v (by unfold nq; omega)]; exact h6
    · rw [v (by unfold nq; omega)]; exact h7
    · rw [v (by unfold nq; omega)]; exact h8'
    · rw [v (by unfold nq; omega)]; exact h9
    · rw [v (by unfold nq; omega)]; exact h12
    · rw [v (by unfold nq; omega)]; exact h15
  have oth : ∀ n' ∈ gS G, n' ≠ n → ns_C c2 n' ∧ n_ol c2 n' = n_ol c n' := fun n' hn' hne => (k2 n' hn').1.up u hwq (by omega)
  have hnd : (gS G).Nodup ∨ True := Or.inr trivial
  have hsum : b_sum (n_ol c) (gS G) + ((E b).length : Int) ≤ b_sum (n_ol c2) (gS G) ∧ True := by
    refine ⟨?_, trivial⟩
    have key : ∀ S : List Int, (∀ y ∈ S, y ∈ gS G) → b_sum (n_ol c) S ≤ b_sum (n_ol c2) S ∧ (n ∈ S → b_sum (n_ol c) S + ((E b).length : Int) ≤ b_sum (n_ol c2) S) := by
      intro S
      induction S with
      | nil => intro _; exact ⟨Int.le_refl _, fun q => by cases q⟩
      | cons y S ih =>
        intro hS'
        have hy := hS' y List.mem_cons_self
        obtain ⟨i1, i2⟩ := ih (fun z hz => hS' z (List.mem_cons_of_mem _ hz))
        simp only [b_sum]
        by_cases e : y = n
        · subst e
          have hz : n_ol c y < ((E b).length : Int) := by unfold n_ol; omega
          refine ⟨by omega, fun _ => by omega⟩
        · rw [(oth y hy e).2]
          refine ⟨by omega, fun q => ?_⟩
          rcases List.mem_cons.mp q with q | q
          · exact absurd q.symm e
          · have := i2 q; omega
    exact (key (gS G) (fun _ h => h)).2 (h.aS hn)
  have I2 : NI G c2 E P o := by
    refine ⟨⟨_, _, hB2, ?_, ?_⟩, k1.up u (fun q a hq => hwq q a (Or.inl hq)), fun n' hn' => ?_, k3, fun n' hn' => ⟨(k4 n' hn').1, (k4 n' hn').2.up (k2 n' (k4 n' hn').1).1 u hwq⟩, p1, k6, by have := u.1; omega⟩
    · show m0 + 2 * ((E b).length : Int) ≤ _
      rw [p2]; have := hsum.1; omega
    · show n0 + 1 ≤ _
      have hz : 16 ≤ n_ol c n := os2
      have hz2 : n_ol c n < ((E b).length : Int) := by unfold n_ol; omega
      rw [p2]; have := hsum.1; omega
    · obtain ⟨a1, a2⟩ := k2 n' hn'
      refine ⟨?_, a2⟩
      by_cases e : n' = n
      · subst e; exact nsn
      · exact (oth n' hn' e).1
  exact go c2 I2 ⟨u.mono (fun q a hw => by unfold nw; omega), fun _ _ w => w⟩ (by rw [eol]; omega)
end
