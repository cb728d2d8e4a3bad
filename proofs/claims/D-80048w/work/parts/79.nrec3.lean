set_option maxRecDepth 100000
/-! nodes: what is told anew, whole -/
section
variable {W : nW} {G : nG} {c c' c2 : cs_S} {E E' : Int → bw_L} {P P' : List Int} {o o' o2 : Int → Int} {a b n r x lo : Int} {l m k : rwt} {U L L' R R' F F' V K : List rwt} {Q : Int → cs_S → Prop} {d w D N Nl Nr f : Nat} {τ τl τr : List Int} {t v z1 z2 s : Int} {es B : bw_L} {σ : List Nat}
theorem n_op_nil (hk : n_kind (gX G) n ≠ 0) (h4 : n_kind (gX G) n ≠ 4) : n_op (gT G) (gsl G) (gX G) n [] [] = [] := by
  unfold n_op
  rw [if_neg h4]
  have e1 : ∀ k, s_rows k [] [] = [] := by
    intro k; unfold s_rows; split
    · rfl
    · split <;> rfl
  rw [e1, e1]
  split
  · rfl
  split
  · rfl
  split
  · rfl
  split
  · rfl
  split
  · rfl
  split
  · exact List.take_nil
  · rfl
/-- sets of two -/
theorem n_sets (h : NI G c E P o) (hn : n ∈ gA G) (hl : n_left (gX G) n ∈ gA G) (hln : n_left (gX G) n + 21 ≤ n) (hk : 5 ≤ n_kind (gX G) n ∧ n_kind (gX G) n ≤ 9) (hD : 30 ≤ D) (hL : ch_ok E (n_left (gX G) n) τ Nl L' L) (hr : (n_right (gX G) n = -1 ∧ R' = [] ∧ R = []) ∨ (n_right (gX G) n ≠ -1 ∧ n_right (gX G) n ∈ gA G ∧ n_right (gX G) n + 21 ≤ n ∧ ch_ok E (n_right (gX G) n) τ Nr R' R)) (hN : Nl ≤ 512) (hN2 : Nr ≤ 512) (hz : E (n + 12) = []) (ho : b_ok τ.length (bw_p (E (n + 9)))) (hio : b_is (bw_p (E (n + 9))) (s_rows (n_kind (gX G) n) L R)) (hcap : ((s_rows (n_kind (gX G) n) L' R' ++ s_rows (n_kind (gX G) n) L R).length : Int) ≤ gcp G (n + 12))
    (kk : ∀ c' E' P' o' z, NI G c' E' P' o' → nx c o c' o' → (∀ a, a ≠ n + 12 → E' a = E a) → b_ok τ.length (bw_p (E' (n + 12))) → b_df (bw_p (E' (n + 12))) (s_rows (n_kind (gX G) n) L' R') (s_rows (n_kind (gX G) n) L R) → cw (D + 1) 266 (am_blk 266 13) [n, z1, z] [] c' Q) : ∀ z, cw (D + 1) 266 (am_blk 266 11) [n, z1, z] [] c Q := by
  intro z
  obtain ⟨d, rfl⟩ : ∃ d, D = d + 1 := ⟨D - 1, by omega⟩
  have hO : ∀ l, 0 ≤ b_s (r_ind l) (bw_p (E (n + 9))) ∧ b_s (r_ind l) (bw_p (E (n + 9))) ≤ 1 := by
    intro l; rw [hio, ls_ind_nd s_rows_nd]; split <;> omega
  have hOm : ∀ l, b_s (r_ind l) (bw_p (E (n + 9))) = if l ∈ s_rows (n_kind (gX G) n) L R then 1 else 0 := by
    intro l; rw [hio, ls_ind_nd s_rows_nd]
  have hUU : ∀ l : rwt, (if l ∈ s_rows (n_kind (gX G) n) L' R' then (1 : Int) else 0) - b_s (r_ind l) (bw_p (E (n + 9))) ≠ 0 → l ∈ s_rows (n_kind (gX G) n) L' R' ++ s_rows (n_kind (gX G) n) L R := by
    intro l hne
    rw [hOm] at hne
    by_cases p : l ∈ s_rows (n_kind (gX G) n) L' R'
    · exact List.mem_append_left _ p
    · by_cases q : l ∈ s_rows (n_kind (gX G) n) L R
      · exact List.mem_append_right _ q
      · rw [if_neg p, if_neg q] at hne; exact absurd rfl hne
  have hdl : ∀ (B : bw_L) (A' A : List rwt), b_ok τ.length (bw_p B) → b_df (bw_p B) A' A → B.length ≤ A'.length + A.length := by
    intro B A' A hs hd
    have := nd_len ((bw_p B).map (·.1)) (A' ++ A) (b_ok_rn hs) (fun y hy => by
      obtain ⟨e, he, rfl⟩ := List.mem_map.mp hy
      exact List.mem_append.mpr (hd.mem hs he))
    rw [List.length_map, List.length_map, List.length_append] at this
    exact this
  have la := hdl _ _ _ hL.2.2.1 hL.2.2.2.1
  have b1 := hL.2.2.2.2.2.2.1
  have b2 := hL.2.2.2.2.2.2.2
  have hr' : (n_right (gX G) n = -1 ∧ R' = []) ∨ (n_right (gX G) n ≠ -1 ∧ n_right (gX G) n ∈ gA G ∧ n_right (gX G) n + 9 ≠ n + 12) := by
    rcases hr with ⟨q1, q2, -⟩ | ⟨q1, q2, q3, -⟩
    · exact Or.inl ⟨q1, q2⟩
    · exact Or.inr ⟨q1, q2, by omega⟩
  have hrr : n_right (gX G) n ≠ -1 → b_ok τ.length (bw_p (E (n_right (gX G) n + 9))) ∧ b_is (bw_p (E (n_right (gX G) n + 9))) R' := by
    intro q
    rcases hr with ⟨q1, -⟩ | ⟨-, -, -, q4⟩
    · exact absurd q1 q
    · exact ⟨q4.1, q4.2.1⟩
  refine u266_11 ⟨h.rn hn, ?_⟩
  rw [h.lft hn, h.dlt hl]
  refine ⟨h.rn hl, h.rn hn, u278_e (n_once0 (w := τ.length) (U := s_rows (n_kind (gX G) n) L' R' ++ s_rows (n_kind (gX G) n) L R) (L' := L') (R' := R') (O := bw_p (E (n + 9))) hn hl (by omega) hk.1 hk.2 (h.g12 hl) (by omega) (by omega) hr' hcap hO hUU (E (n_left (gX G) n + 12)).length 0 c E P o 0 0 0 0 0 (by omega) h rfl ho hL.1 hL.2.1 hrr (by rw [hz]; exact b_ok_nil _) (fun e he => (hL.2.2.1.1 _ (bp_mem he)).1) (by rw [hz]; intro e he; cases he) (fun l => by rw [hz]; exact Or.inl rfl) (by rw [hz]; show (0 : Int) + _ < _; omega) (fun c1 E1 P1 o1 I1 x1 ea1 hs1 h11 h12 hU1 hm1 => ⟨I1.rn hn, ?_⟩))⟩
  rw [List.drop_zero] at h11 h12
  rw [I1.rgt hn]
  rw [hz] at h12 hm1
  have hm1 : b_m (bw_p (E1 (n + 12))) ≤ 2048 := by have : b_m (bw_p ([] : bw_L)) = 0 := rfl; omega
  have inA : ∀ l, (∃ m, (l, m) ∈ bw_p (E (n_left (gX G) n + 12))) ↔ ∃ e ∈ E (n_left (gX G) n + 12), e.2.1 = l := by
    intro l
    constructor
    · rintro ⟨m, hm⟩
      obtain ⟨e, he, ee⟩ := List.mem_map.mp hm
      exact ⟨e, he, by rw [ee]⟩
    · rintro ⟨e, he, rfl⟩
      exact ⟨e.2.2, bp_mem he⟩
  rcases hr with ⟨q1, q2, q3⟩ | ⟨q1, q2, q3, hR⟩
  · refine ⟨fun _ => kk c1 E1 P1 o1 _ I1 x1.nx ea1 hs1 ?_, fun q => absurd q1 q⟩
    subst q2; subst q3
    refine s_df (DB := []) (wb := τ.length) hL.2.2.2.1 (fun g => rfl) hL.2.2.1 (b_ok_nil _) (fun l hl => ?_) (fun l hl _ => ?_)
    · rcases hl with hl | ⟨m, hm⟩
      · rw [h11 l ((inA l).mp hl), hOm]
      · cases hm
    · rw [h12 l (fun e he q => hl e.2.2 (by rw [← q]; exact bp_mem he))]; rfl
  · refine ⟨fun q => absurd q q1, fun _ => ⟨I1.rn hn, I1.rn q2, I1.rn hn, ?_⟩⟩
    rw [I1.dlt q2]
    have lb := hdl _ _ _ hR.2.2.1 hR.2.2.2.1
    have b3 := hR.2.2.2.2.2.2.1
    have b4 := hR.2.2.2.2.2.2.2
    have er : E1 (n_right (gX G) n + 12) = E (n_right (gX G) n + 12) := ea1 _ (by omega)
    have e9 : E1 (n + 9) = E (n + 9) := ea1 _ (by omega)
    have el9 : E1 (n_left (gX G) n + 9) = E (n_left (gX G) n + 9) := ea1 _ (by omega)
    have er9 : E1 (n_right (gX G) n + 9) = E (n_right (gX G) n + 9) := ea1 _ (by omega)
    refine u278_e (n_once0 (w := τ.length) (U := s_rows (n_kind (gX G) n) L' R' ++ s_rows (n_kind (gX G) n) L R) (L' := L') (R' := R') (O := bw_p (E (n + 9))) hn hl (by omega) hk.1 hk.2 (I1.g12 q2) (by omega) (by omega) hr' hcap hO hUU (E1 (n_right (gX G) n + 12)).length 0 c1 E1 P1 o1 0 0 0 0 0 (by omega) I1 (by rw [e9]) ho (by rw [el9]; exact hL.1) (by rw [el9]; exact hL.2.1) (fun q => by rw [er9]; exact hrr q) hs1 (by rw [er]; exact fun e he => (hR.2.2.1.1 _ (bp_mem he)).1) hU1 (fun l => ?_) (by rw [er]; omega) (fun c2 E2 P2 o2 I2 x2 ea2 hs2 h21 h22 hU2 hm2 => ?_))
    · by_cases p : ∃ e ∈ E (n_left (gX G) n + 12), e.2.1 = l
      · exact Or.inr (h11 l p)
      · left; rw [h12 l (fun e he q => p ⟨e, he, q⟩)]; rfl
    · rw [List.drop_zero, er] at h21 h22
      refine kk c2 E2 P2 o2 _ I2 (x1.nx.tr x2.nx) (fun y hy => (ea2 y hy).trans (ea1 y hy)) hs2 ?_
      have inB : ∀ l, (∃ m, (l, m) ∈ bw_p (E (n_right (gX G) n + 12))) ↔ ∃ e ∈ E (n_right (gX G) n + 12), e.2.1 = l := by
        intro l
        constructor
        · rintro ⟨m, hm⟩
          obtain ⟨e, he, ee⟩ := List.mem_map.mp hm
          exact ⟨e, he, by rw [ee]⟩
        · rintro ⟨e, he, rfl⟩
          exact ⟨e.2.2, bp_mem he⟩
      refine s_df hL.2.2.2.1 hR.2.2.2.1 hL.2.2.1 hR.2.2.1 (fun l hl => ?_) (fun l h1 h2 => ?_)
      · by_cases p : ∃ e ∈ E (n_right (gX G) n + 12), e.2.1 = l
        · rw [h21 l p, hOm]
        · have pa : ∃ m, (l, m) ∈ bw_p (E (n_left (gX G) n + 12)) := by
            rcases hl with hl | hl
            · exact hl
            · exact absurd ((inB l).mp hl) p
          rw [h22 l (fun e he q => p ⟨e, he, q⟩), h11 l ((inA l).mp pa), hOm]
      · rw [h22 l (fun e he q => h2 e.2.2 (by rw [← q]; exact bp_mem he)), h12 l (fun e he q => h1 e.2.2 (by rw [← q]; exact bp_mem he))]; rfl
theorem n_recount (h : NI G c E P o) (hG : G_ok G) (hga : n_ga G (f + 1) lo n τ N) (hk : n_kind (gX G) n ≠ 0) (hD : 320 ≤ D) (hz : E (n + 12) = [])
    (HL : ∀ lo τl Nl, n_ga G f lo (n_left (gX G) n) τl Nl → ch_ok E (n_left (gX G) n) τl Nl L' L) (HR : ∀ lo τr Nr, n_ga G f lo (n_right (gX G) n) τr Nr → ch_ok E (n_right (gX G) n) τr Nr R' R) (hRn : n_right (gX G) n = -1 → R' = [] ∧ R = [])
    (ho : ∃ w, b_ok w (bw_p (E (n + 9)))) (hio : b_is (bw_p (E (n + 9))) F) (hF : (z1 = 0 ∧ F = n_op (gT G) (gsl G) (gX G) n L R) ∨ (z1 ≠ 0 ∧ F = [] ∧ L = [] ∧ R = []))
    (hal1 : n_kind (gX G) n = 1 → n_isL (gX G) n ≠ 0 → (∃ w, b_ok w (bw_p (E (n + 15)))) ∧ b_is (bw_p (E (n + 15))) (j_al (x_tr (gT G) (gsl G) (n_cond (gX G) n).toNat) (n_wide (gX G) n).toNat L R))
    (hal2 : n_kind (gX G) n = 10 → (∃ w, b_ok w (bw_p (E (n + 15)))) ∧ b_is (bw_p (E (n + 15))) (n_op (gT G) (gsl G) (gX G) n L R))
    (kk : ∀ c' E' P' o', NI G c' E' P' o' → nx c o c' o' → (∀ a, a ≠ n + 9 → a ≠ n + 12 → a ≠ n + 15 → a ≠ n + 18 → E' a = E a) → (∃ w, b_ok w (bw_p (E' (n + 9)))) → b_is (bw_p (E' (n + 9))) (n_op (gT G) (gsl G) (gX G) n L' R') → (∃ w, b_ok w (bw_p (E' (n + 12)))) → b_df (bw_p (E' (n + 12))) (n_op (gT G) (gsl G) (gX G) n L' R') F → (n_kind (gX G) n = 1 → n_isL (gX G) n ≠ 0 → (∃ w, b_ok w (bw_p (E' (n + 15)))) ∧ b_is (bw_p (E' (n + 15))) (j_al (x_tr (gT G) (gsl G) (n_cond (gX G) n).toNat) (n_wide (gX G) n).toNat L' R')) → (n_kind (gX G) n = 10 → (∃ w, b_ok w (bw_p (E' (n + 15)))) ∧ b_is (bw_p (E' (n + 15))) (n_op (gT G) (gsl G) (gX G) n L' R')) → Q 0 c') : knode_recount (D + 1) n z1 c Q := by
  have hT := h.t64
  obtain ⟨t1, t2⟩ := n_op_ok (L := L') (R := R') hga hT hk (fun lo τl Nl g => ⟨(HL lo τl Nl g).2.2.2.2.2.2.1, (HL lo τl Nl g).2.2.2.2.1⟩) (fun lo τr Nr g => ⟨(HR lo τr Nr g).2.2.2.2.2.2.1, (HR lo τr Nr g).2.2.2.2.1⟩)
  obtain ⟨s1, s2⟩ := n_op_ok (L := L) (R := R) hga hT hk (fun lo τl Nl g => ⟨(HL lo τl Nl g).2.2.2.2.2.2.2, (HL lo τl Nl g).2.2.2.2.2.1⟩) (fun lo τr Nr g => ⟨(HR lo τr Nr g).2.2.2.2.2.2.2, (HR lo τr Nr g).2.2.2.2.2.1⟩)
  have hFt : F.length ≤ N ∧ ∀ y ∈ F, rg τ y := by
    rcases hF with ⟨-, q⟩ | ⟨-, q, -⟩
    · rw [q]; exact ⟨s1, s2⟩
    · rw [q]; exact ⟨by simp, fun y hy => by cases hy⟩
  have hF4 : n_kind (gX G) n ≠ 4 → F = n_op (gT G) (gsl G) (gX G) n L R := by
    intro q4
    rcases hF with ⟨-, q⟩ | ⟨-, q, q2, q3⟩
    · exact q
    · rw [q, q2, q3, n_op_nil hk q4]
  obtain ⟨hn, hlo, h24, h1N, hN5, cp9, lm9, cp12, hb⟩ := id hga
  obtain ⟨w0, ho0⟩ := ho
  have ho : b_ok τ.length (bw_p (E (n + 9))) := b_ok_re ho0 (fun e he => (hFt.2 _ (hio.mem ho0 he).2).1)
  have hkd : c_v c 402 n 0 = n_kind (gX G) n := (h.nd hn).2.1
  -- the end, alike for all
  have fin : ∀ (c1 : cs_S) (E1 : Int → bw_L) (P1 : List Int) (o1 : Int → Int) (z : Int), NI G c1 E1 P1 o1 → nx c o c1 o1 → (∀ a, a ≠ n + 12 → a ≠ n + 15 → a ≠ n + 18 → E1 a = E a) → b_ok τ.length (bw_p (E1 (n + 12))) → b_df (bw_p (E1 (n + 12))) (n_op (gT G) (gsl G) (gX G) n L' R') F → (n_kind (gX G) n = 1 → n_isL (gX G) n ≠ 0 → (∃ w, b_ok w (bw_p (E1 (n + 15)))) ∧ b_is (bw_p (E1 (n + 15))) (j_al (x_tr (gT G) (gsl G) (n_cond (gX G) n).toNat) (n_wide (gX G) n).toNat L' R')) → (n_kind (gX G) n = 10 → (∃ w, b_ok w (bw_p (E1 (n + 15)))) ∧ b_is (bw_p (E1 (n + 15))) (n_op (gT G) (gsl G) (gX G) n L' R')) → cw (D + 1) 266 (am_blk 266 13) [n, z1, z] [] c1 Q := by
    intro c1 E1 P1 o1 z I1 x1 ea1 hs1 hd1 ha1 ha2
    have e9 : E1 (n + 9) = E (n + 9) := ea1 _ (by omega) (by omega) (by omega)
    refine n_fin (w := τ.length) (F := F) (F' := n_op (gT G) (gsl G) (gX G) n L' R') I1 hG hn (by omega) (by rw [e9]; exact ho) (by rw [e9]; exact hio) hs1 hd1 t1 hFt.1 hN5 cp9 lm9 (fun c2 E2 P2 o2 I2 b2 ea2 hs2 hi2 => ?_)
    have e12 : E2 (n + 12) = E1 (n + 12) := ea2 _ (by omega)
    have e15 : E2 (n + 15) = E1 (n + 15) := ea2 _ (by omega)
    refine kk c2 E2 P2 o2 I2 (x1.tr b2.nx) (fun y h9 h12 h15 h18 => (ea2 y h9).trans (ea1 y h12 h15 h18)) ⟨_, hs2⟩ hi2 ⟨_, by rw [e12]; exact hs1⟩ (by rw [e12]; exact hd1) ?_ ?_
    · rw [e15]; exact ha1
    · rw [e15]; exact ha2
  refine u266_e ⟨h.rn hn, ?_⟩
  rw [hkd]
  rcases hb with ⟨h0, -⟩ | ⟨h1, hll, hrl, c6, c15, c18, τl, τr, Nl, Nr, gl, gr, rfl, rfl, hwd, hc0, hc, t, ht, ht1⟩ | ⟨h1, hrn, hll, gl, hc0, hc, t, ht, ht1⟩ | ⟨h1, hrn, hll, τl, gl, h8, hlt, hx⟩ | ⟨h1, hrn, hll, c18, τl, σ, gl, h8, h12, hlt, ha, hx, rfl⟩ | ⟨h1, hrn, hll, gl⟩ | ⟨h1, hll, hrl, Nl, Nr, gl, gr, rfl⟩ | ⟨h1, hll, hrl, Nr, gl, gr⟩ | ⟨h1, hrn, hll, c15, c18, ⟨Nl, gl, rfl⟩, h8, hdl, he, hm0, hm1⟩
  · exact absurd h0 hk
  · have hlA : n_left (gX G) n ∈ gA G := by cases f with
      | zero => exact gl.elim
      | succ f => exact gl.1
    have hrA : n_right (gX G) n ∈ gA G := by cases f with
      | zero => exact gr.elim
      | succ f => exact gr.1
    have hNl : Nl ≤ 512 := by cases f with
      | zero => exact gl.elim
      | succ f => exact gl.2.2.2.2.1
    have hNr : Nr ≤ 512 ∧ 1 ≤ Nr := by cases f with
      | zero => exact gr.elim
      | succ f => exact ⟨gr.2.2.2.2.1, gr.2.2.2.1⟩
    have hwn : (n_wide (gX G) n).toNat = τr.length := by omega
    have hop : ∀ A B, n_op (gT G) (gsl G) (gX G) n A B = j_rows (x_tr (gT G) (gsl G) (n_cond (gX G) n).toNat) (decide (n_isL (gX G) n ≠ 0)) τr.length A B := by
      intro A B; unfold n_op; rw [if_pos h1, hwn]
    obtain ⟨d, rfl⟩ : ∃ d, D = d + 1 := ⟨D - 1, by omega⟩
    refine ⟨fun q => absurd q (by omega), fun q => ⟨h.rn hn, ?_⟩, fun q => absurd q (by omega), fun q => absurd q (by omega), fun q => absurd q (by omega), fun q => absurd q (by omega), fun q => absurd q (by omega), fun q => absurd q (by omega), fun q => absurd q (by omega), fun q => absurd q (by omega), fun q => absurd q (by omega), trivial⟩
    refine n_join (τl := τl) (τr := τr) h hn hlA hrA hll hrl (by omega) hc0 hc ht h24 hwd (HL _ _ _ gl) (HR _ _ _ gr) hNr.2 hN5 hNl hNr.1 hz c6 c15 c18 (fun q => ?_) (fun c1 E1 P1 o1 I1 x1 ea1 hs1 hd1 ha1 => ?_)
    · obtain ⟨⟨w1, q1⟩, q2⟩ := hal1 h1 q
      rw [hwn] at q2
      refine ⟨b_ok_re q1 (fun e he => ?_), q2⟩
      have hm := (q2.mem q1 he).2
      unfold j_al at hm
      obtain ⟨y, hy, ee⟩ := List.mem_map.mp hm
      have hyl := ((HL _ _ _ gl).2.2.2.2.2.1 y (List.mem_filter.mp hy).1).1
      rw [← ee, List.length_append, List.length_append, List.length_replicate, hyl]
    · refine fin c1 E1 P1 o1 0 I1 x1 ea1 hs1 ?_ (fun _ q => ⟨⟨_, (ha1 q).1⟩, by rw [hwn]; exact (ha1 q).2⟩) (fun q => absurd q (by omega))
      rw [hF4 (by omega), hop, hop]; exact hd1
  · have hlA : n_left (gX G) n ∈ gA G := by cases f with
      | zero => exact gl.elim
      | succ f => exact gl.1
    have hL := HL _ _ _ gl
    have hop : ∀ A B, n_op (gT G) (gsl G) (gX G) n A B = A.filter (x_tr (gT G) (gsl G) (n_cond (gX G) n).toNat) := by
      intro A B; unfold n_op; rw [if_neg (by omega), if_pos h1]
    have hdm := hL.dm
    refine ⟨fun q => absurd q (by omega), fun q => absurd q (by omega), fun q => ?_, fun q => absurd q (by omega), fun q => absurd q (by omega), fun q => absurd q (by omega), fun q => absurd q (by omega), fun q => absurd q (by omega), fun q => absurd q (by omega), fun q => absurd q (by omega), fun q => absurd q (by omega), trivial⟩
    refine n_filter0 (τ := τ) (U := n_op (gT G) (gsl G) (gX G) n L' R' ++ F) hn hlA (by omega) (by omega) hc0 hc ht (by rw [List.length_append]; have := hFt.1; omega) (E (n_left (gX G) n + 12)).length 0 c E P o (by omega) h (by rw [hz]; exact b_ok_nil _) (fun e he => ⟨(hL.rows he).1, fun p => ?_⟩) (by rw [hz]; intro e he; cases he) (by rw [hz, List.drop_zero]; show (0 : Int) + _ < _; omega) (fun c1 E1 P1 o1 z I1 x1 ea1 hs1 hb1 => ?_)
    · rcases (hL.rows he).2 with q | q
      · exact List.mem_append_left _ (by rw [hop]; exact List.mem_filter.mpr ⟨q, p⟩)
      · exact List.mem_append_right _ (by rw [hF4 (by omega), hop]; exact List.mem_filter.mpr ⟨q, p⟩)
    · refine fin c1 E1 P1 o1 z I1 x1 (fun y h12 _ _ => ea1 y h12) hs1 ?_ (fun q => absurd q (by omega)) (fun q => absurd q (by omega))
      rw [hF4 (by omega), hop, hop]
      refine f_df hL.2.2.2.1 (fun g => ?_)
      rw [hb1, hz, List.drop_zero]; show 0 + _ = _; omega
  · have hlA : n_left (gX G) n ∈ gA G := by cases f with
      | zero => exact gl.elim
      | succ f => exact gl.1
    have hL := HL _ _ _ gl
    have hop : ∀ A B, n_op (gT G) (gsl G) (gX G) n A B = A.map (x_vals (gT G) (gsl G) (n_list (gX G) n)) := by
      intro A B; unfold n_op; rw [if_neg (by omega), if_neg (by omega), if_pos h1]
    have hdm := hL.dm
    refine ⟨fun q => absurd q (by omega), fun q => absurd q (by omega), fun q => absurd q (by omega), fun q => ?_, fun q => absurd q (by omega), fun q => absurd q (by omega), fun q => absurd q (by omega), fun q => absurd q (by omega), fun q => absurd q (by omega), fun q => absurd q (by omega), fun q => absurd q (by omega), trivial⟩
    refine n_project0 (τ := τl) (τ' := τ) (U := n_op (gT G) (gsl G) (gX G) n L' R' ++ F) hn hlA (by omega) (by omega) h8 hlt hx (by rw [List.length_append]; have := hFt.1; omega) (E (n_left (gX G) n + 12)).length 0 c E P o (by omega) h (by rw [hz]; exact b_ok_nil _) (fun e he => ⟨(hL.rows he).1, ?_⟩) (by rw [hz]; intro e he; cases he) (by rw [hz, List.drop_zero]; show (0 : Int) + _ < _; omega) (fun c1 E1 P1 o1 z I1 x1 ea1 hs1 hb1 => ?_)
    · rcases (hL.rows he).2 with q | q
      · exact List.mem_append_left _ (by rw [hop]; exact List.mem_map.mpr ⟨_, q, rfl⟩)
      · exact List.mem_append_right _ (by rw [hF4 (by omega), hop]; exact List.mem_map.mpr ⟨_, q, rfl⟩)
    · refine fin c1 E1 P1 o1 z I1 x1 (fun y h12 _ _ => ea1 y h12) hs1 ?_ (fun q => absurd q (by omega)) (fun q => absurd q (by omega))
      rw [hF4 (by omega), hop, hop]
      refine p_df hL.2.2.2.1 (fun g => ?_)
      rw [hb1, hz, List.drop_zero]; show 0 + _ = _; omega
  · have hlA : n_left (gX G) n ∈ gA G := by cases f with
      | zero => exact gl.elim
      | succ f => exact gl.1
    have hL := HL _ _ _ gl
    have hop : ∀ A B, n_op (gT G) (gsl G) (gX G) n A B = g_rows (x_vals (gT G) (gsl G) (n_list (gX G) n)) (n_list (gX G) n).length (g_af (gT G) (gsl G) (n_aggs (gX G) n)) A := by
      intro A B; unfold n_op; rw [if_neg (by omega), if_neg (by omega), if_neg (by omega), if_pos h1]
    have hσl := x_wts_len _ _ hx
    obtain ⟨d, rfl⟩ : ∃ d, D = d + 1 := ⟨D - 1, by omega⟩
    refine ⟨fun q => absurd q (by omega), fun q => absurd q (by omega), fun q => absurd q (by omega), fun q => absurd q (by omega), fun q => ⟨h.rn hn, ?_⟩, fun q => absurd q (by omega), fun q => absurd q (by omega), fun q => absurd q (by omega), fun q => absurd q (by omega), fun q => absurd q (by omega), fun q => absurd q (by omega), trivial⟩
    refine n_group (τ := τl) (w := (σ ++ List.replicate (n_aggs (gX G) n).length 1).length) (F := F) h hn hlA hll (by omega) h8 hlt (x_wts_all _ _ hx) ha h12 (by rw [List.length_append, List.length_replicate, hσl]) hL hN5 h1N hz cp12 c18 ho hio ?_ (fun c1 E1 P1 o1 I1 x1 ea1 hs1 hd1 => ?_)
    · rcases hF with ⟨q1, q2⟩ | ⟨q1, q2, q3, -⟩
      · left; rw [hop] at q2; exact ⟨q1, q2⟩
      · exact Or.inr ⟨q1, q2, q3⟩
    · refine fin c1 E1 P1 o1 0 I1 x1 (fun y h12 _ h18 => ea1 y h12 h18) hs1 ?_ (fun q => absurd q (by omega)) (fun q => absurd q (by omega))
      rw [hop]; exact hd1
  · have hlA : n_left (gX G) n ∈ gA G := by cases f with
      | zero => exact gl.elim
      | succ f => exact gl.1
    have hL := HL _ _ _ gl
    obtain ⟨hr1, hr2⟩ := hRn hrn
    have hop : ∀ A B, B = [] → n_op (gT G) (gsl G) (gX G) n A B = s_rows (n_kind (gX G) n) A B := by
      intro A B hB; unfold n_op; rw [if_neg (by omega), if_neg (by omega), if_neg (by omega), if_neg (by omega), if_pos h1, hB, h1]
    refine ⟨fun q => absurd q (by omega), fun q => absurd q (by omega), fun q => absurd q (by omega), fun q => absurd q (by omega), fun q => absurd q (by omega), fun q => ?_, fun q => absurd q (by omega), fun q => absurd q (by omega), fun q => absurd q (by omega), fun q => absurd q (by omega), fun q => absurd q (by omega), trivial⟩
    refine n_sets (τ := τ) (Nr := 0) (L' := L') (L := L) (R' := R') (R := R) h hn hlA hll (by omega) (by omega) hL (Or.inl ⟨hrn, hr1, hr2⟩) hN5 (by omega) hz ho (by rw [← hop L R hr2, ← hF4 (by omega)]; exact hio) (by rw [← hop L R hr2, ← hop L' R' hr1, List.length_append]; omega) (fun c1 E1 P1 o1 z I1 x1 ea1 hs1 hd1 => ?_) 0
    refine fin c1 E1 P1 o1 z I1 x1 (fun y h12 _ _ => ea1 y h12) hs1 ?_ (fun q => absurd q (by omega)) (fun q => absurd q (by omega))
    rw [hF4 (by omega), hop L R hr2, hop L' R' hr1]; exact hd1
  · have hlA : n_left (gX G) n ∈ gA G := by cases f with
      | zero => exact gl.elim
      | succ f => exact gl.1
    have hrA : n_right (gX G) n ∈ gA G := by cases f with
      | zero => exact gr.elim
      | succ f => exact gr.1
    have hL := HL _ _ _ gl
    have hR := HR _ _ _ gr
    have hr237 := h.n237 hrA
    rcases h1 with h1 | h1
    · have hop : ∀ A B, n_op (gT G) (gsl G) (gX G) n A B = A ++ B := by
        intro A B; unfold n_op; rw [if_neg (by omega), if_neg (by omega), if_neg (by omega), if_neg (by omega), if_neg (by omega), if_pos h1]
      have hU : ((n_op (gT G) (gsl G) (gX G) n L' R' ++ F).length : Int) ≤ gcp G (n + 12) := by rw [List.length_append]; have := hFt.1; omega
      have m1 := hL.dm
      have m2 := hR.dm
      obtain ⟨d, rfl⟩ : ∃ d, D = d + 5 := ⟨D - 5, by omega⟩
      refine ⟨fun q => absurd q (by omega), fun q => absurd q (by omega), fun q => absurd q (by omega), fun q => absurd q (by omega), fun q => absurd q (by omega), fun q => absurd q (by omega), fun q => ⟨h.rn hn, h.rn hn, ?_⟩, fun q => absurd q (by omega), fun q => absurd q (by omega), fun q => absurd q (by omega), fun q => absurd q (by omega), trivial⟩
      rw [h.lft hn, h.dlt hlA, h.dlt hn]
      refine ⟨h.rn hlA, h.rb (h.g12 hn), n_addAll (w := τ.length) (U := n_op (gT G) (gsl G) (gX G) n L' R' ++ F) h (h.g12 hn) (h.g12 hlA) (by omega) (by rw [hz]; exact b_ok_nil _) (fun e he => (hL.2.2.1.1 _ (bp_mem he)).1) (by rw [hz]; intro e he; cases he) (fun e he => ?_) hU (by rw [hz]; show (0 : Int) + _ < _; omega) (fun c1 E1 P1 o1 I1 b1 ea1 hs1 hb1 hm1 hU1 => ?_)⟩
      · rcases (hL.rows he).2 with q | q
        · exact List.mem_append_left _ (by rw [hop]; exact List.mem_append_left _ q)
        · exact List.mem_append_right _ (by rw [hF4 (by omega), hop]; exact List.mem_append_left _ q)
      · rw [I1.rgt hn, I1.dlt hrA, I1.dlt hn]
        have er : E1 (n_right (gX G) n + 12) = E (n_right (gX G) n + 12) := ea1 _ (by omega)
        rw [hz] at hb1 hm1
        have hm1 : b_m (bw_p (E1 (n + 12))) ≤ 4096 := by have : b_m (bw_p ([] : bw_L)) = 0 := rfl; omega
        have hmR : ∀ e ∈ E (n_right (gX G) n + 12), e.2.1 ∈ n_op (gT G) (gsl G) (gX G) n L' R' ++ F := by
          intro e he
          rcases (hR.rows he).2 with q | q
          · exact List.mem_append_left _ (by rw [hop]; exact List.mem_append_right _ q)
          · exact List.mem_append_right _ (by rw [hF4 (by omega), hop]; exact List.mem_append_right _ q)
        refine ⟨I1.rn hn, I1.rn hn, I1.rn hrA, I1.rb (I1.g12 hn), n_addAll (w := τ.length) (U := n_op (gT G) (gsl G) (gX G) n L' R' ++ F) I1 (I1.g12 hn) (I1.g12 hrA) (by omega) hs1 (by rw [er]; exact fun e he => (hR.2.2.1.1 _ (bp_mem he)).1) hU1 (by rw [er]; exact hmR) hU (by rw [er]; omega) (fun c2 E2 P2 o2 I2 b2 ea2 hs2 hb2 hm2 hU2 => ?_)⟩
        · refine fin c2 E2 P2 o2 0 I2 (b1.nx.tr b2.nx) (fun y h12 _ _ => (ea2 y h12).trans (ea1 y h12)) hs2 ?_ (fun q => absurd q (by omega)) (fun q => absurd q (by omega))
          rw [hF4 (by omega), hop, hop]
          refine a_df hL.2.2.2.1 hR.2.2.2.1 (fun g => ?_)
          rw [hb2, hb1, er]; show 0 + _ + _ = _; omega
    · have hop : ∀ A B, n_op (gT G) (gsl G) (gX G) n A B = s_rows (n_kind (gX G) n) A B := by
        intro A B; unfold n_op; rw [if_neg (by omega), if_neg (by omega), if_neg (by omega), if_neg (by omega), if_neg (by omega), if_neg (by omega), if_neg (by omega)]
      refine ⟨fun q => absurd q (by omega), fun q => absurd q (by omega), fun q => absurd q (by omega), fun q => absurd q (by omega), fun q => absurd q (by omega), fun q => absurd q (by omega), fun q => absurd q (by omega), fun q => ?_, fun q => absurd q (by omega), fun q => absurd q (by omega), fun q => absurd q (by omega), trivial⟩
      refine n_sets (τ := τ) (L' := L') (L := L) (R' := R') (R := R) h hn hlA hll (by omega) (by omega) hL (Or.inr ⟨by omega, hrA, hrl, hR⟩) (by omega) (by omega) hz ho (by rw [← hop L R, ← hF4 (by omega)]; exact hio) (by rw [← hop L R, ← hop L' R', List.length_append]; omega) (fun c1 E1 P1 o1 z I1 x1 ea1 hs1 hd1 => ?_) 0
      refine fin c1 E1 P1 o1 z I1 x1 (fun y h12 _ _ => ea1 y h12) hs1 ?_ (fun q => absurd q (by omega)) (fun q => absurd q (by omega))
      rw [hF4 (by omega), hop L R, hop L' R']; exact hd1
  · have hlA : n_left (gX G) n ∈ gA G := by cases f with
      | zero => exact gl.elim
      | succ f => exact gl.1
    have hrA : n_right (gX G) n ∈ gA G := by cases f with
      | zero => exact gr.elim
      | succ f => exact gr.1
    have hNr : Nr ≤ 512 := by cases f with
      | zero => exact gr.elim
      | succ f => exact gr.2.2.2.2.1
    have hL := HL _ _ _ gl
    have hR := HR _ _ _ gr
    have hr237 := h.n237 hrA
    have hop : ∀ A B, n_op (gT G) (gsl G) (gX G) n A B = s_rows (n_kind (gX G) n) A B := by
      intro A B; unfold n_op; rw [if_neg (by omega), if_neg (by omega), if_neg (by omega), if_neg (by omega), if_neg (by omega), if_neg (by omega), if_neg (by omega)]
    have go : ∀ z, cw (D + 1) 266 (am_blk 266 11) [n, z1, z] [] c Q := by
      refine n_sets (τ := τ) (L' := L') (L := L) (R' := R') (R := R) h hn hlA hll (by omega) (by omega) hL (Or.inr ⟨by omega, hrA, hrl, hR⟩) (by omega) (by omega) hz ho (by rw [← hop L R, ← hF4 (by omega)]; exact hio) (by rw [← hop L R, ← hop L' R', List.length_append]; omega) (fun c1 E1 P1 o1 z I1 x1 ea1 hs1 hd1 => ?_)
      refine fin c1 E1 P1 o1 z I1 x1 (fun y h12 _ _ => ea1 y h12) hs1 ?_ (fun q => absurd q (by omega)) (fun q => absurd q (by omega))
      rw [hF4 (by omega), hop L R, hop L' R']; exact hd1
    exact ⟨fun q => absurd q (by omega), fun q => absurd q (by omega), fun q => absurd q (by omega), fun q => absurd q (by omega), fun q => absurd q (by omega), fun q => absurd q (by omega), fun q => absurd q (by omega), fun q => absurd q (by omega), fun q => go 0, fun q => go 0, fun q => absurd q (by omega), trivial⟩
  · have hlA : n_left (gX G) n ∈ gA G := by cases f with
      | zero => exact gl.elim
      | succ f => exact gl.1
    have hNl : Nl ≤ 512 := by cases f with
      | zero => exact gl.elim
      | succ f => exact gl.2.2.2.2.1
    have hL := HL _ _ _ gl
    have hop : ∀ A B, n_op (gT G) (gsl G) (gX G) n A B = (o_srt (n_cmp G n) A).take (n_most (gX G) n).toNat := by
      intro A B; unfold n_op; rw [if_neg (by omega), if_neg (by omega), if_neg (by omega), if_neg (by omega), if_neg (by omega), if_neg (by omega), if_pos h1]; rfl
    obtain ⟨⟨wa, q1⟩, q2⟩ := hal2 h1
    have hFo := hF4 (by omega)
    rw [← hFo] at q2
    obtain ⟨d, rfl⟩ : ∃ d, D = d + 1 := ⟨D - 1, by omega⟩
    refine ⟨fun q => absurd q (by omega), fun q => absurd q (by omega), fun q => absurd q (by omega), fun q => absurd q (by omega), fun q => absurd q (by omega), fun q => absurd q (by omega), fun q => absurd q (by omega), fun q => absurd q (by omega), fun q => absurd q (by omega), fun q => absurd q (by omega), fun q => ⟨h.rn hn, ?_⟩, trivial⟩
    refine n_top (τ := τ) (F := F) (N := min Nl 100) h hn hlA hll (by omega) h8 hdl he hm0 hm1 hL hNl hz cp12 c15 c18 (by rw [← hop L' R']; exact t1) hFt.1 hFt.2 (b_ok_re q1 (fun e he => (hFt.2 _ (q2.mem q1 he).2).1)) q2 hN5 (fun c1 E1 P1 o1 I1 x1 ea1 hs1 hd1 hs2 hi2 => ?_)
    refine fin c1 E1 P1 o1 0 I1 x1 ea1 hs1 ?_ (fun q => absurd q (by omega)) (fun _ => ⟨⟨_, hs2⟩, ?_⟩)
    · rw [hop]; exact hd1
    · rw [hop]; exact hi2
end
