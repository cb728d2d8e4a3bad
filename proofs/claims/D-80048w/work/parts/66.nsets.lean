set_option maxRecDepth 100000
/-! nodes: sets -/
section
variable {G : nG} {c c' c2 : cs_S} {E E' : Int → bw_L} {P P' : List Int} {o o' o2 : Int → Int} {a b n r x : Int} {l m : rwt} {U L L' R R' F F' : List rwt} {Q : Int → cs_S → Prop} {d w D N Nl Nr : Nat} {τ τl τr : List Int} {t v z1 z2 s : Int}
theorem cnt_mem (hs : b_ok w (bw_p (E a))) (hi : b_is (bw_p (E a)) L) : 0 < b_s (r_ind l) (bw_p (E a)) ↔ l ∈ L := by rw [hi]; exact ls_ind_mem
theorem k_timesOfp {E : bw_L} (hb : bw_B c b E o) (hs : b_ok w (bw_p E)) (hr : rw_is c r l) (hl : l.length = w) (hE : (E.length : Int) ≤ 400000) (kk : Q (b_s (r_ind l) (bw_p E)) c) : kbag_timesOf (d + 4) b r c Q := k_timesOf hb hs hr hl hE kk
theorem n_once0 (hn : n ∈ gA G) (hl : n_left (gX G) n ∈ gA G) (hnl : n_left (gX G) n + 9 ≠ n + 12) (hk : 5 ≤ n_kind (gX G) n) (hk9 : n_kind (gX G) n ≤ 9) (ha : a ∈ gb G) (han : a ≠ n + 12) (hD : 20 ≤ D) (hr : (n_right (gX G) n = -1 ∧ R' = []) ∨ (n_right (gX G) n ≠ -1 ∧ n_right (gX G) n ∈ gA G ∧ n_right (gX G) n + 9 ≠ n + 12)) (hcap : (U.length : Int) ≤ gcp G (n + 12)) {O : List (rwt × Int)} (hO : ∀ l, 0 ≤ b_s (r_ind l) O ∧ b_s (r_ind l) O ≤ 1) (hUU : ∀ l : rwt, (if l ∈ s_rows (n_kind (gX G) n) L' R' then (1 : Int) else 0) - b_s (r_ind l) O ≠ 0 → l ∈ U) : ∀ (m k : Nat) (c : cs_S) (E : Int → bw_L) (P : List Int) (o : Int → Int) (y3 y4 y5 y6 y7 : Int), k + m = (E a).length → NI G c E P o → bw_p (E (n + 9)) = O → b_ok w O → b_ok w (bw_p (E (n_left (gX G) n + 9))) → b_is (bw_p (E (n_left (gX G) n + 9))) L' → (n_right (gX G) n ≠ -1 → b_ok w (bw_p (E (n_right (gX G) n + 9))) ∧ b_is (bw_p (E (n_right (gX G) n + 9))) R') → b_ok w (bw_p (E (n + 12))) → (∀ e ∈ E a, e.2.1.length = w) → (∀ e ∈ E (n + 12), e.2.1 ∈ U) → (∀ l, b_s (r_ind l) (bw_p (E (n + 12))) = 0 ∨ b_s (r_ind l) (bw_p (E (n + 12))) = (if l ∈ s_rows (n_kind (gX G) n) L' R' then 1 else 0) - b_s (r_ind l) O) → b_m (bw_p (E (n + 12))) + 2 * (m : Int) < 2147483648 →
    (∀ c' E' P' o', NI G c' E' P' o' → bx c o c' o' → (∀ a, a ≠ n + 12 → E' a = E a) → b_ok w (bw_p (E' (n + 12))) → (∀ l, (∃ e ∈ (E a).drop k, e.2.1 = l) → b_s (r_ind l) (bw_p (E' (n + 12))) = (if l ∈ s_rows (n_kind (gX G) n) L' R' then 1 else 0) - b_s (r_ind l) O) → (∀ l, (∀ e ∈ (E a).drop k, e.2.1 ≠ l) → b_s (r_ind l) (bw_p (E' (n + 12))) = b_s (r_ind l) (bw_p (E (n + 12)))) → (∀ e ∈ E' (n + 12), e.2.1 ∈ U) → b_m (bw_p (E' (n + 12))) ≤ b_m (bw_p (E (n + 12))) + 2 * (m : Int) → Q 0 c') → cw (D + 1) 278 (am_blk 278 1) [n, a, (k : Int), y3, y4, y5, y6, y7] [] c Q := by
  intro m
  induction m with
  | zero =>
    intro k c E P o y3 y4 y5 y6 y7 hkm h hOe hs9 hsl hil hrr hs hrow hU hgood hm kk
    have e1 : (E a).drop k = [] := List.drop_of_length_le (by omega)
    refine u278_1 ⟨h.rb ha, k_bsize (h.bag ha) ⟨fun _ => ?_, fun w => absurd (by omega) w⟩⟩
    refine kk c E P o h (bx.rf c o) (fun _ _ => rfl) hs (fun l hl => ?_) (fun l _ => rfl) hU (by omega)
    obtain ⟨e, he, -⟩ := hl
    rw [e1] at he; cases he
  | succ m ih =>
    intro k c E P o y3 y4 y5 y6 y7 hkm h hOe hs9 hsl hil hrr hs hrow hU hgood hm kk
    have hk1 : k < (E a).length := by omega
    have hg := List.getElem?_eq_getElem hk1
    have hd := List.drop_eq_getElem_cons hk1
    generalize hE : (E a)[k] = e0 at *
    have hmem : e0 ∈ E a := List.mem_of_getElem? hg
    have hla := h.le ha
    obtain ⟨q1, q2, q3, q4⟩ := h.own ha hmem hn
    have hlen := hrow e0 hmem
    have hl9 := h.le (h.g9 hl)
    have hn9 := h.le (h.g9 hn)
    have hn12 := h.le (h.g12 hn)
    obtain ⟨d, rfl⟩ : ∃ d, D = d + 4 := ⟨D - 4, by omega⟩
    have hkd : c_v c 402 n 0 = n_kind (gX G) n := (h.nd hn).2.1
    -- the end of a step
    have b12 : ∀ (z y4 y5 y6 y7 : Int), (z = if e0.2.1 ∈ s_rows (n_kind (gX G) n) L' R' then 1 else 0) → cw (d + 4 + 1) 278 (am_blk 278 12) [n, a, (k : Int), e0.1, y4, y5, y6, y7] [z] c Q := by
      intro z y4 y5 y6 y7 hz
      have hz01 : z = 0 ∨ z = 1 := by rw [hz]; split <;> omega
      refine u278_12 ⟨h.rn hn, ?_⟩
      rw [h.out hn]
      refine ⟨h.rb (h.g9 hn), k_timesOfp (h.bag (h.g9 hn)) (by show b_ok w (bw_p (E (n + 9))); rw [hOe]; exact hs9) q4 hlen (by omega) ⟨h.rn hn, ?_⟩⟩
      rw [h.dlt hn]
      refine ⟨h.rb (h.g12 hn), k_timesOfp (h.bag (h.g12 hn)) hs q4 hlen (by omega) ⟨h.rn hn, ?_⟩⟩
      rw [h.dlt hn]
      rw [hOe]
      have hO1 := hO e0.2.1
      have hg1 := hgood e0.2.1
      have b14 : ∀ z', z' = z → cw (d + 4 + 1) 278 (am_blk 278 14) [n, a, (k : Int), e0.1, y4, y5, z, am_w (b_s (r_ind e0.2.1) O + b_s (r_ind e0.2.1) (bw_p (E (n + 12))))] [z', e0.1, n + 12] c Q := by
        intro z' hz'
        rw [hz']
        refine u278_14 ⟨h.rb (h.g12 hn), ?_⟩
        rw [← hz] at hg1
        have ei : am_w (b_s (r_ind e0.2.1) O + b_s (r_ind e0.2.1) (bw_p (E (n + 12)))) = b_s (r_ind e0.2.1) O + b_s (r_ind e0.2.1) (bw_p (E (n + 12))) := am_w_in (by omega) (by omega)
        rw [ei, am_w_in (by omega) (by omega), am_w1 (by omega)]
        generalize hv : z - (b_s (r_ind e0.2.1) O + b_s (r_ind e0.2.1) (bw_p (E (n + 12)))) = v
        by_cases hv0 : v = 0
        · refine u133_e ⟨fun w => absurd hv0 w, fun _ => ?_⟩
          refine ih (k + 1) c E P o _ _ _ _ _ (by omega) h hOe hs9 hsl hil hrr hs hrow hU hgood (by omega) (fun c3 E3 P3 o3 I3 b3 ea3 hs3 h31 h32 hU3 hm3 => ?_)
          refine kk c3 E3 P3 o3 I3 b3 ea3 hs3 (fun l hl => ?_) (fun l hl => ?_) hU3 (by omega)
          · by_cases p : ∃ e ∈ (E a).drop (k + 1), e.2.1 = l
            · exact h31 l p
            · have pl : l = e0.2.1 := by
                obtain ⟨e, he, ee⟩ := hl
                rw [hd] at he
                rcases List.mem_cons.mp he with u | u
                · subst u; exact ee.symm
                · exact absurd ⟨e, u, ee⟩ p
              subst pl
              rw [h32 _ (fun e he q => p ⟨e, he, q⟩), ← hz]
              omega
          · exact h32 l (fun e he => hl e (by rw [hd]; exact List.mem_cons_of_mem _ he))
        · have hlU : e0.2.1 ∈ U := hUU _ (by rw [← hz]; omega)
          refine n_add h (h.g12 hn) hs q4 hlen q3 hU hlU hcap (by omega) (fun c2 E2 P2 o2 I2 b2 ea2 hs2 hb2 hm2 hU2 => ?_)
          have eA : E2 a = E a := ea2 _ han
          have e9 : E2 (n + 9) = E (n + 9) := ea2 _ (by omega)
          have el9 : E2 (n_left (gX G) n + 9) = E (n_left (gX G) n + 9) := ea2 _ hnl
          have ri : ∀ l, r_ind l e0.2.1 = if e0.2.1 = l then 1 else 0 := fun l => rfl
          have same : ∀ l, e0.2.1 ≠ l → b_s (r_ind l) (bw_p (E2 (n + 12))) = b_s (r_ind l) (bw_p (E (n + 12))) := by
            intro l hne; rw [hb2, ri, if_neg hne, Int.mul_zero]; omega
          have own : b_s (r_ind e0.2.1) (bw_p (E2 (n + 12))) = z - b_s (r_ind e0.2.1) O := by
            rw [hb2, ri, if_pos rfl, Int.mul_one]; omega
          refine ih (k + 1) c2 E2 P2 o2 _ _ _ _ _ (by rw [eA]; omega) I2 (by rw [e9]; exact hOe) hs9 (by rw [el9]; exact hsl) (by rw [el9]; exact hil) (fun q => ?_) hs2 (by rw [eA]; exact hrow) hU2 (fun l => ?_) (by omega) (fun c3 E3 P3 o3 I3 b3 ea3 hs3 h31 h32 hU3 hm3 => ?_)
          · rcases hr with u | u
            · exact absurd u.1 q
            · rw [ea2 _ u.2.2]; exact hrr q
          · by_cases p : e0.2.1 = l
            · subst p; right; rw [own, hz]
            · rw [same l p]; exact hgood l
          · refine kk c3 E3 P3 o3 I3 (b2.tr b3) (fun y hy => (ea3 y hy).trans (ea2 y hy)) hs3 (fun l hl => ?_) (fun l hl => ?_) hU3 (by omega)
            · by_cases p : ∃ e ∈ (E a).drop (k + 1), e.2.1 = l
              · exact h31 l (by rw [eA]; exact p)
              · have pl : l = e0.2.1 := by
                  obtain ⟨e, he, ee⟩ := hl
                  rw [hd] at he
                  rcases List.mem_cons.mp he with u | u
                  · subst u; exact ee.symm
                  · exact absurd ⟨e, u, ee⟩ p
                subst pl
                rw [h32 _ (by rw [eA]; exact fun e he q => p ⟨e, he, q⟩), own, hz]
            · rw [h32 l (by rw [eA]; exact fun e he => hl e (by rw [hd]; exact List.mem_cons_of_mem _ he)), same l (hl e0 (by rw [hd]; exact List.mem_cons_self))]
      refine ⟨fun q => b14 0 q.symm, fun q => b14 1 (by omega)⟩
    have b5 : ∀ (y4 z y5 y6 y7 : Int), (y4 = if e0.2.1 ∈ L' then 1 else 0) → (z = if e0.2.1 ∈ R' then 1 else 0) → cw (d + 4 + 1) 278 (am_blk 278 5) [n, a, (k : Int), e0.1, y4, y5, y6, y7] [z] c Q := by
      intro y4 z y5 y6 y7 h4 hz
      refine u278_5 ⟨h.rn hn, ?_⟩
      rw [hkd]
      have hin := s_rows_mem (k := n_kind (gX G) n) (L := L') (R := R') (l := e0.2.1)
      unfold s_in at hin
      have m1 : ∀ {p : Prop} [Decidable p] {y : Int}, y = (if p then 1 else 0) → (y = 0 ↔ ¬ p) := by
        intro p _ y hy
        by_cases q : p
        · rw [if_pos q] at hy; constructor
          · intro u; omega
          · intro u; exact absurd q u
        · rw [if_neg q] at hy; exact ⟨fun _ => q, fun _ => hy⟩
      have n4 := m1 h4
      have nz := m1 hz
      refine ⟨fun k8 => ⟨h.rn hn, fun k9 => ⟨fun q => u278_10 (b12 1 _ _ _ _ ?_), fun q => ⟨fun u => b12 0 _ _ _ _ ?_, fun u => u278_10 (b12 1 _ _ _ _ ?_)⟩⟩, fun k9 => ⟨fun q => u278_8 (b12 0 _ _ _ _ ?_), fun q => ⟨fun u => u278_8 (b12 0 _ _ _ _ ?_), fun u => b12 1 _ _ _ _ ?_⟩⟩⟩, fun k8 => ⟨fun q => u278_6 (b12 0 _ _ _ _ ?_), fun q => ⟨fun u => u278_6 (b12 0 _ _ _ _ ?_), fun u => b12 1 _ _ _ _ ?_⟩⟩⟩
      · rw [if_neg k8, if_neg k9] at hin
        have : e0.2.1 ∈ L' := Classical.not_not.mp (fun p => q (n4.mpr p))
        rw [if_pos (hin.mpr (Or.inl this))]
      · rw [if_neg k8, if_neg k9] at hin
        rw [if_neg]
        intro p
        rcases hin.mp p with p | p
        · exact (n4.mp (Classical.not_not.mp q)) p
        · exact (nz.mp u) p
      · rw [if_neg k8, if_neg k9] at hin
        have : e0.2.1 ∈ R' := Classical.not_not.mp (fun p => u (nz.mpr p))
        rw [if_pos (hin.mpr (Or.inr this))]
      · rw [if_neg k8, if_pos (Classical.not_not.mp k9)] at hin
        rw [if_neg]
        intro p
        exact (n4.mp q) (hin.mp p).1
      · rw [if_neg k8, if_pos (Classical.not_not.mp k9)] at hin
        rw [if_neg]
        intro p
        exact (nz.mp u) (hin.mp p).2
      · rw [if_neg k8, if_pos (Classical.not_not.mp k9)] at hin
        rw [if_pos]
        exact hin.mpr ⟨Classical.not_not.mp (fun p => q (n4.mpr p)), Classical.not_not.mp (fun p => u (nz.mpr p))⟩
      · rw [if_pos (Classical.not_not.mp k8)] at hin
        rw [if_neg]
        intro p
        exact (n4.mp q) (hin.mp p).1
      · rw [if_pos (Classical.not_not.mp k8)] at hin
        rw [if_neg]
        intro p
        exact (hin.mp p).2 (Classical.not_not.mp (fun p => u (nz.mpr p)))
      · rw [if_pos (Classical.not_not.mp k8)] at hin
        rw [if_pos]
        exact hin.mpr ⟨Classical.not_not.mp (fun p => q (n4.mpr p)), nz.mp (Classical.not_not.mp u)⟩
    have b3 : ∀ (z y4 y5 y6 y7 : Int), (z = if e0.2.1 ∈ L' then 1 else 0) → cw (d + 4 + 1) 278 (am_blk 278 3) [n, a, (k : Int), e0.1, y4, y5, y6, y7] [z] c Q := by
      intro z y4 y5 y6 y7 hz
      refine u278_3 ⟨h.rn hn, ?_⟩
      rw [h.rgt hn]
      rcases hr with ⟨u1, u2⟩ | ⟨u1, u2, u3⟩
      · exact ⟨fun _ => u278_4 (b5 _ _ _ _ _ hz (by rw [u2, if_neg (by simp)])), fun q => absurd u1 q⟩
      · refine ⟨fun q => absurd q u1, fun _ => ⟨h.rn hn, h.rn u2, ?_⟩⟩
        rw [h.out u2]
        obtain ⟨sr, ir⟩ := hrr u1
        have hcm := cnt_mem (l := e0.2.1) sr ir
        have hr9 := h.le (h.g9 u2)
        refine ⟨h.rb (h.g9 u2), k_timesOfp (h.bag (h.g9 u2)) sr q4 hlen (by omega) ⟨fun q => u278_4 (b5 _ _ _ _ _ hz ?_), fun q => b5 _ _ _ _ _ hz ?_⟩⟩
        · rw [if_neg (fun p => by have := hcm.mpr p; omega)]
        · rw [if_pos (hcm.mp (by omega))]
    refine u278_1 ⟨h.rb ha, k_bsize (h.bag ha) ⟨fun w => absurd w (by omega), fun _ => ⟨h.rb ha, k_brow (h.bag ha) hg ⟨h.rn hn, ?_⟩⟩⟩⟩
    rw [h.lft hn, h.out hl]
    have hcm := cnt_mem (l := e0.2.1) hsl hil
    refine ⟨h.rn hl, h.rb (h.g9 hl), k_timesOfp (h.bag (h.g9 hl)) hsl q4 hlen (by omega) ⟨fun q => b3 _ _ _ _ _ ?_, fun q => b3 _ _ _ _ _ ?_⟩⟩
    · rw [if_neg (fun p => by have := hcm.mpr p; omega)]
    · rw [if_pos (hcm.mp (by omega))]
end
