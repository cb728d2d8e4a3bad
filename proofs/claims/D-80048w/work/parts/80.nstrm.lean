set_option maxRecDepth 100000
/-! nodes: streams -/
/-- likewise, and times -/
def nxo (c : cs_S) (o : Int → Int) (c' : cs_S) (o' : Int → Int) : Prop := c_up (fun q a => nw o q a ∨ q = 413) c c' ∧ ∀ x, x < c_n c → o x = -1 → o' x = -1
section
variable {W W' : nW} {G : nG} {c c' c2 : cs_S} {E E' : Int → bw_L} {P P' : List Int} {o o' o2 : Int → Int} {a b n r x lo : Int} {l m k : rwt} {U L L' R R' F F' V K : List rwt} {Q : Int → cs_S → Prop} {d w D N Nl Nr f : Nat} {τ τl τr : List Int} {t v z1 z2 s wm : Int} {es B : bw_L} {σ : List Nat}
theorem nx.oo (h : nx c o c' o') : nxo c o c' o' := ⟨h.1.mono (fun q a w => Or.inl w), h.2⟩
theorem bx.oo (h : bx c o c' o') : nxo c o c' o' := h.nx.oo
theorem nxo.rf (c : cs_S) (o : Int → Int) : nxo c o c o := ⟨c_up.rf _ c, fun _ _ h => h⟩
theorem nxo.tr (h1 : nxo c o c' o') (h2 : nxo c' o' c2 o2) : nxo c o c2 o2 := by
  refine ⟨⟨Int.le_trans h1.1.1 h2.1.1, fun a ha => ⟨(h2.1.2.1 a (Int.lt_of_lt_of_le ha h1.1.1)).1.trans (h1.1.2.1 a ha).1, (h2.1.2.1 a (Int.lt_of_lt_of_le ha h1.1.1)).2.trans (h1.1.2.1 a ha).2⟩, fun q a j ha hw => ?_⟩, fun y hy ho => h2.2 y (Int.lt_of_lt_of_le hy h1.1.1) (h1.2 y hy ho)⟩
  refine (h2.1.2.2 q a j (Int.lt_of_lt_of_le ha h1.1.1) (fun w2 => hw ?_)).trans (h1.1.2.2 q a j ha hw)
  have e1 : o a = -1 → o' a = -1 := h1.2 a ha
  have e2 : o (a - 1) = -1 → o' (a - 1) = -1 := h1.2 (a - 1) (by omega)
  rcases w2 with w2 | w2
  · left
    unfold nw at w2 ⊢
    rcases w2 with w2 | w2
    · left
      unfold bw_w at w2 ⊢
      omega
    · exact Or.inr w2
  · exact Or.inr w2
theorem nx.old (h : nx c o c' o') {y : Int} (hy : c_r c y ≠ 0) : c_v c' 413 y 0 = c_v c 413 y 0 := h.1.v hy (by unfold nw bw_w; omega) 0
def agw (n : Int) (q : Nat) (a : Int) : Prop := q = 413 ∧ a = n
theorem NI.ag (h : NI G c E P o) (s : c_sm (agw n) c c') : NI G c' E P o ∧ nxo c o c' o := by
  refine ⟨h.sm s (fun q a hw => ?_), s.up.mono (fun q a hw => ?_), fun _ _ w => w⟩
  · unfold agw at hw
    exact ⟨by unfold bw_k; omega, by unfold nq2 nq ex_q; omega⟩
  · unfold agw at hw; exact Or.inr hw.1
theorem n_age (h : NI G c E P o) (hn : n ∈ gA G) (hk : n_keep (gX G) n ≤ 9223372036854775807) (hw0 : -9223372036854775808 ≤ wm) (hw1 : wm ≤ 9223372036854775807) (kk : ∀ c', c_sm (agw n) c c' → (0 ≤ n_keep (gX G) n → c_v c' 413 n 0 = n_old (n_keep (gX G) n) wm) → Q 0 c') : knode_age d n wm c Q := by
  have ek : c_v c 412 n 0 = n_keep (gX G) n := (h.nd hn).2.2.2.2.2.1
  have lc := lc_iff (n_keep (gX G) n) 0
  refine u265_e ⟨h.rn hn, ?_⟩
  rw [ek]
  refine ⟨fun q => u265_3 (kk c (c_sm.rf _ c) (fun u => by omega)), fun q => ⟨h.rn hn, ?_⟩⟩
  have hk0 : 0 ≤ n_keep (gX G) n := by omega
  have e1 : am_x ((-9223372036854775808) + n_keep (gX G) n) = (-9223372036854775808) + n_keep (gX G) n := am_x_in (by omega) (by omega)
  rw [e1]
  have lm := lc_iff wm ((-9223372036854775808) + n_keep (gX G) n)
  have b2 : ∀ z : Int, z = n_old (n_keep (gX G) n) wm → cw d 265 (am_blk 265 2) [n, wm, 0] [z, n] c Q := by
    intro z hz
    refine u265_2 ⟨h.rn hn, fun c1 e1 => u265_3 (kk c1 ?_ (fun _ => ?_))⟩
    · subst e1; exact c_sm.u c ⟨rfl, rfl⟩ _ _
    · subst e1; rw [c_u_eq]; exact hz
  refine ⟨fun q2 => ⟨h.rn hn, b2 _ ?_⟩, fun q2 => b2 _ ?_⟩
  · unfold n_old
    rw [if_neg (by omega), am_x_in (by omega) (by omega)]
  · unfold n_old
    rw [if_pos (by omega)]
theorem r_time_get (h : l.length = w + 1) : ∃ y, l[w]? = some y ∧ rw_ov y = r_time l := by
  refine ⟨l[w]'(by omega), List.getElem?_eq_getElem (by omega), ?_⟩
  unfold r_time
  have : l.length - 1 = w := by omega
  rw [this, List.getD_eq_getElem?_getD, List.getElem?_eq_getElem (by omega)]
  rfl
/-- rows come and go -/
theorem n_come0 (hn : n ∈ gA G) (ha : a ∈ gb G) (han : a ≠ n + 12) (hD : 20 ≤ D) (hcap : (U.length : Int) ≤ gcp G (n + 12)) {wm : Int} : ∀ (p q : Nat) (c : cs_S) (E : Int → bw_L) (P : List Int) (o : Int → Int) (y3 y4 : Int), q + p = (E a).length → NI G c E P o → (0 ≤ n_keep (gX G) n → c_v c 413 n 0 = n_old (n_keep (gX G) n) wm) → b_ok (w + 1) (bw_p (E (n + 12))) → b_ok (w + 1) (bw_p (E (n + 9))) → b_is (bw_p (E (n + 9))) (L.filter (n_in (n_keep (gX G) n) wm)) → (∀ e ∈ E a, e.2.1.length = w + 1 ∧ e.2.2 ≠ 0 ∧ (e.2.2 < 0 → e.2.1 ∈ L) ∧ (n_in (n_keep (gX G) n) wm e.2.1 = true → e.2.1 ∈ U)) → (∀ e ∈ E (n + 12), e.2.1 ∈ U) → b_m (bw_p (E (n + 12))) + b_m (bw_p ((E a).drop q)) < 2147483648 →
    (∀ c' E' P' o', NI G c' E' P' o' → bx c o c' o' → (∀ a, a ≠ n + 12 → E' a = E a) → b_ok (w + 1) (bw_p (E' (n + 12))) → (∀ g, b_s g (bw_p (E' (n + 12))) = b_s g (bw_p (E (n + 12))) + b_s (fun x => if n_in (n_keep (gX G) n) wm x then g x else 0) (bw_p ((E a).drop q))) → Q 0 c') → cw (D + 1) 284 (am_blk 284 1) [n, a, (q : Int), y3, y4] [] c Q := by
  intro p
  induction p with
  | zero =>
    intro q c E P o y3 y4 hq h hag hs hs9 hi9 hrow hU hm kk
    have e1 : (E a).drop q = [] := List.drop_of_length_le (by omega)
    refine u284_1 ⟨h.rb ha, k_bsize (h.bag ha) ⟨fun _ => kk c E P o h (bx.rf c o) (fun _ _ => rfl) hs (fun g => ?_), fun z => absurd (by omega) z⟩⟩
    rw [e1]; show _ = _ + 0; omega
  | succ p ih =>
    intro q c E P o y3 y4 hq h hag hs hs9 hi9 hrow hU hm kk
    have hk1 : q < (E a).length := by omega
    have hg := List.getElem?_eq_getElem hk1
    have hd := List.drop_eq_getElem_cons hk1
    generalize hE : (E a)[q] = e0 at *
    have hmem : e0 ∈ E a := List.mem_of_getElem? hg
    obtain ⟨w1, w2, w3, w4⟩ := hrow e0 hmem
    have hla := h.le ha
    have hl9 := h.le (h.g9 hn)
    obtain ⟨q1, q2, q3, q4⟩ := h.own ha hmem hn
    have ek : c_v c 412 n 0 = n_keep (gX G) n := (h.nd hn).2.2.2.2.2.1
    rw [hd, bp_cons, b_m_cons] at hm
    have hpos := b_m_pos (L := bw_p ((E a).drop (q + 1)))
    have hpos2 := b_m_pos (L := bw_p (E (n + 12)))
    obtain ⟨d, rfl⟩ : ∃ d, D = d + 4 := ⟨D - 4, by omega⟩
    have hw1 := am_w1 (k := q) (by omega)
    have b4 : n_in (n_keep (gX G) n) wm e0.2.1 = false → cw (d + 4 + 1) 284 (am_blk 284 4) [n, a, (q : Int), e0.1, e0.2.2] [] c Q := by
      intro hin
      refine u284_4 ?_
      rw [hw1]
      refine ih (q + 1) c E P o _ _ (by omega) h hag hs hs9 hi9 hrow hU (by omega) (fun c3 E3 P3 o3 I3 x3 ea3 hs3 hb3 => ?_)
      refine kk c3 E3 P3 o3 I3 x3 ea3 hs3 (fun g => ?_)
      rw [hb3, hd, bp_cons, b_s_cons, hin]
      simp only [Bool.false_eq_true, if_false]
      omega
    have b3 : n_in (n_keep (gX G) n) wm e0.2.1 = true → cw (d + 4 + 1) 284 (am_blk 284 3) [n, a, (q : Int), e0.1, e0.2.2] [] c Q := by
      intro hin
      refine u284_3 ⟨h.rn hn, ?_⟩
      rw [h.dlt hn]
      refine ⟨h.rb (h.g12 hn), n_add h (h.g12 hn) hs q4 w1 q3 hU (w4 hin) hcap (by omega) (fun c2 E2 P2 o2 I2 b2 ea2 hs2 hb2 hm2 hU2 => u284_4 ?_)⟩
      have eA : E2 a = E a := ea2 _ han
      have e9 : E2 (n + 9) = E (n + 9) := ea2 _ (by omega)
      have hag2 : 0 ≤ n_keep (gX G) n → c_v c2 413 n 0 = n_old (n_keep (gX G) n) wm := fun u => by
        rw [b2.1.v (by rw [h.rn hn]; decide) (by unfold bw_w; omega)]; exact hag u
      rw [hw1]
      refine ih (q + 1) c2 E2 P2 o2 _ _ (by rw [eA]; omega) I2 hag2 hs2 (by rw [e9]; exact hs9) (by rw [e9]; exact hi9) (by rw [eA]; exact hrow) hU2 (by rw [eA]; omega) (fun c3 E3 P3 o3 I3 x3 ea3 hs3 hb3 => ?_)
      refine kk c3 E3 P3 o3 I3 (b2.tr x3) (fun y hy => (ea3 y hy).trans (ea2 y hy)) hs3 (fun g => ?_)
      rw [hb3, hb2, eA, hd, bp_cons, b_s_cons, hin]
      simp only [if_true]
      omega
    refine u284_1 ⟨h.rb ha, k_bsize (h.bag ha) ⟨fun z => absurd z (by omega), fun _ => ⟨h.rb ha, k_brow (h.bag ha) hg ⟨h.rb ha, k_btimes (h.bag ha) hg ⟨fun hneg => ⟨h.rn hn, ?_⟩, fun hpos => ⟨h.rn hn, ?_⟩⟩⟩⟩⟩⟩
    · rw [h.out hn]
      have hL := w3 (by omega)
      refine ⟨h.rb (h.g9 hn), k_timesOfp (h.bag (h.g9 hn)) hs9 q4 w1 (by omega) ?_⟩
      have hc := cnt_mem (l := e0.2.1) hs9 hi9
      have hmf : e0.2.1 ∈ L.filter (n_in (n_keep (gX G) n) wm) ↔ n_in (n_keep (gX G) n) wm e0.2.1 = true := by
        rw [List.mem_filter]; exact ⟨fun u => u.2, fun u => ⟨hL, u⟩⟩
      refine ⟨fun u => b4 ?_, fun u => b3 (hmf.mp (hc.mp (by omega)))⟩
      cases hh : n_in (n_keep (gX G) n) wm e0.2.1 with
      | false => rfl
      | true => have := hc.mpr (hmf.mpr hh); omega
    · rw [ek]
      have lc := lc_iff (n_keep (gX G) n) 0
      refine ⟨fun u => b3 ?_, fun u => ⟨q4.1.1, ?_⟩⟩
      · unfold n_in; simp; left; omega
      · obtain ⟨y, hy1, hy2⟩ := r_time_get w1
        refine k_size q4 ⟨q4.1.1, ?_⟩
        have ez : am_w ((e0.2.1.length : Int) - 1) = (w : Int) := by have := q4.2.2.1; rw [w1, am_w_in (by omega) (by omega)]; omega
        rw [ez]
        refine k_value q4 hy1 ⟨h.rn hn, ?_⟩
        rw [hag (by omega), hy2]
        have lt := lc_iff (r_time e0.2.1) (n_old (n_keep (gX G) n) wm)
        refine ⟨fun u2 => b4 ?_, fun u2 => b3 ?_⟩
        · unfold n_in; simp; omega
        · unfold n_in; simp; right; omega
/-- rows grow old -/
theorem n_old0 (hn : n ∈ gA G) (hD : 20 ≤ D) (hcap : (U.length : Int) ≤ gcp G (n + 12)) {wm : Int} : ∀ (p q : Nat) (c : cs_S) (E : Int → bw_L) (P : List Int) (o : Int → Int) (y2 : Int), q + p = (E (n + 9)).length → NI G c E P o → (0 ≤ n_keep (gX G) n → c_v c 413 n 0 = n_old (n_keep (gX G) n) wm) → b_ok (w + 1) (bw_p (E (n + 12))) → (∀ e ∈ E (n + 9), e.2.1.length = w + 1 ∧ e.2.1 ∈ U) → (∀ e ∈ E (n + 12), e.2.1 ∈ U) → b_m (bw_p (E (n + 9))) ≤ 1000000 → b_m (bw_p (E (n + 12))) + b_m (bw_p ((E (n + 9)).drop q)) < 2147483648 →
    (∀ c' E' P' o', NI G c' E' P' o' → bx c o c' o' → (∀ a, a ≠ n + 12 → E' a = E a) → b_ok (w + 1) (bw_p (E' (n + 12))) → (∀ g, b_s g (bw_p (E' (n + 12))) = b_s g (bw_p (E (n + 12))) - b_s (fun x => if n_in (n_keep (gX G) n) wm x then 0 else g x) (bw_p ((E (n + 9)).drop q))) → Q 0 c') → cw (D + 1) 283 (am_blk 283 1) [n, (q : Int), y2] [] c Q := by
  intro p
  induction p with
  | zero =>
    intro q c E P o y2 hq h hag hs hrow hU hm9 hm kk
    have e1 : (E (n + 9)).drop q = [] := List.drop_of_length_le (by omega)
    refine u283_1 ⟨h.rn hn, ?_⟩
    rw [h.out hn]
    refine ⟨h.rb (h.g9 hn), k_bsize (h.bag (h.g9 hn)) ⟨fun _ => u283_3 (kk c E P o h (bx.rf c o) (fun _ _ => rfl) hs (fun g => ?_)), fun z => absurd (by omega) z⟩⟩
    rw [e1]; show _ = _ - 0; omega
  | succ p ih =>
    intro q c E P o y2 hq h hag hs hrow hU hm9 hm kk
    have hk1 : q < (E (n + 9)).length := by omega
    have hg := List.getElem?_eq_getElem hk1
    have hd := List.drop_eq_getElem_cons hk1
    generalize hE : (E (n + 9))[q] = e0 at *
    have hmem : e0 ∈ E (n + 9) := List.mem_of_getElem? hg
    obtain ⟨w1, w4⟩ := hrow e0 hmem
    have hl9 := h.le (h.g9 hn)
    obtain ⟨q1, q2, q3, q4⟩ := h.own (h.g9 hn) hmem hn
    have ek : c_v c 412 n 0 = n_keep (gX G) n := (h.nd hn).2.2.2.2.2.1
    have hle := b_m_mem (bp_mem hmem)
    rw [hd, bp_cons, b_m_cons] at hm
    have hpos := b_m_pos (L := bw_p ((E (n + 9)).drop (q + 1)))
    have hpos2 := b_m_pos (L := bw_p (E (n + 12)))
    obtain ⟨d, rfl⟩ : ∃ d, D = d + 4 := ⟨D - 4, by omega⟩
    have hw1 := am_w1 (k := q) (by omega)
    have lc := lc_iff (n_keep (gX G) n) 0
    refine u283_1 ⟨h.rn hn, ?_⟩
    rw [h.out hn]
    refine ⟨h.rb (h.g9 hn), k_bsize (h.bag (h.g9 hn)) ⟨fun z => absurd z (by omega), fun _ => ⟨h.rn hn, ?_⟩⟩⟩
    rw [ek]
    refine ⟨fun u => u283_3 (kk c E P o h (bx.rf c o) (fun _ _ => rfl) hs (fun g => ?_)), fun u => ⟨h.rn hn, ?_⟩⟩
    · have : b_s (fun x => if n_in (n_keep (gX G) n) wm x then 0 else g x) (bw_p ((E (n + 9)).drop q)) = b_s (fun _ => 0) (bw_p ((E (n + 9)).drop q)) := b_s_congr (fun e _ => by
        have : n_in (n_keep (gX G) n) wm e.1 = true := by unfold n_in; simp; left; omega
        rw [if_pos this])
      rw [this]
      have : ∀ K : List (rwt × Int), b_s (fun _ => 0) K = 0 := by
        intro K; induction K with
        | nil => rfl
        | cons e K ih => rw [b_s_cons, ih]; omega
      rw [this]; omega
    · rw [h.out hn]
      obtain ⟨y, hy1, hy2⟩ := r_time_get w1
      refine ⟨h.rb (h.g9 hn), k_brow (h.bag (h.g9 hn)) hg ⟨q4.1.1, k_size q4 ⟨q4.1.1, ?_⟩⟩⟩
      have ez : am_w ((e0.2.1.length : Int) - 1) = (w : Int) := by have := q4.2.2.1; rw [w1, am_w_in (by omega) (by omega)]; omega
      rw [ez]
      refine k_value q4 hy1 ⟨h.rn hn, ?_⟩
      rw [hag (by omega), hy2]
      have lt := lc_iff (r_time e0.2.1) (n_old (n_keep (gX G) n) wm)
      refine ⟨fun u2 => u283_2 ?_, fun u2 => ⟨h.rn hn, h.rn hn, ?_⟩⟩
      · have hin : n_in (n_keep (gX G) n) wm e0.2.1 = true := by unfold n_in; simp; right; omega
        rw [hw1]
        refine ih (q + 1) c E P o _ (by omega) h hag hs hrow hU hm9 (by omega) (fun c3 E3 P3 o3 I3 x3 ea3 hs3 hb3 => ?_)
        refine kk c3 E3 P3 o3 I3 x3 ea3 hs3 (fun g => ?_)
        rw [hb3, hd, bp_cons, b_s_cons, if_pos hin]
        omega
      · have hin : ¬ n_in (n_keep (gX G) n) wm e0.2.1 = true := by unfold n_in; simp; omega
        rw [h.out hn, h.dlt hn]
        refine ⟨h.rb (h.g9 hn), k_btimes (h.bag (h.g9 hn)) hg ⟨h.rb (h.g12 hn), ?_⟩⟩
        rw [am_w_in (by omega) (by omega)]
        refine n_add h (h.g12 hn) hs q4 w1 q3 hU w4 hcap (by omega) (fun c2 E2 P2 o2 I2 b2 ea2 hs2 hb2 hm2 hU2 => u283_2 ?_)
        have e9 : E2 (n + 9) = E (n + 9) := ea2 _ (by omega)
        have hag2 : 0 ≤ n_keep (gX G) n → c_v c2 413 n 0 = n_old (n_keep (gX G) n) wm := fun u => by
          rw [b2.1.v (by rw [h.rn hn]; decide) (by unfold bw_w; omega)]; exact hag u
        rw [hw1]
        refine ih (q + 1) c2 E2 P2 o2 _ (by rw [e9]; omega) I2 hag2 hs2 (by rw [e9]; exact hrow) hU2 (by rw [e9]; exact hm9) (by rw [e9]; omega) (fun c3 E3 P3 o3 I3 x3 ea3 hs3 hb3 => ?_)
        refine kk c3 E3 P3 o3 I3 (b2.tr x3) (fun y hy => (ea3 y hy).trans (ea2 y hy)) hs3 (fun g => ?_)
        rw [hb3, hb2, e9, hd, bp_cons, b_s_cons, if_neg hin, Int.neg_mul]
        omega
end
