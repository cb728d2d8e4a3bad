set_option maxRecDepth 100000
/-! nodes: aggregates -/
def a_inv (act : Int) (ex : rwt → Option Int) (L : List rwt) (x3 x5 : Int) : Prop :=
  x3 = (if act = 25 then (L.length : Int) else ((L.filterMap ex).length : Int)) ∧ (act = 27 → x5 = am_x (i_sum (L.filterMap ex))) ∧ (act = 28 → a_fold min (L.filterMap ex) = if x3 = 0 then none else some x5) ∧ (act = 29 → a_fold max (L.filterMap ex) = if x3 = 0 then none else some x5)
section
variable {act : Int} {ex : rwt → Option Int} {L : List rwt} {r : rwt} {x x3 x5 y : Int} {t : Nat}
theorem am_x_add (a b : Int) : am_x (am_x a + am_x b) = am_x (a + b) := by
  unfold am_x
  rw [Int64.ofInt_add, Int64.ofInt_toInt, Int64.ofInt_toInt, ← Int64.ofInt_add]
theorem i_sum_rep : ∀ t : Nat, i_sum (List.replicate t x) = x * (t : Int) := by
  intro t
  induction t with
  | zero => simp [i_sum]
  | succ t ih =>
    rw [List.replicate_succ]
    simp only [i_sum]
    rw [ih]
    have : ((t + 1 : Nat) : Int) = (t : Int) + 1 := by omega
    rw [this, Int.mul_add]
    omega
theorem fm_rep_some (h : ex r = some x) : (List.replicate t r).filterMap ex = List.replicate t x := by
  induction t with
  | zero => rfl
  | succ t ih => rw [List.replicate_succ, List.filterMap_cons, h, ih]; rfl
theorem fm_rep_none (h : ex r = none) : (List.replicate t r).filterMap ex = [] := by
  induction t with
  | zero => rfl
  | succ t ih => rw [List.replicate_succ, List.filterMap_cons, h, ih]
theorem a_fold_rep {op : Int → Int → Int} (h1 : ∀ a b, op (op a b) b = op a b) (h2 : ∀ a, op a a = a) (vs : List Int) (x : Int) : ∀ t : Nat, a_fold op (vs ++ List.replicate (t + 1) x) = a_stp op (a_fold op vs) x := by
  intro t
  induction t with
  | zero => unfold a_fold; rw [List.foldl_append]; rfl
  | succ t ih =>
    have e : List.replicate (t + 1 + 1) x = List.replicate (t + 1) x ++ [x] := by rw [List.replicate_succ']
    unfold a_fold at *
    rw [e, ← List.append_assoc, List.foldl_append, ih]
    show a_stp op (a_stp op (vs.foldl (a_stp op) none) x) x = _
    cases vs.foldl (a_stp op) none with
    | none => simp only [a_stp]; rw [h2]
    | some v => simp only [a_stp]; rw [h1]
theorem a_inv_nil : a_inv act ex [] 0 0 := ⟨by split <;> rfl, fun _ => by rfl, fun _ => rfl, fun _ => rfl⟩
theorem a_inv_all (h : a_inv 25 ex L x3 x5) : a_inv 25 ex (L ++ List.replicate t r) (x3 + t) y := by
  refine ⟨?_, fun q => absurd q (by decide), fun q => absurd q (by decide), fun q => absurd q (by decide)⟩
  rw [h.1, if_pos rfl, if_pos rfl, List.length_append, List.length_replicate]; omega
theorem a_inv_none (h : a_inv act ex L x3 x5) (ha : act ≠ 25) (he : ex r = none) : a_inv act ex (L ++ List.replicate t r) x3 x5 := by
  have e : (L ++ List.replicate t r).filterMap ex = L.filterMap ex := by rw [List.filterMap_append, fm_rep_none he, List.append_nil]
  unfold a_inv
  rw [e, if_neg ha]
  have := h
  unfold a_inv at this
  rw [if_neg ha] at this
  exact this
theorem a_inv_some (h : a_inv act ex L x3 x5) (ha : act ≠ 25) (he : ex r = some x) (ht : 0 < t) (h27 : act = 27 → y = am_x (x5 + am_x (x * (t : Int)))) (h28 : act = 28 → y = if x3 = 0 then x else min x5 x) (h29 : act = 29 → y = if x3 = 0 then x else max x5 x) : a_inv act ex (L ++ List.replicate t r) (x3 + t) y := by
  have e : (L ++ List.replicate t r).filterMap ex = L.filterMap ex ++ List.replicate t x := by rw [List.filterMap_append, fm_rep_some he]
  obtain ⟨g1, g2, g3, g4⟩ := h
  rw [if_neg ha] at g1
  obtain ⟨t', rfl⟩ : ∃ t', t = t' + 1 := ⟨t - 1, by omega⟩
  refine ⟨?_, fun q => ?_, fun q => ?_, fun q => ?_⟩
  · rw [if_neg ha, e, List.length_append, List.length_replicate, g1]; omega
  · rw [h27 q, g2 q, e, i_sum_app, i_sum_rep, am_x_add]
  · rw [e, a_fold_rep (fun a b => by omega) (fun a => by omega), g3 q, h28 q, if_neg (show ¬ (x3 + ((t' + 1 : Nat) : Int) = 0) by omega)]
    by_cases z : x3 = 0
    · rw [if_pos z, if_pos z]; rfl
    · rw [if_neg z, if_neg z]; rfl
  · rw [e, a_fold_rep (fun a b => by omega) (fun a => by omega), g4 q, h29 q, if_neg (show ¬ (x3 + ((t' + 1 : Nat) : Int) = 0) by omega)]
    by_cases z : x3 = 0
    · rw [if_pos z, if_pos z]; rfl
    · rw [if_neg z, if_neg z]; rfl
theorem a_inv_fin (h : a_inv act ex L x3 x5) (h1 : 25 ≤ act) (h2 : act ≤ 29) : a_val act ex L = if act = 25 ∨ act = 26 then some x3 else if x3 = 0 then none else some x5 := by
  obtain ⟨g1, g2, g3, g4⟩ := h
  unfold a_val
  by_cases e1 : act = 25
  · rw [if_pos e1, if_pos (Or.inl e1), g1, if_pos e1]
  · rw [if_neg e1]
    rw [if_neg e1] at g1
    by_cases e2 : act = 26
    · rw [if_pos e2, if_pos (Or.inr e2), g1]
    · rw [if_neg e2, if_neg (show ¬ (act = 25 ∨ act = 26) by omega)]
      by_cases e3 : act = 27
      · rw [if_pos e3, g2 e3]
        by_cases q : L.filterMap ex = []
        · rw [if_pos q, if_pos (by rw [g1, q]; rfl)]
        · rw [if_neg q, if_neg]
          intro w
          rw [g1] at w
          exact q (List.length_eq_zero_iff.mp (by omega))
      · rw [if_neg e3]
        by_cases e4 : act = 28
        · rw [if_pos e4]; exact g3 e4
        · rw [if_neg e4]; exact g4 (by omega)
end
/-- the rows of the group at hand -/
def MT (c : cs_S) (n : Int) (B es : bw_L) : Prop := c_v c 425 n 0 = (es.length : Int) ∧ ∀ (j : Nat) (e : Int × rwt × Int), es[j]? = some e → ∃ i : Nat, c_v c 583 (c_v c 83 7 0) j = i ∧ B[i]? = some e
section
variable {W : Nat → Int → Prop} {G : nG} {c c' c2 : cs_S} {E E' : Int → bw_L} {P P' : List Int} {o o' o2 : Int → Int} {a b n r x : Int} {l m k : rwt} {U L L' R R' F F' V : List rwt} {Q : Int → cs_S → Prop} {d w D N Nl Nr : Nat} {τ τl τr : List Int} {t v z1 z2 s : Int} {es B : bw_L}
theorem MT.up (h : MT c n B es) (hI : NI G c E P o) (hn : n ∈ gA G) (u : c_up W c c') (w1 : ¬ W 425 n) (w2 : ¬ W 83 7) (w3 : ∀ y, ¬ W 583 y) : MT c' n B es := by
  have en : c_r c n ≠ 0 := by rw [hI.rn hn]; decide
  have e7 : c_r c 7 ≠ 0 := by rw [hI.p7]; decide
  have em : c_r c (c_v c 83 7 0) ≠ 0 := by rw [hI.pk.2.1]; decide
  refine ⟨by rw [u.v en w1]; exact h.1, fun j e hj => ?_⟩
  obtain ⟨i, h1, h2⟩ := h.2 j e hj
  exact ⟨i, by rw [u.v e7 w2, u.v em (w3 _)]; exact h1, h2⟩
theorem k_min2 {x0 x2 : Int} (kk : Q (min x0 x2) c) : kmath_min_2 d x0 x2 c Q := by
  have lc := lc_iff x0 x2
  refine u304_e ⟨fun q => u304_2 ?_, fun q => u304_2 ?_⟩
  · have : min x0 x2 = x2 := by omega
    rw [this] at kk; exact kk
  · have : min x0 x2 = x0 := by omega
    rw [this] at kk; exact kk
theorem k_max2 {x0 x2 : Int} (kk : Q (max x0 x2) c) : kmath_max_2 d x0 x2 c Q := by
  have lc := lc_iff x0 x2
  refine u305_e ⟨fun q => u305_2 ?_, fun q => u305_2 ?_⟩
  · have : max x0 x2 = x2 := by omega
    rw [this] at kk; exact kk
  · have : max x0 x2 = x0 := by omega
    rw [this] at kk; exact kk
theorem n_agg0 {g : Nat} (hn : n ∈ gA G) (hl : n_left (gX G) n ∈ gA G) (hD : 260 ≤ D) (hgN : g < gN G) (hw : x_wag (gT G) (gsl G) (gct G) τ g) (hrow : ∀ e ∈ E (n_left (gX G) n + 9), rg τ e.2.1 ∧ 0 < e.2.2 ∧ e.2.2 ≤ 1000000) (hes : es.length ≤ 512) (hesV : es.length ≤ V.length) (hcur : m.length < 24)
    (kk : ∀ c', c_sm (scw G n) c c' → NI G c' E P o → rw_is c' (n + 1) (m ++ [a_val (x_act (gT G) g) (fun r => ev (gT G) (x_env (gsl G) r) 121 (x_a (gT G) g).toNat) (b_xp (bw_p es))]) → Q 0 c') : ∀ (p q : Nat) (c1 : cs_S) (x3 x5 y8 y9 : Int), q + p = es.length → c_sm (scw G n) c c1 → NI G c1 E P o → KF c1 n V → MT c1 n (E (n_left (gX G) n + 9)) es → rw_is c1 (n + 1) m → a_inv (x_act (gT G) g) (fun r => ev (gT G) (x_env (gsl G) r) 121 (x_a (gT G) g).toNat) (b_xp (bw_p (es.take q))) x3 x5 → 0 ≤ x3 → x3 ≤ 1000000 * (q : Int) → cw (D + 1) 277 (am_blk 277 1) [n, (g : Int), x_act (gT G) g, x3, 0, x5, 0, (q : Int), y8, y9, 0] [] c1 Q := by
  have hact : 25 ≤ x_act (gT G) g ∧ x_act (gT G) g ≤ 29 := by
    rcases hw with u | ⟨u1, u2, -⟩
    · omega
    · omega
  intro p
  induction p with
  | zero =>
    intro q c1 x3 x5 y8 y9 hq s1 h hf ht hr hi hx0 hx
    rw [List.take_of_length_le (by omega)] at hi
    have hv := a_inv_fin hi hact.1 hact.2
    have fin15 : ∀ c2, c_sm (rw_w (n + 1)) c1 c2 → rw_is c2 (n + 1) (m ++ [a_val (x_act (gT G) g) (fun r => ev (gT G) (x_env (gsl G) r) 121 (x_a (gT G) g).toNat) (b_xp (bw_p es))]) → ∀ y7, cw (D + 1) 277 (am_blk 277 15) [n, (g : Int), x_act (gT G) g, x3, 0, x5, 0, y7, y8, y9, 0] [] c2 Q := by
      intro c2 s2 hr2 y7
      have s2' : c_sm (scw G n) c1 c2 := s2.mono (fun q a hw => Or.inr (Or.inl hw))
      exact u277_15 (kk c2 (s1.tr s2') (h.scr hn s2').1 hr2)
    have b11 : (x_act (gT G) g = 25 ∨ x_act (gT G) g = 26) → ∀ y7, cw (D + 1) 277 (am_blk 277 11) [n, (g : Int), x_act (gT G) g, x3, 0, x5, 0, y7, y8, y9, 0] [] c1 Q := by
      intro e y7
      refine u277_11 ⟨h.rn hn, ?_⟩
      rw [h.row hn]
      refine ⟨hr.1.1, k_append hr (by omega) (by omega) (Or.inl rfl) (fun c2 s2 hr2 => fin15 c2 s2 ?_ y7)⟩
      rw [if_pos rfl] at hr2
      rw [hv, if_pos e]
      exact hr2
    have b14 : ¬ (x_act (gT G) g = 25 ∨ x_act (gT G) g = 26) → ∀ z y7 : Int, (z = if x3 = 0 then 1 else 0) → cw (D + 1) 277 (am_blk 277 14) [n, (g : Int), x_act (gT G) g, x3, 0, x5, 0, y7, y8, y9, 0] [z, x5, n + 1] c1 Q := by
      intro e z y7 hz
      refine u277_14 ⟨hr.1.1, k_append hr (by omega) (by omega) (by rw [hz]; split <;> omega) (fun c2 s2 hr2 => fin15 c2 s2 ?_ y7)⟩
      rw [hv, if_neg e]
      by_cases q0 : x3 = 0
      · rw [if_pos q0]; rw [hz, if_pos q0, if_neg (by decide)] at hr2; exact hr2
      · rw [if_neg q0]; rw [hz, if_neg q0, if_pos rfl] at hr2; exact hr2
    have lc := lc_iff x3 0
    refine u277_1 ⟨h.rn hn, fun _ => ⟨fun e => b11 (Or.inr e) _, fun e => ⟨fun e2 => ⟨h.rn hn, ?_⟩, fun e2 => b11 (Or.inl (by omega)) _⟩⟩, fun w => ?_⟩
    · rw [h.row hn]
      refine ⟨fun u => b14 (by omega) 0 _ ?_, fun u => b14 (by omega) 1 _ ?_⟩
      · rw [if_neg (fun u2 => u (lc.1.mpr u2))]
      · rw [if_pos (lc.1.mp (by omega))]
    · rw [ht.1] at w; omega
  | succ p ih =>
    intro q c1 x3 x5 y8 y9 hq s1 h hf ht hr hi hx0 hx
    have hk1 : q < es.length := by omega
    have hg := List.getElem?_eq_getElem hk1
    have htk := List.take_succ_eq_append_getElem hk1
    generalize hE : es[q] = e0 at *
    obtain ⟨i, hmi, hBi⟩ := ht.2 q e0 hg
    have hmem : e0 ∈ E (n_left (gX G) n + 9) := List.mem_of_getElem? hBi
    obtain ⟨rg0, t0, t1⟩ := hrow e0 hmem
    obtain ⟨f1, f2, f3, f4⟩ := id hf
    obtain ⟨p1, p2, p3, p4, p5, p6⟩ := h.pk
    have hKq : (q : Int) < pk_K c1 := by omega
    have hxp : b_xp (bw_p (es.take (q + 1))) = b_xp (bw_p (es.take q)) ++ List.replicate e0.2.2.toNat e0.2.1 := by
      rw [htk, bp_app]; unfold b_xp; rw [List.flatMap_append]; simp [bw_p]
    have htn : ((e0.2.2.toNat : Nat) : Int) = e0.2.2 := by omega
    have hw1 := am_w1 (k := q) (by omega)
    have hxa : am_x (x3 + e0.2.2) = x3 + (e0.2.2.toNat : Int) := by rw [htn, am_x_in (by omega) (by omega)]
    -- one more row done
    have b9 : ∀ (c2 : cs_S) (x3' x5' y9' : Int), c_sm (xw (gad G)) c1 c2 → a_inv (x_act (gT G) g) (fun r => ev (gT G) (x_env (gsl G) r) 121 (x_a (gT G) g).toNat) (b_xp (bw_p (es.take (q + 1)))) x3' x5' → 0 ≤ x3' → x3' ≤ x3 + e0.2.2 → cw (D + 1) 277 (am_blk 277 9) [n, (g : Int), x_act (gT G) g, x3', 0, x5', 0, (q : Int), e0.2.2, y9', 0] [] c2 Q := by
      intro c2 x3' x5' y9' s2 hi2 h0 h1
      have s2' : c_sm (scw G n) c1 c2 := s2.mono (fun q a hw => Or.inl hw)
      refine u277_9 ?_
      rw [hw1]
      refine ih (q + 1) c2 x3' x5' _ _ (by omega) (s1.tr s2') (h.scr hn s2').1 (hf.scr h hn s2') (ht.up h hn s2.up (by unfold xw; omega) (by unfold xw; omega) (fun y => by unfold xw; omega)) (hr.x_w s2) hi2 h0 (by omega)
    have b4 : ∀ (c2 : cs_S) (xv y9' : Int), c_sm (xw (gad G)) c1 c2 → (x_act (gT G) g ≠ 25 → ev (gT G) (x_env (gsl G) e0.2.1) 121 (x_a (gT G) g).toNat = some xv) → cw (D + 1) 277 (am_blk 277 4) [n, (g : Int), x_act (gT G) g, x3, 0, x5, 0, (q : Int), e0.2.2, xv, 0] [] c2 Q := by
      intro c2 xv y9' s2 hxv
      have b8 : ∀ (c3 : cs_S) (z : Int), c_sm (xw (gad G)) c1 c3 → (x_act (gT G) g = 27 → z = am_x (x5 + am_x (xv * e0.2.2))) → (x_act (gT G) g = 28 → z = if x3 = 0 then xv else min x5 xv) → (x_act (gT G) g = 29 → z = if x3 = 0 then xv else max x5 xv) → cw (D + 1) 277 (am_blk 277 8) [n, (g : Int), x_act (gT G) g, x3, 0, x5, 0, (q : Int), e0.2.2, xv, 0] [z] c3 Q := by
        intro c3 z s3 z27 z28 z29
        refine u277_8 ?_
        rw [hxa]
        refine b9 c3 _ _ _ s3 ?_ (by omega) (by omega)
        rw [hxp]
        by_cases e25 : x_act (gT G) g = 25
        · rw [e25] at hi ⊢
          exact a_inv_all hi
        · refine a_inv_some hi e25 (hxv e25) (by omega) (fun e => ?_) z28 z29
          rw [htn]; exact z27 e
      have lc := lc_iff x3 0
      refine u277_4 ⟨fun e27 => ⟨fun u => ⟨fun e28 => k_max2 (b8 c2 _ s2 (fun e => absurd e e27) (fun e => absurd e e28) (fun _ => ?_)), fun e28 => k_min2 (b8 c2 _ s2 (fun e => absurd e e27) (fun _ => ?_) (fun e => ?_))⟩, fun u => b8 c2 _ s2 (fun e => absurd e e27) (fun _ => ?_) (fun _ => ?_)⟩, fun e27 => b8 c2 _ s2 (fun _ => rfl) (fun e => ?_) (fun e => ?_)⟩
      · rw [if_neg (fun u2 => u (lc.1.mpr u2))]
      · rw [if_neg (fun u2 => u (lc.1.mpr u2))]
      · omega
      · rw [if_pos (lc.1.mp (by omega))]
      · rw [if_pos (lc.1.mp (by omega))]
      · omega
      · omega
    refine u277_1 ⟨h.rn hn, fun w => ?_, fun _ => ⟨h.rn hn, ?_⟩⟩
    · rw [ht.1] at w; omega
    rw [h.lft hn, h.out hl, f2, hmi]
    refine ⟨h.rn hl, h.rn hn, p2, by omega, by rw [p3]; exact hKq, h.rb (h.g9 hl), k_btimes (h.bag (h.g9 hl)) hBi ⟨fun e25 => ?_, fun e25 => ?_⟩⟩
    · obtain ⟨u1, u2, u3, t, ht1, -⟩ : 26 ≤ x_act (gT G) g ∧ x_act (gT G) g ≤ 29 ∧ x_lt (gT G) g (x_a (gT G) g) ∧ ∃ t, x_wt (gT G) (gsl G) (gct G) τ 121 (x_a (gT G) g).toNat t ∧ (x_act (gT G) g = 26 ∨ t ≠ 2) := by
        rcases hw with u | u
        · exact absurd u e25
        · exact u
      have hK := h.exk
      obtain ⟨-, va, -⟩ := hK.2.2 g hgN
      obtain ⟨ai, hai, haig⟩ := u3.nat
      rw [hai, Int.toNat_natCast] at ht1
      have hev : (x_a (gT G) g).toNat = ai := by rw [hai, Int.toNat_natCast]
      rw [hev] at b4 b9
      rw [h.exad hn, va, hai, h.lft hn, h.out hl, f2, hmi]
      have hN120 := hK.2.1
      refine ⟨h.rn hn, h.rn hn, hK.1.1, hK.1.2.2.1.1, by omega, by rw [hK.1.2.2.1.2]; omega, h.rn hn, h.rn hl, h.rn hn, p2, by omega, by rw [p3]; exact hKq, h.rb (h.g9 hl), k_brow (h.bag (h.g9 hl)) hBi ⟨hK.1.1, k_of1 h.t64 rg0 121 ai t D c1 _ ht1 (by omega) (by omega) hK (h.own (h.g9 hl) hmem hn).2.2.2 (fun c2 s2 n2 => u277_3 ⟨fun e => absurd e e25, fun _ => ?_⟩)⟩⟩
      have s2' : c_sm (scw G n) c1 c2 := s2.mono (fun q a hw => Or.inl hw)
      have I2 := (h.scr hn s2').1
      rw [I2.exad hn]
      refine ⟨I2.rn hn, I2.exk.1.1, u126_e ⟨I2.exk.1.1, fun w => ?_, fun w => ?_⟩⟩
      · rw [n2] at w
        have hnone : ev (gT G) (x_env (gsl G) e0.2.1) 121 ai = none := by
          cases hv : ev (gT G) (x_env (gsl G) e0.2.1) 121 ai with
          | none => rfl
          | some z => rw [hv] at w; exact absurd rfl w
        refine b9 c2 x3 x5 _ s2 ?_ hx0 (by omega)
        rw [hxp]
        rw [hev] at hi
        exact a_inv_none hi e25 hnone
      · rw [n2] at w
        cases hv : ev (gT G) (x_env (gsl G) e0.2.1) 121 ai with
        | none => rw [hv] at w; exact absurd (by decide) w
        | some z => exact b4 c2 z 0 s2 (fun _ => hv)
    · refine u277_3 ⟨fun _ => b4 c1 0 0 (c_sm.rf _ c1) (fun e => absurd e e25), fun e => absurd (by omega) e⟩
end
