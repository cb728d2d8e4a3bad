set_option maxRecDepth 100000
/-! nodes: joins, outer too -/
section
variable {G : nG} {c c' c2 : cs_S} {E E' : Int → bw_L} {P P' : List Int} {o o' o2 : Int → Int} {a b n r x : Int} {l m : rwt} {U L L' R R' F F' : List rwt} {Q : Int → cs_S → Prop} {d w D N Nl Nr : Nat} {τ τl τr : List Int} {t v z1 z2 s : Int}
theorem n_any (hn : n ∈ gA G) (hl : n_left (gX G) n ∈ gA G) (hr : n_right (gX G) n ∈ gA G) (hD : 260 ≤ D) (hc0 : 0 ≤ n_cond (gX G) n) (hc : n_cond (gX G) n < gN G) (hw : x_wt (gT G) (gsl G) (gct G) (τl ++ τr) 121 (n_cond (gX G) n).toNat t) (h24 : (τl ++ τr).length ≤ 24) {k : Nat} {e0 : Int × rwt × Int} (hke : (E (n_left (gX G) n + 9))[k]? = some e0) (hrow1 : rg τl e0.2.1) (hrow : ∀ e ∈ E (n_right (gX G) n + 9), rg τr e.2.1) : ∀ (m q : Nat) (c : cs_S), q + m = (E (n_right (gX G) n + 9)).length → NI G c E P o → (∀ e ∈ (E (n_right (gX G) n + 9)).take q, x_tr (gT G) (gsl G) (n_cond (gX G) n).toNat (e0.2.1 ++ e.2.1) = false) →
    (∀ c' (z q' : Int), c_sm (scw G n) c c' → (z = if (E (n_right (gX G) n + 9)).any (fun e => x_tr (gT G) (gsl G) (n_cond (gX G) n).toNat (e0.2.1 ++ e.2.1)) then 1 else 0) → cw (D + 1) 267 (am_blk 267 4) [n, (k : Int), z, q'] [] c' Q) → cw (D + 1) 267 (am_blk 267 3) [n, (k : Int), 0, (q : Int)] [] c Q := by
  intro m
  induction m with
  | zero =>
    intro q c hk h hno kk
    rw [List.take_of_length_le (by omega)] at hno
    refine u267_3 ⟨h.rn hn, ?_⟩
    rw [h.rgt hn, h.out hr]
    refine ⟨h.rn hr, h.rb (h.g9 hr), k_bsize (h.bag (h.g9 hr)) ⟨fun _ => kk c 0 _ (c_sm.rf _ c) ?_, fun w => absurd (by omega) w⟩⟩
    rw [if_neg]
    simp only [List.any_eq_true, not_exists, not_and, Bool.not_eq_true]
    exact hno
  | succ m ih =>
    intro q c hk h hno kk
    have hk1 : q < (E (n_right (gX G) n + 9)).length := by omega
    have hg := List.getElem?_eq_getElem hk1
    generalize hE : (E (n_right (gX G) n + 9))[q] = e1 at *
    have hmem : e1 ∈ E (n_right (gX G) n + 9) := List.mem_of_getElem? hg
    have hmema : e0 ∈ E (n_left (gX G) n + 9) := List.mem_of_getElem? hke
    have hlb := h.le (h.g9 hr)
    obtain ⟨p1, p2, p3, p4⟩ := h.own (h.g9 hl) hmema hn
    obtain ⟨q1, q2, q3, q4⟩ := h.own (h.g9 hr) hmem hn
    have hlen : e0.2.1.length + e1.2.1.length ≤ 24 := by
      rw [hrow1.1, (hrow e1 hmem).1]; rw [List.length_append] at h24; exact h24
    refine u267_3 ⟨h.rn hn, ?_⟩
    rw [h.rgt hn, h.out hr]
    refine ⟨h.rn hr, h.rb (h.g9 hr), k_bsize (h.bag (h.g9 hr)) ⟨fun w => absurd w (by omega), fun _ => ⟨fun w => absurd rfl w, fun _ => ⟨h.rn hn, ?_⟩⟩⟩⟩
    rw [h.lft hn, h.out hl]
    refine ⟨h.rn hl, h.rb (h.g9 hl), k_brow (h.bag (h.g9 hl)) hke ⟨h.rn hn, ?_⟩⟩
    rw [h.rgt hn, h.out hr]
    refine ⟨h.rn hr, h.rb (h.g9 hr), k_brow (h.bag (h.g9 hr)) hg ⟨h.rn hn, ?_⟩⟩
    obtain ⟨d, rfl⟩ : ∃ d, D = d + 1 := ⟨D - 1, by omega⟩
    refine n_pair h hn (by omega) hc0 hc hw p4 q4 p1 q1 (hrow1.app (hrow e1 hmem)) hlen (fun c1 s1 r1 => ?_)
    obtain ⟨I1, x1⟩ := h.scr hn s1
    rw [am_w1 (by omega)]
    by_cases p : x_tr (gT G) (gsl G) (n_cond (gX G) n).toNat (e0.2.1 ++ e1.2.1) = true
    · rw [if_pos p]
      have hany : (E (n_right (gX G) n + 9)).any (fun e => x_tr (gT G) (gsl G) (n_cond (gX G) n).toNat (e0.2.1 ++ e.2.1)) = true := List.any_eq_true.mpr ⟨e1, hmem, p⟩
      refine u267_3 ⟨I1.rn hn, ?_⟩
      rw [I1.rgt hn, I1.out hr]
      refine ⟨I1.rn hr, I1.rb (I1.g9 hr), k_bsize (I1.bag (I1.g9 hr)) ⟨fun _ => kk c1 1 _ s1 ?_, fun _ => ⟨fun _ => kk c1 1 _ s1 ?_, fun w => absurd (by decide) w⟩⟩⟩
      · rw [if_pos hany]
      · rw [if_pos hany]
    · rw [if_neg p]
      refine ih (q + 1) c1 (by omega) I1 (fun e he => ?_) (fun c' z q' s2 hz => kk c' z q' (s1.tr s2) hz)
      rw [List.take_succ_eq_append_getElem hk1, hE] at he
      rcases List.mem_append.mp he with u | u
      · exact hno e u
      · simp at u; subst u; simpa using p
theorem n_alone0 (hn : n ∈ gA G) (hl : n_left (gX G) n ∈ gA G) (hr : n_right (gX G) n ∈ gA G) (hnl : n_left (gX G) n + 9 ≠ n + 18) (hnr : n_right (gX G) n + 9 ≠ n + 18) (hD : 270 ≤ D) (hc0 : 0 ≤ n_cond (gX G) n) (hc : n_cond (gX G) n < gN G) (hw : x_wt (gT G) (gsl G) (gct G) (τl ++ τr) 121 (n_cond (gX G) n).toNat t) (h24 : (τl ++ τr).length ≤ 24) (hwd : n_wide (gX G) n = (τr.length : Int)) (hcap : (U.length : Int) ≤ gcp G (n + 18)) : ∀ (m k : Nat) (c : cs_S) (E : Int → bw_L) (P : List Int) (o : Int → Int) (y2 y3 : Int), k + m = (E (n_left (gX G) n + 9)).length → NI G c E P o → b_ok (τl ++ τr).length (bw_p (E (n + 18))) → (∀ e ∈ E (n_left (gX G) n + 9), rg τl e.2.1 ∧ (((E (n_right (gX G) n + 9)).any (fun e' => x_tr (gT G) (gsl G) (n_cond (gX G) n).toNat (e.2.1 ++ e'.2.1)) = false) → e.2.1 ++ List.replicate τr.length none ∈ U)) → (∀ e ∈ E (n_right (gX G) n + 9), rg τr e.2.1) → (∀ e ∈ E (n + 18), e.2.1 ∈ U) → b_m (bw_p (E (n + 18))) + b_m (bw_p ((E (n_left (gX G) n + 9)).drop k)) < 2147483648 →
    (∀ c' E' P' o', NI G c' E' P' o' → nx c o c' o' → (∀ a, a ≠ n + 18 → E' a = E a) → b_ok (τl ++ τr).length (bw_p (E' (n + 18))) → (∀ g, b_s g (bw_p (E' (n + 18))) = b_s g (bw_p (E (n + 18))) + b_s (fun y => if (E (n_right (gX G) n + 9)).any (fun e' => x_tr (gT G) (gsl G) (n_cond (gX G) n).toNat (y ++ e'.2.1)) then 0 else g (y ++ List.replicate τr.length none)) (bw_p ((E (n_left (gX G) n + 9)).drop k))) → knode_differ D n c' (fun _ c2 => Q 0 c2)) → cw (D + 1) 267 (am_blk 267 2) [n, (k : Int), y2, y3] [] c Q := by
  intro m
  induction m with
  | zero =>
    intro k c E P o y2 y3 hk h hs hrow hrowr hU hm kk
    have e1 : (E (n_left (gX G) n + 9)).drop k = [] := List.drop_of_length_le (by omega)
    refine u267_2 ⟨h.rn hn, ?_⟩
    rw [h.lft hn, h.out hl]
    refine ⟨h.rn hl, h.rb (h.g9 hl), k_bsize (h.bag (h.g9 hl)) ⟨fun _ => ⟨h.rn hn, kk c E P o h (nx.rf c o) (fun _ _ => rfl) hs (fun g => ?_)⟩, fun w => absurd (by omega) w⟩⟩
    rw [e1]; show _ = _ + 0; omega
  | succ m ih =>
    intro k c E P o y2 y3 hk h hs hrow hrowr hU hm kk
    have hk1 : k < (E (n_left (gX G) n + 9)).length := by omega
    have hg := List.getElem?_eq_getElem hk1
    have hd := List.drop_eq_getElem_cons hk1
    generalize hE : (E (n_left (gX G) n + 9))[k] = e0 at *
    have hmem : e0 ∈ E (n_left (gX G) n + 9) := List.mem_of_getElem? hg
    have hlb := h.le (h.g9 hl)
    have hmd : b_m (bw_p ((E (n_left (gX G) n + 9)).drop k)) = e0.2.2.natAbs + b_m (bw_p ((E (n_left (gX G) n + 9)).drop (k + 1))) := by rw [hd, bp_cons, b_m_cons]
    have hpos := b_m_pos (L := bw_p ((E (n_left (gX G) n + 9)).drop (k + 1)))
    have hpos2 := b_m_pos (L := bw_p (E (n + 18)))
    refine u267_2 ⟨h.rn hn, ?_⟩
    rw [h.lft hn, h.out hl]
    refine ⟨h.rn hl, h.rb (h.g9 hl), k_bsize (h.bag (h.g9 hl)) ⟨fun w => absurd w (by omega), fun _ => ?_⟩⟩
    refine n_any (τl := τl) (τr := τr) hn hl hr (by omega) hc0 hc hw h24 hg (hrow e0 hmem).1 hrowr (E (n_right (gX G) n + 9)).length 0 c (by omega) h (fun e he => by simp at he) (fun c1 z q' s1 hz => ?_)
    obtain ⟨I1, x1⟩ := h.scr hn s1
    have hw1 := am_w1 (k := k) (by omega)
    by_cases p : (E (n_right (gX G) n + 9)).any (fun e => x_tr (gT G) (gsl G) (n_cond (gX G) n).toNat (e0.2.1 ++ e.2.1)) = true
    · rw [if_pos p] at hz
      subst hz
      refine u267_4 ⟨fun _ => u267_5 ?_, fun w => absurd (by decide) w⟩
      rw [hw1]
      refine ih (k + 1) c1 E P o 1 q' (by omega) I1 hs hrow hrowr hU (by omega) (fun c3 E3 P3 o3 I3 x3 ea3 hs3 hb3 => ?_)
      refine kk c3 E3 P3 o3 I3 (x1.tr x3) ea3 hs3 (fun g => ?_)
      rw [hb3, hd, bp_cons, b_s_cons, if_pos p]; omega
    · rw [if_neg p] at hz
      subst hz
      obtain ⟨q1, q2, q3, q4⟩ := I1.own (I1.g9 hl) hmem hn
      obtain ⟨d, rfl⟩ : ∃ d, D = d + 4 := ⟨D - 4, by omega⟩
      refine u267_4 ⟨fun w => absurd rfl w, fun _ => ⟨I1.rn hn, I1.rn hn, ?_⟩⟩
      rw [I1.lft hn, I1.out hl, I1.row hn]
      refine ⟨I1.rn hl, I1.rb (I1.g9 hl), k_brow (I1.bag (I1.g9 hl)) hg ⟨(I1.rowok hn).1, k_take (d := d + 2) q4 (I1.rowok hn) q1 (fun c2 s2 r2 _ => ?_)⟩⟩
      obtain ⟨I2, x2⟩ := I1.scr hn (s2.mono (fun q a hw => Or.inr (Or.inl hw)))
      rw [I2.row hn]
      have ew : c_v c2 416 n 0 = (τr.length : Int) := by rw [(I2.nd hn).2.2.2.2.2.2.2.2.1]; exact hwd
      rw [ew]
      have hlen0 := (hrow e0 hmem).1.1
      refine ⟨I2.rn hn, I2.rn hn, r2.1.1, k_nulls (d := d + 3) r2 (by rw [hlen0]; rw [List.length_append] at h24; exact h24) (fun c3 s3 r3 => ?_)⟩
      obtain ⟨I3, x3⟩ := I2.scr hn (s3.mono (fun q a hw => Or.inr (Or.inl hw)))
      rw [I3.lft hn, I3.out hl, I3.row hn, I3.frs hn]
      refine ⟨I3.rn hn, I3.rn hn, I3.rn hn, I3.rn hl, I3.rb (I3.g9 hl), k_btimes (I3.bag (I3.g9 hl)) hg ⟨I3.rb (I3.g18 hn), ?_⟩⟩
      have p' : (E (n_right (gX G) n + 9)).any (fun e => x_tr (gT G) (gsl G) (n_cond (gX G) n).toNat (e0.2.1 ++ e.2.1)) = false := by simpa using p
      refine n_add I3 (I3.g18 hn) hs r3 (by rw [List.length_append, List.length_append, hlen0, List.length_replicate]) (by rw [I3.or1 hn]; decide) hU ((hrow e0 hmem).2 p') hcap (by omega) (fun c4 E4 P4 o4 I4 b4 ea4 hs4 hb4 hm4 hU4 => u267_5 ?_)
      have eL : E4 (n_left (gX G) n + 9) = E (n_left (gX G) n + 9) := ea4 _ hnl
      have eR : E4 (n_right (gX G) n + 9) = E (n_right (gX G) n + 9) := ea4 _ hnr
      rw [hw1]
      refine ih (k + 1) c4 E4 P4 o4 0 q' (by rw [eL]; omega) I4 hs4 (by rw [eL, eR]; exact hrow) (by rw [eR]; exact hrowr) hU4 (by rw [eL]; omega) (fun c5 E5 P5 o5 I5 x5 ea5 hs5 hb5 => ?_)
      refine kk c5 E5 P5 o5 I5 ((((x1.tr x2).tr x3).tr b4.nx).tr x5) (fun y hy => (ea5 y hy).trans (ea4 y hy)) hs5 (fun g => ?_)
      rw [hb5, hb4, eL, eR, hd, bp_cons, b_s_cons, if_neg p]; omega
theorem any_iff (hs : b_ok w (bw_p (E a))) (hi : b_is (bw_p (E a)) R) (p : rwt → Bool) : (E a).any (fun e => p e.2.1) = R.any p := by
  rw [Bool.eq_iff_iff, List.any_eq_true, List.any_eq_true]
  constructor
  · rintro ⟨e, he, q⟩
    exact ⟨e.2.1, (hi.mem hs (bp_mem he)).2, q⟩
  · rintro ⟨y, hy, q⟩
    obtain ⟨k, hk, -⟩ := hi.has hs hy
    obtain ⟨e, he, ee⟩ := List.mem_map.mp hk
    refine ⟨e, he, ?_⟩
    have : e.2.1 = y := by rw [ee]
    rw [this]; exact q
theorem j_in_mem {on : rwt → Bool} {y : rwt} : y ∈ j_in on L R ↔ ∃ a ∈ L, ∃ b ∈ R, y = a ++ b ∧ on y = true := by
  unfold j_in
  rw [List.mem_flatMap]
  constructor
  · rintro ⟨a, ha, h⟩
    obtain ⟨h1, h2⟩ := List.mem_filter.mp h
    obtain ⟨b, hb, rfl⟩ := List.mem_map.mp h1
    exact ⟨a, ha, b, hb, rfl, h2⟩
  · rintro ⟨a, ha, b, hb, rfl, h⟩
    exact ⟨a, ha, List.mem_filter.mpr ⟨List.mem_map.mpr ⟨b, hb, rfl⟩, h⟩⟩
theorem j_in_len {on : rwt → Bool} : (j_in on L R).length ≤ L.length * R.length := by
  unfold j_in
  induction L with
  | nil => simp
  | cons a K ih =>
    rw [List.flatMap_cons, List.length_append, List.length_cons, Nat.add_mul, Nat.one_mul]
    have := List.length_filter_le on (R.map (fun b => a ++ b))
    rw [List.length_map] at this
    omega
theorem j_al_len {on : rwt → Bool} : (j_al on w L R).length ≤ L.length := by
  unfold j_al
  rw [List.length_map]
  exact List.length_filter_le _ _
theorem b_pr_neg {on : rwt → Bool} {g : rwt → Int} {A B : List (rwt × Int)} : (-1) * b_pr on g A B = - b_pr on g A B := by omega
/-- the join's difference -/
theorem n_join (h : NI G c E P o) (hn : n ∈ gA G) (hl : n_left (gX G) n ∈ gA G) (hr : n_right (gX G) n ∈ gA G) (h1 : n_left (gX G) n + 21 ≤ n) (h2 : n_right (gX G) n + 21 ≤ n) (hD : 280 ≤ D) (hc0 : 0 ≤ n_cond (gX G) n) (hc : n_cond (gX G) n < gN G) (hw : x_wt (gT G) (gsl G) (gct G) (τl ++ τr) 121 (n_cond (gX G) n).toNat t) (h24 : (τl ++ τr).length ≤ 24) (hwd : n_wide (gX G) n = (τr.length : Int))
    (hL : ch_ok E (n_left (gX G) n) τl Nl L' L) (hR : ch_ok E (n_right (gX G) n) τr Nr R' R) (hN1 : 1 ≤ Nr) (hN : Nl * Nr ≤ 512) (hN2 : Nl ≤ 512) (hN3 : Nr ≤ 512) (hz : E (n + 12) = []) (hcap : 6 * ((Nl * Nr : Nat) : Int) ≤ gcp G (n + 12)) (hcap2 : ((Nl * Nr : Nat) : Int) ≤ gcp G (n + 15)) (hcap3 : ((Nl * Nr : Nat) : Int) ≤ gcp G (n + 18))
    (hal : n_isL (gX G) n ≠ 0 → b_ok (τl ++ τr).length (bw_p (E (n + 15))) ∧ b_is (bw_p (E (n + 15))) (j_al (x_tr (gT G) (gsl G) (n_cond (gX G) n).toNat) τr.length L R))
    (kk : ∀ c' E' P' o', NI G c' E' P' o' → nx c o c' o' → (∀ a, a ≠ n + 12 → a ≠ n + 15 → a ≠ n + 18 → E' a = E a) → b_ok (τl ++ τr).length (bw_p (E' (n + 12))) → b_df (bw_p (E' (n + 12))) (j_rows (x_tr (gT G) (gsl G) (n_cond (gX G) n).toNat) (decide (n_isL (gX G) n ≠ 0)) τr.length L' R') (j_rows (x_tr (gT G) (gsl G) (n_cond (gX G) n).toNat) (decide (n_isL (gX G) n ≠ 0)) τr.length L R) → (n_isL (gX G) n ≠ 0 → b_ok (τl ++ τr).length (bw_p (E' (n + 15))) ∧ b_is (bw_p (E' (n + 15))) (j_al (x_tr (gT G) (gsl G) (n_cond (gX G) n).toNat) τr.length L' R')) → Q 0 c') : knode_join (D + 1) n c Q := by
  obtain ⟨d, rfl⟩ : ∃ d, D = d + 2 := ⟨D - 2, by omega⟩
  generalize hon : x_tr (gT G) (gsl G) (n_cond (gX G) n).toNat = on at *
  have hU0 : ((j_in on (L' ++ L) (R' ++ R) ++ (j_al on τr.length L' R' ++ j_al on τr.length L R)).length : Int) ≤ gcp G (n + 12) := by
    have a1 := j_in_len (on := on) (L := L' ++ L) (R := R' ++ R)
    have a2 := j_al_len (on := on) (w := τr.length) (L := L') (R := R')
    have a3 := j_al_len (on := on) (w := τr.length) (L := L) (R := R)
    have b1 := hL.2.2.2.2.2.2.1
    have b2 := hL.2.2.2.2.2.2.2
    have b3 := hR.2.2.2.2.2.2.1
    have b4 := hR.2.2.2.2.2.2.2
    have a4 : (L' ++ L).length * (R' ++ R).length ≤ (2 * Nl) * (2 * Nr) := Nat.mul_le_mul (by rw [List.length_append]; omega) (by rw [List.length_append]; omega)
    have a5 : (2 * Nl) * (2 * Nr) = 4 * (Nl * Nr) := by rw [Nat.mul_mul_mul_comm]
    have a6 : Nl ≤ Nl * Nr := Nat.le_mul_of_pos_right _ hN1
    rw [List.length_append, List.length_append]
    omega
  generalize hUd : j_in on (L' ++ L) (R' ++ R) ++ (j_al on τr.length L' R' ++ j_al on τr.length L R) = U at *
  have hUp : ∀ x y, (x ∈ L' ∨ x ∈ L) → (y ∈ R' ∨ y ∈ R) → on (x ++ y) = true → x ++ y ∈ U := by
    intro x y hx hy hxy
    rw [← hUd]
    exact List.mem_append_left _ (j_in_mem.mpr ⟨x, List.mem_append.mpr hx, y, List.mem_append.mpr hy, rfl, hxy⟩)
  have ml := hL.dm
  have mr := hR.dm
  have olm := hL.om
  have orm := hR.om
  refine u267_e ⟨h.rn hn, ?_⟩
  rw [h.lft hn, h.rgt hn, h.dlt hl, h.out hr]
  refine ⟨h.rn hl, h.rn hn, h.rn hr, h.rn hn, n_pairs (U := U) (τl := τl) (τr := τr) h hn (h.g12 hl) (h.g9 hr) (by omega) (by omega) (by omega) (Or.inl rfl) hc0 hc hw h24 hU0 (by rw [hz]; exact b_ok_nil _) (fun e he => (hL.rows he).1) (fun e he => (hR.orows he).1) (fun e he e' he' q => hUp _ _ (hL.rows he).2 (Or.inl (hR.orows he').2.1) (by rw [hon] at q; exact q)) (by rw [hz]; intro e he; cases he) (by omega) (by omega) (by rw [hz]; show (0 : Int) ≤ _; omega) (fun c1 E1 P1 o1 I1 x1 ea1 hs1 hb1 hm1 hU1 => ?_)⟩
  have f1 : ∀ y, y ≠ n + 12 → E1 y = E y := ea1
  rw [hz] at hm1 hb1
  have hm1 : b_m (bw_p (E1 (n + 12))) ≤ 16777216 := by have : b_m (bw_p ([] : bw_L)) = 0 := rfl; omega
  rw [I1.lft hn, I1.rgt hn, I1.out hl, I1.dlt hr]
  have l9 : E1 (n_left (gX G) n + 9) = E (n_left (gX G) n + 9) := f1 _ (by omega)
  have l12 : E1 (n_left (gX G) n + 12) = E (n_left (gX G) n + 12) := f1 _ (by omega)
  have r9 : E1 (n_right (gX G) n + 9) = E (n_right (gX G) n + 9) := f1 _ (by omega)
  have r12 : E1 (n_right (gX G) n + 12) = E (n_right (gX G) n + 12) := f1 _ (by omega)
  refine ⟨I1.rn hn, I1.rn hl, I1.rn hn, I1.rn hr, I1.rn hn, n_pairs (U := U) (τl := τl) (τr := τr) I1 hn (I1.g9 hl) (I1.g12 hr) (by omega) (by omega) (by omega) (Or.inl rfl) hc0 hc hw h24 hU0 hs1 (by rw [l9]; exact fun e he => (hL.orows he).1) (by rw [r12]; exact fun e he => (hR.rows he).1) (by rw [l9, r12]; exact fun e he e' he' q => hUp _ _ (Or.inl (hL.orows he).2.1) (hR.rows he').2 (by rw [hon] at q; exact q)) hU1 (by rw [l9]; omega) (by rw [r12]; omega) (by omega) (fun c2 E2 P2 o2 I2 x2 ea2 hs2 hb2 hm2 hU2 => ?_)⟩
  rw [I2.lft hn, I2.rgt hn, I2.dlt hl, I2.dlt hr]
  have f2 : ∀ y, y ≠ n + 12 → E2 y = E y := fun y hy => (ea2 y hy).trans (f1 y hy)
  have l12' : E2 (n_left (gX G) n + 12) = E (n_left (gX G) n + 12) := f2 _ (by omega)
  have r12' : E2 (n_right (gX G) n + 12) = E (n_right (gX G) n + 12) := f2 _ (by omega)
  refine ⟨I2.rn hn, I2.rn hl, I2.rn hn, I2.rn hr, I2.rn hn, n_pairs (U := U) (τl := τl) (τr := τr) I2 hn (I2.g12 hl) (I2.g12 hr) (by omega) (by omega) (by omega) (Or.inr rfl) hc0 hc hw h24 hU0 hs2 (by rw [l12']; exact fun e he => (hL.rows he).1) (by rw [r12']; exact fun e he => (hR.rows he).1) (by rw [l12', r12']; exact fun e he e' he' q => hUp _ _ (hL.rows he).2 (hR.rows he').2 (by rw [hon] at q; exact q)) hU2 (by rw [l12']; omega) (by rw [r12']; omega) (by omega) (fun c3 E3 P3 o3 I3 x3 ea3 hs3 hb3 hm3 hU3 => ?_)⟩
  have f3 : ∀ y, y ≠ n + 12 → E3 y = E y := fun y hy => (ea3 y hy).trans (f2 y hy)
  have hin : b_df (bw_p (E3 (n + 12))) (j_in on L' R') (j_in on L R) := by
    refine j_df (DA := bw_p (E (n_left (gX G) n + 12))) (DB := bw_p (E (n_right (gX G) n + 12))) (BA := bw_p (E (n_left (gX G) n + 9))) (BB := bw_p (E (n_right (gX G) n + 9))) hL.2.2.2.1 hR.2.2.2.1 hL.2.1 hR.2.1 (fun g => ?_)
    rw [hb3, hb2, hb1, l9, r12, l12', r12', hon, b_pr_neg, Int.one_mul, Int.one_mul]
    show 0 + _ + _ + _ = _
    omega
  have x13 := (x1.tr x2).tr x3
  have eisl : c_v c3 415 n 0 = n_isL (gX G) n := (I3.nd hn).2.2.2.2.2.2.2.1
  rw [eisl, I3.frs hn]
  refine ⟨I3.rn hn, fun hil => ⟨I3.rn hn, I3.rb (I3.g18 hn), n_clear (d := d) I3 (I3.g18 hn) (fun c4 E4 P4 o4 I4 b4 ea4 hz4 => ?_)⟩, fun hil => ?_⟩
  · obtain ⟨hs15, hi15⟩ := hal hil
    have f4 : ∀ y, y ≠ n + 12 → y ≠ n + 18 → E4 y = E y := fun y hy1 hy2 => (ea4 y hy2).trans (f3 y hy1)
    have l9' : E4 (n_left (gX G) n + 9) = E (n_left (gX G) n + 9) := f4 _ (by omega) (by omega)
    have r9' : E4 (n_right (gX G) n + 9) = E (n_right (gX G) n + 9) := f4 _ (by omega) (by omega)
    have e12 : E4 (n + 12) = E3 (n + 12) := ea4 _ (by omega)
    have e15 : E4 (n + 15) = E (n + 15) := f4 _ (by omega) (by omega)
    have ha : ∀ y : rwt, (E (n_right (gX G) n + 9)).any (fun e' => on (y ++ e'.2.1)) = R'.any (fun b => on (y ++ b)) := fun y => any_iff hR.1 hR.2.1 (fun b => on (y ++ b))
    have b1 := hL.2.2.2.2.2.2.1
    have b2 := hL.2.2.2.2.2.2.2
    have a6 : Nl ≤ Nl * Nr := Nat.le_mul_of_pos_right _ hN1
    have a2 := j_al_len (on := on) (w := τr.length) (L := L') (R := R')
    have a3 := j_al_len (on := on) (w := τr.length) (L := L) (R := R)
    refine n_alone0 (U := j_al on τr.length L' R') (τl := τl) (τr := τr) hn hl hr (by omega) (by omega) (by omega) hc0 hc hw h24 hwd (by omega) (E4 (n_left (gX G) n + 9)).length 0 c4 E4 P4 o4 0 0 (by omega) I4 (by rw [hz4]; exact b_ok_nil _) ?_ (by rw [r9']; exact fun e he => (hR.orows he).1) (by rw [hz4]; intro e he; cases he) (by rw [hz4, List.drop_zero, l9']; show (0 : Int) + _ < _; omega) (fun c5 E5 P5 o5 I5 x5 ea5 hs5 hb5 => ?_)
    · rw [l9', r9', hon]
      intro e he
      refine ⟨(hL.orows he).1, fun q => ?_⟩
      rw [ha] at q
      unfold j_al
      exact List.mem_map.mpr ⟨e.2.1, List.mem_filter.mpr ⟨(hL.orows he).2.1, by simp [q]⟩, rfl⟩
    · rw [hz4, List.drop_zero, l9', r9', hon] at hb5
      have hi18 : b_is (bw_p (E5 (n + 18))) (j_al on τr.length L' R') := by
        intro g
        rw [hb5, j_al_ls]
        have e1 : b_s (fun y => if (E (n_right (gX G) n + 9)).any (fun e' => on (y ++ e'.2.1)) then 0 else g (y ++ List.replicate τr.length none)) (bw_p (E (n_left (gX G) n + 9))) = b_s (fun y => if R'.any (fun b => on (y ++ b)) then 0 else g (y ++ List.replicate τr.length none)) (bw_p (E (n_left (gX G) n + 9))) := b_s_congr (fun e _ => by rw [ha])
        rw [e1, hL.2.1]
        show 0 + _ = _
        omega
      have g12 : E5 (n + 12) = E3 (n + 12) := (ea5 _ (by omega)).trans e12
      have g15 : E5 (n + 15) = E (n + 15) := (ea5 _ (by omega)).trans e15
      have um : ∀ x ∈ j_al on τr.length L R, x ∈ U := fun x hx => by rw [← hUd]; exact List.mem_append_right _ (List.mem_append_right _ hx)
      have um' : ∀ x ∈ j_al on τr.length L' R', x ∈ U := fun x hx => by rw [← hUd]; exact List.mem_append_right _ (List.mem_append_left _ hx)
      refine n_differ (D := d + 1) (U := U) (F := j_al on τr.length L R) (F' := j_al on τr.length L' R') (w := (τl ++ τr).length) I5 hn (by omega) hU0 (by omega) (by rw [g12]; exact hs3) (by rw [g12]; exact hU3) (by rw [g15]; exact hs15) (by rw [g15]; exact hi15) um hs5 hi18 um' (by omega) (by omega) (by rw [g12]; omega) (fun c6 E6 P6 o6 I6 b6 ea6 hs6 hb6 hU6 hs7 hi7 => ?_)
      refine kk c6 E6 P6 o6 I6 (((x13.tr b4.nx).tr x5).tr b6.nx) (fun y h12 h15 h18 => ?_) hs6 (fun g => ?_) (fun _ => ⟨hs7, hi7⟩)
      · rw [ea6 y h12 h15, ea5 y h18, f4 y h12 h18]
      · rw [hb6, g12, hin g, j_rows_ls, j_rows_ls, if_pos (by simp [hil]), if_pos (by simp [hil])]
        omega
  · refine kk c3 E3 P3 o3 I3 x13 (fun y h12 _ _ => f3 y h12) hs3 (fun g => ?_) (fun q => absurd q hil)
    rw [hin g, j_rows_ls, j_rows_ls, if_neg (by simp at hil; simp [hil]), if_neg (by simp at hil; simp [hil])]
    omega
end
