set_option maxRecDepth 100000
theorem am_more1 : ∀ (f d y : Nat) (l : List am_I) (ls st : List am_V) (h : am_H) (r : am_R), am_run f d y l ls st h = some r → am_run (f + 1) d y l ls st h = some r := by
  intro f
  induction f with
  | zero => intro d y l ls st h r hr; cases hr
  | succ f ih =>
    intro d y l ls st h r hr
    cases l with
    | nil => cases hr
    | cons c l' =>
      obtain ⟨i, r0, pc⟩ := c
      unfold am_run at hr ⊢
      dsimp only at hr ⊢
      split at hr
      · split at hr
        · exact ih _ _ _ _ _ _ _ hr
        · cases hr
      · split at hr
        · exact ih _ _ _ _ _ _ _ hr
        · exact ih _ _ _ _ _ _ _ hr
        · cases hr
      · exact hr
      · split at hr
        · rename_i d' kd y' n
          split at hr
          · rename_i c0
            rw [if_pos c0]
            split at hr
            · split at hr
              · rename_i c1
                rw [if_pos c1]
                exact ih _ _ _ _ _ _ _ hr
              · cases hr
            · cases hr
          · rename_i c0
            rw [if_neg c0]
            split at hr
            · rename_i c1
              rw [if_pos c1]
              split at hr
              · exact ih _ _ _ _ _ _ _ hr
              · cases hr
            · rename_i c1
              rw [if_neg c1]
              split at hr
              · rename_i c3
                rw [if_pos c3]
                split at hr
                · rename_i e; rw [ih _ _ _ _ _ _ _ e]; exact ih _ _ _ _ _ _ _ hr
                · cases hr
              · cases hr
        · cases hr
theorem am_more {f g d y : Nat} {l : List am_I} {ls st : List am_V} {h : am_H} {r : am_R} (hr : am_run f d y l ls st h = some r) (hg : f ≤ g) : am_run g d y l ls st h = some r := by
  obtain ⟨k, rfl⟩ := Nat.le.dest hg
  induction k with
  | zero => exact hr
  | succ k ih => exact am_more1 _ _ _ _ _ _ _ _ (ih (Nat.le_add_right _ _))
/-- it comes to an answer -/
def am_ev (d y : Nat) (l : List am_I) (ls st : List am_V) (h : am_H) (r : am_R) : Prop := ∃ f : Nat, am_run f d y l ls st h = some r
section
variable {d y : Nat} {i : Instr} {r : List Int} {pc : Nat} {l : List am_I} {ls st ls' st' : List am_V} {h h' : am_H} {R : am_R}
theorem am_ev.sp (hk : am_kd i = 0) (he : am_st i r ls st h = some (ls', st', h')) (k : am_ev d y l ls' st' h' R) : am_ev d y ((i, r, pc) :: l) ls st h R := by
  obtain ⟨f, hr⟩ := k
  refine ⟨f + 1, ?_⟩
  unfold am_run
  dsimp only
  rw [hk]
  try dsimp only
  rw [he]
  exact hr
theorem am_ev.jm {b : Int} (hk : am_kd i = 1) (he : am_br i r st = some (some b, st')) (k : am_ev d y (am_blk y b.toNat) ls st' h R) : am_ev d y ((i, r, pc) :: l) ls st h R := by
  obtain ⟨f, hr⟩ := k
  refine ⟨f + 1, ?_⟩
  unfold am_run
  dsimp only
  rw [hk]
  try dsimp only
  rw [he]
  exact hr
theorem am_ev.go (hk : am_kd i = 1) (he : am_br i r st = some (none, st')) (k : am_ev d y l ls st' h R) : am_ev d y ((i, r, pc) :: l) ls st h R := by
  obtain ⟨f, hr⟩ := k
  refine ⟨f + 1, ?_⟩
  unfold am_run
  dsimp only
  rw [hk]
  try dsimp only
  rw [he]
  exact hr
theorem am_ev.rt (hk : am_kd i = 2) (he : am_ret i (am_rt y) st h = some R) : am_ev d y ((i, r, pc) :: l) ls st h R := by
  refine ⟨1, ?_⟩
  unfold am_run
  dsimp only
  rw [hk]
  exact he
theorem am_ev.ct {kd y' n : Int} {v : Option am_V} (hk : am_kd i = 3) (h6 : kd ≠ 6) (h7 : kd ≠ 7) (c1 : (st.take n.toNat).length = n.toNat) (c2 : am_cats (st.drop n.toNat) ≤ 8) (c3 : am_rcv kd y'.toNat (st.take n.toNat).reverse h = true) (c4 : (am_exp (st.take n.toNat)).length ≤ am_ml y'.toNat)
    (ke : am_ev d y'.toNat (am_blk y'.toNat 0) (am_ent y'.toNat (st.take n.toNat).reverse) [] h (v, h')) (k : am_ev (d + 1) y l ls (am_push v (st.drop n.toNat)) h' R) : am_ev (d + 1) y ((i, [kd, y', n], pc) :: l) ls st h R := by
  obtain ⟨f, hr⟩ := ke
  obtain ⟨g, hg⟩ := k
  refine ⟨max f g + 1, ?_⟩
  unfold am_run
  dsimp only
  rw [hk]
  show (if kd = 6 then _ else _) = _
  rw [if_neg h6, if_neg h7, if_pos ⟨c1, c2, c3, c4⟩, am_more hr (Nat.le_max_left f g)]
  exact am_more hg (Nat.le_max_right f g)
end
section
variable {L : Int} {xs : Int → Int} {h : am_H}
theorem am_S_k (H : am_hok L xs h) {s : Int} (hs : st_is s) : am_k h s = 100 ∧ am_k h (s - 1) = 17 ∧ am_l h (s - 1) = st_len s ∧ ∀ i, am_v h (s - 1) i = st_at s i := by
  unfold st_is at hs
  obtain ⟨g1, -, -⟩ := H.2.2.2.2 s (by omega)
  obtain ⟨f1, f2, f3⟩ := H.2.2.2.2 (s - 1) (by omega)
  have e : am_si (s - 1) = am_si s := by unfold am_si; omega
  refine ⟨?_, ?_, ?_, fun i => ?_⟩
  · rw [g1]; unfold am_k0; rw [if_neg (by omega), if_pos (by omega), if_pos (by omega)]
  · rw [f1]; unfold am_k0; rw [if_neg (by omega), if_pos (by omega), if_neg (by omega)]
  · rw [f2]; unfold am_l0; rw [if_neg (by omega), if_pos (by omega), e]; rfl
  · rw [f3]; unfold am_v0; rw [if_neg (by omega), e]; rfl
theorem am_S_gf (H : am_hok L xs h) {s : Int} (hs : st_is s) {x : Nat} {k : Int} {ls q : List am_V} : am_st (.getfield x) [100, k] ls ((2, s) :: q) h = some (ls, (if k = 0 then (2, s - 1) else (0, 0)) :: q, h) := by
  show (if am_k h s = 100 then (if k = 0 then some (ls, (2, s - 1) :: q, h) else some (ls, (0, 0) :: q, h)) else none) = _
  rw [if_pos (am_S_k H hs).1]
  split <;> rfl
theorem am_S_al (H : am_hok L xs h) {s : Int} (hs : st_is s) {ls q : List am_V} : am_st .arraylength [] ls ((2, s - 1) :: q) h = some (ls, (0, st_len s) :: q, h) := by
  have e := am_S_k H hs
  show (if 16 ≤ am_k h (s - 1) ∧ am_k h (s - 1) ≤ 23 then _ else _) = _
  rw [if_pos (by omega), e.2.2.1]
theorem am_S_bl (H : am_hok L xs h) {s i : Int} (hs : st_is s) (h0 : 0 ≤ i) (h1 : i < st_len s) {ls q : List am_V} : am_st .baload [] ls ((0, i) :: (2, s - 1) :: q) h = some (ls, (0, st_at s i) :: q, h) := by
  obtain ⟨e1, e2, e3, e4⟩ := am_S_k H hs
  have e : am_ald (fun k => decide (k = 17 ∨ k = 18)) 0 ((0, i) :: (2, s - 1) :: q) h = some ((0, am_v h (s - 1) i) :: q) := if_pos ⟨by rw [e2]; rfl, h0, by omega⟩
  show Option.map _ (am_ald _ _ _ _) = _
  rw [e, e4]
  rfl
theorem am_S_rcv (H : am_hok L xs h) {s : Int} (hs : st_is s) {y : Nat} (hy : am_ow y = 11) {l : List am_V} {kd : Int} : am_rcv kd y ((2, s) :: l) h = true := by
  unfold am_rcv
  by_cases c : kd = 1
  · rw [if_pos c]
  · rw [if_neg c]
    show (if am_ow y = 11 then decide (am_k h s = 100) else decide (0 ≤ s ∧ am_k h s = (am_ow y : Int))) = true
    rw [if_pos hy, decide_eq_true (am_S_k H hs).1]
/-- coder: 0 -/
theorem am_S_coder (H : am_hok L xs h) {s : Int} (hs : st_is s) (d : Nat) : am_ev d 293 (am_blk 293 0) (am_ent 293 [(2, s)]) [] h (some (0, 0), h) := by
  refine am_ev.sp rfl rfl ?_
  refine am_ev.go rfl rfl ?_
  refine am_ev.sp rfl rfl ?_
  refine am_ev.sp rfl (am_S_gf H hs) ?_
  refine am_ev.jm rfl rfl ?_
  exact am_ev.rt rfl rfl
theorem am_S_lat (H : am_hok L xs h) {s : Int} (hs : st_is s) (d : Nat) : am_ev d 291 (am_blk 291 0) (am_ent 291 [(2, s)]) [] h (some (0, 1), h) := by
  refine am_ev.sp rfl rfl ?_
  refine am_ev.go rfl rfl ?_
  refine am_ev.sp rfl rfl ?_
  refine am_ev.sp rfl (am_S_gf H hs) ?_
  refine am_ev.go rfl rfl ?_
  refine am_ev.sp rfl rfl ?_
  refine am_ev.jm rfl rfl ?_
  exact am_ev.rt rfl rfl
theorem st_len_r (s : Int) : 0 ≤ st_len s ∧ st_len s ≤ 300 := by
  unfold st_len
  have := am_strl (am_si s)
  omega
theorem am_shr0 {x : Int} (h : am_r32 x) : am_shr x 0 = x := by
  unfold am_shr
  have e : (Int32.ofInt 0 &&& 31) = 0 := by decide
  rw [e]
  have e2 : Int32.ofInt x >>> (0 : Int32) = Int32.ofInt x := by
    apply Int32.toInt_inj.mp
    rw [pk_shr (Int32.ofInt x) 0 0 (by decide)]
    simp
  rw [e2]
  exact am_i32 h
theorem am_S_length (H : am_hok L xs h) {s : Int} (hs : st_is s) (d : Nat) : am_ev (d + 1) 292 (am_blk 292 0) (am_ent 292 [(2, s)]) [] h (some (0, st_len s), h) := by
  refine am_ev.sp rfl rfl ?_
  refine am_ev.sp rfl (am_S_gf H hs) ?_
  refine am_ev.sp rfl (am_S_al H hs) ?_
  refine am_ev.sp rfl rfl ?_
  refine am_ev.ct (d := d) rfl (by decide) (by decide) rfl (Nat.le_of_ble_eq_true rfl) (am_S_rcv H hs rfl) (Nat.le_of_ble_eq_true rfl) (am_S_coder H hs d) ?_
  refine am_ev.sp rfl rfl ?_
  have e : am_shr (st_len s) 0 = st_len s := am_shr0 (by have := st_len_r s; unfold am_r32; omega)
  show am_ev (d + 1) 292 _ _ [(0, am_shr (st_len s) 0)] h _
  rw [e]
  exact am_ev.rt rfl rfl
theorem am_S_chk (d : Nat) {i n : Int} (h0 : 0 ≤ i) (h1 : i < n) : am_ev (d + 1) 296 (am_blk 296 0) (am_ent 296 [(0, i), (0, n)]) [] h (none, h) := by
  refine am_ev.sp rfl rfl ?_
  refine am_ev.sp rfl rfl ?_
  refine am_ev.sp rfl rfl ?_
  refine am_ev.ct (d := d) (v := some (0, i)) (h' := h) rfl (by decide) (by decide) rfl (Nat.le_of_ble_eq_true rfl) rfl (Nat.le_of_ble_eq_true rfl) ?_ ?_
  · refine am_ev.sp rfl rfl ?_
    refine am_ev.go (st' := []) rfl ?_ ?_
    · show some ((if am_cmp .lt i 0 then _ else _), _) = _
      rw [if_neg (by simp [am_cmp]; omega)]
    refine am_ev.sp rfl rfl ?_
    refine am_ev.sp rfl rfl ?_
    refine am_ev.jm (b := 2) (st' := []) rfl ?_ ?_
    · show some ((if am_cmp .lt i n then _ else _), _) = _
      rw [if_pos (by simp [am_cmp]; omega)]
    refine am_ev.sp rfl rfl ?_
    exact am_ev.rt rfl rfl
  · refine am_ev.sp rfl rfl ?_
    exact am_ev.rt rfl rfl
theorem st_at_r (s i : Int) : 0 ≤ st_at s i ∧ st_at s i ≤ 127 := by
  unfold st_at
  have h : ∀ c ∈ am_str (am_si s), 0 ≤ c ∧ c ≤ 127 := by
    unfold am_str
    by_cases c : am_si s < am_strs.length
    · rw [List.getD_eq_getElem?_getD, List.getElem?_eq_getElem c, Option.getD_some]
      exact am_strb0 _ (List.getElem_mem c)
    · rw [List.getD_eq_getElem?_getD, List.getElem?_eq_none (by omega), Option.getD_none]
      intro c hc
      cases hc
  by_cases c : i.toNat < (am_str (am_si s)).length
  · rw [List.getD_eq_getElem?_getD, List.getElem?_eq_getElem c, Option.getD_some]
    exact h _ (List.getElem_mem c)
  · rw [List.getD_eq_getElem?_getD, List.getElem?_eq_none (by omega), Option.getD_none]
    omega
theorem am_low : ∀ k : Fin 128, am_and (k.val : Int) 255 = k.val ∧ am_i2c (k.val : Int) = k.val ∧ am_i2b (k.val : Int) = k.val := by decide +kernel
theorem am_S_charAt (H : am_hok L xs h) {s i : Int} (hs : st_is s) (h0 : 0 ≤ i) (h1 : i < st_len s) (d : Nat) : am_ev (d + 3) 295 (am_blk 295 0) (am_ent 295 [(2, s), (0, i)]) [] h (some (0, st_at s i), h) := by
  refine am_ev.sp rfl rfl ?_
  refine am_ev.ct (d := d + 2) rfl (by decide) (by decide) rfl (Nat.le_of_ble_eq_true rfl) (am_S_rcv H hs rfl) (Nat.le_of_ble_eq_true rfl) (am_S_lat H hs _) ?_
  refine am_ev.go rfl rfl ?_
  refine am_ev.sp rfl rfl ?_
  refine am_ev.sp rfl (am_S_gf H hs) ?_
  refine am_ev.sp rfl rfl ?_
  have hr := st_at_r s i
  obtain ⟨e1, e2, -⟩ := am_low ⟨(st_at s i).toNat, by omega⟩
  have e0 : (((st_at s i).toNat : Nat) : Int) = st_at s i := by omega
  simp only [e0] at e1 e2
  refine am_ev.ct (d := d + 2) (v := some (0, st_at s i)) (h' := h) rfl (by decide) (by decide) rfl (Nat.le_of_ble_eq_true rfl) rfl (Nat.le_of_ble_eq_true rfl) ?_ ?_
  · show am_ev (d + 2) 300 (am_blk 300 0) (am_ent 300 [(2, s - 1), (0, i)]) [] h _
    refine am_ev.sp rfl rfl ?_
    refine am_ev.sp rfl rfl ?_
    refine am_ev.sp rfl (am_S_al H hs) ?_
    refine am_ev.ct (d := d + 1) rfl (by decide) (by decide) rfl (Nat.le_of_ble_eq_true rfl) rfl (Nat.le_of_ble_eq_true rfl) (am_S_chk d h0 h1) ?_
    refine am_ev.sp rfl rfl ?_
    refine am_ev.sp rfl rfl ?_
    refine am_ev.sp rfl (am_S_bl H hs h0 h1) ?_
    refine am_ev.sp rfl rfl ?_
    refine am_ev.sp rfl rfl ?_
    refine am_ev.sp rfl rfl ?_
    show am_ev (d + 2) 300 _ _ [(0, am_i2c (am_and (st_at s i) 255))] h _
    rw [e1, e2]
    exact am_ev.rt rfl (if_pos (Or.inr (Or.inr (Or.inr ⟨rfl, hr.1, by omega⟩))))
  · exact am_ev.rt rfl (if_pos (Or.inr (Or.inr (Or.inr ⟨rfl, hr.1, by omega⟩))))
theorem am_br_c {c : ClassFile.Cond} {o b x y : Int} {q : List am_V} (hc : am_cmp c x y = true) : am_br (.if_icmp c o) [b] ((0, y) :: (0, x) :: q) = some (some b, q) := by
  show some ((if am_cmp c x y then some b else none), q) = _
  rw [if_pos hc]
theorem am_br_n {c : ClassFile.Cond} {o b x y : Int} {q : List am_V} (hc : am_cmp c x y = false) : am_br (.if_icmp c o) [b] ((0, y) :: (0, x) :: q) = some (none, q) := by
  show some ((if am_cmp c x y then some b else none), q) = _
  rw [if_neg (by rw [hc]; decide)]
theorem am_bz_c {c : ClassFile.Cond} {o b x : Int} {q : List am_V} (hc : am_cmp c x 0 = true) : am_br (.ifCond c o) [b] ((0, x) :: q) = some (some b, q) := by
  show some ((if am_cmp c x 0 then some b else none), q) = _
  rw [if_pos hc]
theorem am_bz_n {c : ClassFile.Cond} {o b x : Int} {q : List am_V} (hc : am_cmp c x 0 = false) : am_br (.ifCond c o) [b] ((0, x) :: q) = some (none, q) := by
  show some ((if am_cmp c x 0 then some b else none), q) = _
  rw [if_neg (by rw [hc]; decide)]
theorem st_ix_c (x : Int) (r : List Int) (c : Int) : st_ix (x :: r) c = if x = c then 0 else if st_ix r c < 0 then -1 else 1 + st_ix r c := rfl
theorem st_ix_r (l : List Int) (c : Int) : -1 ≤ st_ix l c := by
  induction l with
  | nil => exact Int.le_refl _
  | cons x r ih =>
    rw [st_ix_c]
    split
    · omega
    · split <;> omega
/-- from a place on -/
def st_from (s c i : Int) : Int := if st_ix ((am_str (am_si s)).drop i.toNat) c < 0 then -1 else i + st_ix ((am_str (am_si s)).drop i.toNat) c
theorem st_from_end {s c i : Int} (h0 : 0 ≤ i) (h : st_len s ≤ i) : st_from s c i = -1 := by
  unfold st_from
  unfold st_len at h
  rw [List.drop_eq_nil_of_le (by omega)]
  rfl
theorem st_from_cons {s c i : Int} (h0 : 0 ≤ i) (h : i < st_len s) : st_from s c i = if st_at s i = c then i else st_from s c (i + 1) := by
  unfold st_from st_at
  unfold st_len at h
  have hlt : i.toNat < (am_str (am_si s)).length := by omega
  rw [List.drop_eq_getElem_cons hlt, List.getD_eq_getElem?_getD, List.getElem?_eq_getElem hlt, Option.getD_some, show (i + 1).toNat = i.toNat + 1 by omega]
  have hr := st_ix_r ((am_str (am_si s)).drop (i.toNat + 1)) c
  rw [st_ix_c]
  by_cases c1 : (am_str (am_si s))[i.toNat] = c
  · rw [if_pos c1, if_pos c1]; simp
  · rw [if_neg c1, if_neg c1]
    by_cases c2 : st_ix ((am_str (am_si s)).drop (i.toNat + 1)) c < 0
    · rw [if_pos c2, if_pos c2]; simp
    · rw [if_neg c2, if_neg c2, if_neg (by omega)]; omega
theorem st_idx_0 (s c : Int) : st_idx s c = st_from s c 0 := by
  unfold st_idx st_from
  rw [show (0 : Int).toNat = 0 from rfl, List.drop_zero]
  have := st_ix_r (am_str (am_si s)) c
  split <;> omega
theorem st_ix_none {l : List Int} {c : Int} (h : ∀ x ∈ l, x ≠ c) : st_ix l c = -1 := by
  induction l with
  | nil => rfl
  | cons x r ih =>
    rw [st_ix_c, if_neg (h x List.mem_cons_self), ih (fun z hz => h z (List.mem_cons_of_mem _ hz))]
    rfl
theorem am_i2b_low {c : Int} (h0 : 0 ≤ c) (h1 : c ≤ 255) : (c ≤ 127 → am_i2b c = c) ∧ (128 ≤ c → am_i2b c < 0) := by
  have key : ∀ k : Fin 256, (k.val ≤ 127 → am_i2b (k.val : Int) = k.val) ∧ (128 ≤ k.val → am_i2b (k.val : Int) < 0) := by decide +kernel
  have e := key ⟨c.toNat, by omega⟩
  have e0 : ((c.toNat : Nat) : Int) = c := by omega
  simp only [e0] at e
  exact ⟨fun h => e.1 (by omega), fun h => e.2 (by omega)⟩
/-- the search of a char: loop -/
theorem am_S_loop (H : am_hok L xs h) {s c : Int} (hs : st_is s) (h0 : 0 ≤ c) (h1 : c ≤ 255) (d : Nat) (a b : am_V) : ∀ (n : Nat) (i : Int), 0 ≤ i → i ≤ st_len s → (st_len s - i).toNat = n →
    am_ev d 299 (am_blk 299 1) [(2, s - 1), a, b, (0, st_len s), (0, am_i2b c), (0, i)] [] h (some (0, st_from s c i), h) := by
  intro n
  induction n with
  | zero =>
    intro i i0 i1 hn
    have e : i = st_len s := by omega
    rw [st_from_end i0 (by omega)]
    refine am_ev.sp rfl rfl ?_
    refine am_ev.sp rfl rfl ?_
    refine am_ev.jm (b := 3) rfl (am_br_c (by simp [am_cmp]; omega)) ?_
    refine am_ev.sp rfl rfl ?_
    exact am_ev.rt rfl rfl
  | succ n ih =>
    intro i i0 i1 hn
    have hlt : i < st_len s := by omega
    rw [st_from_cons i0 hlt]
    refine am_ev.sp rfl rfl ?_
    refine am_ev.sp rfl rfl ?_
    refine am_ev.go rfl (am_br_n (by simp [am_cmp]; omega)) ?_
    refine am_ev.sp rfl rfl ?_
    refine am_ev.sp rfl rfl ?_
    refine am_ev.sp rfl (am_S_bl H hs i0 hlt) ?_
    refine am_ev.sp rfl rfl ?_
    have hr := st_at_r s i
    have hb := am_i2b_low h0 h1
    by_cases c1 : st_at s i = c
    · rw [if_pos c1]
      refine am_ev.go rfl (am_br_n (by simp [am_cmp]; omega)) ?_
      refine am_ev.sp rfl rfl ?_
      exact am_ev.rt rfl rfl
    · rw [if_neg c1]
      refine am_ev.jm (b := 2) rfl (am_br_c (by simp [am_cmp]; omega)) ?_
      refine am_ev.sp rfl rfl ?_
      refine am_ev.jm (b := 1) rfl rfl ?_
      have e := ih (i + 1) (by omega) (by omega) (by omega)
      have hl := st_len_r s
      have e2 : am_w (i + 1) = i + 1 := am_w_id (by unfold am_r32; omega)
      show am_ev d 299 (am_blk 299 1) [(2, s - 1), a, b, (0, st_len s), (0, am_i2b c), (0, am_w (i + 1))] [] h _
      rw [e2]
      exact e
theorem am_S_max (d : Nat) : am_ev d 301 (am_blk 301 0) (am_ent 301 [(0, 0), (0, 0)]) [] h (some (0, 0), h) := by
  refine am_ev.sp rfl rfl ?_
  refine am_ev.sp rfl rfl ?_
  refine am_ev.go rfl (am_br_n (by decide)) ?_
  refine am_ev.sp rfl rfl ?_
  refine am_ev.jm rfl rfl ?_
  exact am_ev.rt rfl rfl
theorem am_S_min (d : Nat) (x : Int) : am_ev d 302 (am_blk 302 0) (am_ent 302 [(0, x), (0, x)]) [] h (some (0, x), h) := by
  refine am_ev.sp rfl rfl ?_
  refine am_ev.sp rfl rfl ?_
  refine am_ev.go rfl (am_br_n (by simp [am_cmp])) ?_
  refine am_ev.sp rfl rfl ?_
  refine am_ev.jm rfl rfl ?_
  exact am_ev.rt rfl rfl
theorem am_S_indexOf (H : am_hok L xs h) {s c : Int} (hs : st_is s) (h0 : 0 ≤ c) (h1 : c ≤ 65535) (d : Nat) : am_ev (d + 4) 289 (am_blk 289 0) (am_ent 289 [(2, s), (0, c)]) [] h (some (0, st_idx s c), h) := by
  have hl := st_len_r s
  refine am_ev.sp rfl rfl ?_
  refine am_ev.sp rfl rfl ?_
  refine am_ev.sp rfl rfl ?_
  refine am_ev.ct (d := d + 3) (v := some (0, st_idx s c)) (h' := h) rfl (by decide) (by decide) rfl (Nat.le_of_ble_eq_true rfl) (am_S_rcv H hs rfl) (Nat.le_of_ble_eq_true rfl) ?_ (am_ev.rt rfl rfl)
  refine am_ev.sp rfl rfl ?_
  refine am_ev.ct (d := d + 2) rfl (by decide) (by decide) rfl (Nat.le_of_ble_eq_true rfl) (am_S_rcv H hs rfl) (Nat.le_of_ble_eq_true rfl) (am_S_lat H hs _) ?_
  refine am_ev.go rfl rfl ?_
  refine am_ev.sp rfl rfl ?_
  refine am_ev.sp rfl (am_S_gf H hs) ?_
  refine am_ev.sp rfl rfl ?_
  refine am_ev.sp rfl rfl ?_
  refine am_ev.sp rfl rfl ?_
  refine am_ev.ct (d := d + 2) rfl (by decide) (by decide) rfl (Nat.le_of_ble_eq_true rfl) (am_S_rcv H hs rfl) (Nat.le_of_ble_eq_true rfl) (am_S_length H hs _) ?_
  refine am_ev.ct (d := d + 2) (v := some (0, st_idx s c)) (h' := h) rfl (by decide) (by decide) rfl (Nat.le_of_ble_eq_true rfl) rfl (Nat.le_of_ble_eq_true rfl) ?_ (am_ev.jm rfl rfl (am_ev.rt rfl rfl))
  show am_ev (d + 2) 297 (am_blk 297 0) (am_ent 297 [(2, s - 1), (0, c), (0, 0), (0, st_len s)]) [] h _
  refine am_ev.sp rfl rfl ?_
  by_cases c1 : c ≤ 255
  · refine am_ev.ct (d := d + 1) (v := some (0, 1)) (h' := h) rfl (by decide) (by decide) rfl (Nat.le_of_ble_eq_true rfl) rfl (Nat.le_of_ble_eq_true rfl) ?_ ?_
    · refine am_ev.sp rfl rfl ?_
      refine am_ev.go rfl (am_bz_n (by simp [am_cmp]; omega)) ?_
      refine am_ev.sp rfl rfl ?_
      refine am_ev.sp rfl rfl ?_
      refine am_ev.go rfl (am_br_n (by simp [am_cmp]; omega)) ?_
      refine am_ev.sp rfl rfl ?_
      refine am_ev.jm rfl rfl ?_
      exact am_ev.rt rfl rfl
    refine am_ev.jm rfl rfl ?_
    refine am_ev.sp rfl rfl ?_
    refine am_ev.sp rfl rfl ?_
    refine am_ev.ct (d := d + 1) rfl (by decide) (by decide) rfl (Nat.le_of_ble_eq_true rfl) rfl (Nat.le_of_ble_eq_true rfl) (am_S_max _) ?_
    refine am_ev.sp rfl rfl ?_
    refine am_ev.sp rfl rfl ?_
    refine am_ev.sp rfl rfl ?_
    refine am_ev.sp rfl (am_S_al H hs) ?_
    refine am_ev.ct (d := d + 1) rfl (by decide) (by decide) rfl (Nat.le_of_ble_eq_true rfl) rfl (Nat.le_of_ble_eq_true rfl) (am_S_min _ _) ?_
    refine am_ev.sp rfl rfl ?_
    refine am_ev.sp rfl rfl ?_
    refine am_ev.sp rfl rfl ?_
    rw [st_idx_0]
    by_cases c2 : 0 < st_len s
    · refine am_ev.jm (b := 2) rfl (am_br_c (by simp [am_cmp]; omega)) ?_
      refine am_ev.sp rfl rfl ?_
      refine am_ev.sp rfl rfl ?_
      refine am_ev.sp rfl rfl ?_
      refine am_ev.sp rfl rfl ?_
      refine am_ev.ct (d := d + 1) (v := some (0, st_from s c 0)) (h' := h) rfl (by decide) (by decide) rfl (Nat.le_of_ble_eq_true rfl) rfl (Nat.le_of_ble_eq_true rfl) ?_ (am_ev.rt rfl rfl)
      refine am_ev.sp rfl rfl ?_
      refine am_ev.sp rfl rfl ?_
      refine am_ev.sp rfl rfl ?_
      refine am_ev.sp rfl rfl ?_
      refine am_ev.sp rfl rfl ?_
      refine am_ev.jm rfl rfl ?_
      exact am_S_loop H hs h0 c1 _ _ _ _ 0 (Int.le_refl _) hl.1 rfl
    · refine am_ev.go rfl (am_br_n (by simp [am_cmp]; omega)) ?_
      rw [st_from_end (Int.le_refl _) (by omega)]
      refine am_ev.sp rfl rfl ?_
      exact am_ev.rt rfl rfl
  · have hn : st_idx s c = -1 := by
      refine st_ix_none (fun x hx => ?_)
      obtain ⟨k, hk, e⟩ := List.getElem_of_mem hx
      have := st_at_r s k
      unfold st_at at this
      rw [Int.toNat_natCast, List.getD_eq_getElem?_getD, List.getElem?_eq_getElem hk, Option.getD_some, e] at this
      omega
    rw [hn]
    refine am_ev.ct (d := d + 1) (v := some (0, 0)) (h' := h) rfl (by decide) (by decide) rfl (Nat.le_of_ble_eq_true rfl) rfl (Nat.le_of_ble_eq_true rfl) ?_ ?_
    · refine am_ev.sp rfl rfl ?_
      refine am_ev.go rfl (am_bz_n (by simp [am_cmp]; omega)) ?_
      refine am_ev.sp rfl rfl ?_
      refine am_ev.sp rfl rfl ?_
      refine am_ev.jm (b := 1) rfl (am_br_c (by simp [am_cmp]; omega)) ?_
      refine am_ev.sp rfl rfl ?_
      refine am_ev.jm rfl rfl ?_
      exact am_ev.rt rfl rfl
    refine am_ev.go rfl rfl ?_
    refine am_ev.sp rfl rfl ?_
    exact am_ev.rt rfl rfl
end
