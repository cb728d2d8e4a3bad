set_option maxRecDepth 100000
/-! ranges, the heap's invariant, what steps keep of it -/
def am_r32 (x : Int) : Prop := -2147483648 ≤ x ∧ x ≤ 2147483647
def am_r64 (x : Int) : Prop := -9223372036854775808 ≤ x ∧ x ≤ 9223372036854775807
theorem am_i32 {x : Int} (h : am_r32 x) : (Int32.ofInt x).toInt = x := Int32.toInt_ofInt_of_le (by have := h.1; omega) (by have := h.2; omega)
theorem am_i64 {x : Int} (h : am_r64 x) : (Int64.ofInt x).toInt = x := Int64.toInt_ofInt_of_le (by have := h.1; omega) (by have := h.2; omega)
theorem am_t32 (z : Int32) : am_r32 z.toInt := ⟨by have := z.le_toInt; omega, by have := z.toInt_lt; omega⟩
theorem am_t64 (z : Int64) : am_r64 z.toInt := ⟨by have := z.le_toInt; omega, by have := z.toInt_lt; omega⟩
theorem am_w_ok (x : Int) : am_r32 (am_w x) := am_t32 _
theorem am_x_ok (x : Int) : am_r64 (am_x x) := am_t64 _
theorem am_w_of (x : Int) : Int32.ofInt (am_w x) = Int32.ofInt x := Int32.ofInt_toInt _
theorem am_x_of (x : Int) : Int64.ofInt (am_x x) = Int64.ofInt x := Int64.ofInt_toInt _
theorem am_w_id {x : Int} (h : am_r32 x) : am_w x = x := am_i32 h
theorem am_x_id {x : Int} (h : am_r64 x) : am_x x = x := am_i64 h
theorem am_inj32 {x y : Int} (hx : am_r32 x) (hy : am_r32 y) : Int32.ofInt x = Int32.ofInt y ↔ x = y :=
  ⟨fun h => by rw [← am_i32 hx, ← am_i32 hy, h], fun h => by rw [h]⟩
theorem am_inj64 {x y : Int} (hx : am_r64 x) (hy : am_r64 y) : Int64.ofInt x = Int64.ofInt y ↔ x = y :=
  ⟨fun h => by rw [← am_i64 hx, ← am_i64 hy, h], fun h => by rw [h]⟩
theorem am_lt32 {x y : Int} (hx : am_r32 x) (hy : am_r32 y) : Int32.ofInt x < Int32.ofInt y ↔ x < y := by
  rw [Int32.lt_iff_toInt_lt, am_i32 hx, am_i32 hy]
theorem am_le32 {x y : Int} (hx : am_r32 x) (hy : am_r32 y) : Int32.ofInt x ≤ Int32.ofInt y ↔ x ≤ y := by
  rw [Int32.le_iff_toInt_le, am_i32 hx, am_i32 hy]
theorem am_lt64 {x y : Int} (hx : am_r64 x) (hy : am_r64 y) : Int64.ofInt x < Int64.ofInt y ↔ x < y := by
  rw [Int64.lt_iff_toInt_lt, am_i64 hx, am_i64 hy]
theorem am_z32 : am_r32 0 := by unfold am_r32; omega
theorem am_z64 : am_r64 0 := by unfold am_r64; omega
theorem am_r64_32 {x : Int} (h : am_r32 x) : am_r64 x := by unfold am_r32 at h; unfold am_r64; omega
theorem am_i2b_rng (x : Int) : -128 ≤ am_i2b x ∧ am_i2b x ≤ 127 := by
  unfold am_i2b
  have h1 := (Int32.ofInt x).toInt8.le_toInt
  have h2 := (Int32.ofInt x).toInt8.toInt_lt
  rw [Int8.toInt_toInt32]
  omega
/-- the start: the Strings and their bytes, the script -/
def am_si (a : Int) : Nat := ((-10 - a) / 2).toNat
def am_k0 (a : Int) : Int := if a = -2 then 16 else if a ≤ -10 ∧ -201 ≤ a then (if a % 2 = 0 then 100 else 17) else -9
def am_l0 (L a : Int) : Int := if a = -2 then L else if a ≤ -10 ∧ -201 ≤ a ∧ a % 2 = 1 then (am_str (am_si a)).length else 0
def am_v0 (xs : Int → Int) (a i : Int) : Int := if a = -2 then xs i else (am_str (am_si a)).getD i.toNat 0
def am_h0 (L : Int) (xs : Int → Int) : am_H := (0, 0, am_k0, am_l0 L, am_v0 xs)
def am_elok (h : am_H) (k v : Int) : Prop := if k = 16 then am_r32 v else if k = 17 then -128 ≤ v ∧ v ≤ 127 else if k = 18 then v = 0 ∨ v = 1 else if k = 19 then am_r64 v else (v = -1 ∨ (0 ≤ v ∧ v < am_n h ∧ am_k h v = am_ec k))
def am_fdok (h : am_H) (ft : Nat) (v : Int) : Prop := if ft = 0 then am_r32 v else if ft = 1 then am_r64 v else if ft = 4 then v = 0 ∨ v = 1 else (-1 ≤ v ∧ v < am_n h)
def am_clok (h : am_H) (a : Int) : Prop := (0 ≤ am_k h a ∧ am_k h a ≤ 10 ∧ ∀ j : Nat, j < am_fn (am_k h a).toNat → am_fdok h (am_ft (am_k h a).toNat j) (am_v h a j)) ∨ (16 ≤ am_k h a ∧ am_k h a ≤ 23 ∧ 0 ≤ am_l h a ∧ am_l h a ≤ 1000000 ∧ ∀ j, 0 ≤ j → j < am_l h a → am_elok h (am_k h a) (am_v h a j))
def am_neg (L : Int) (xs : Int → Int) (h : am_H) : Prop := ∀ a, a < 0 → am_k h a = am_k0 a ∧ am_l h a = am_l0 L a ∧ ∀ i, am_v h a i = am_v0 xs a i
def am_hok (L : Int) (xs : Int → Int) (h : am_H) : Prop := 0 ≤ am_n h ∧ 0 ≤ am_m h ∧ (∀ a, 0 ≤ a → a < am_n h → am_clok h a) ∧ (∀ a, am_n h ≤ a → am_k h a = -9) ∧ am_neg L xs h
def am_rok (n x : Int) : Prop := (-1 ≤ x ∧ x < n) ∨ x = -2 ∨ x = -3 ∨ (x ≤ -10 ∧ -201 ≤ x)
def am_vok (n : Int) (v : am_V) : Prop := (v.1 = 0 → am_r32 v.2) ∧ (v.1 = 1 → am_r64 v.2) ∧ (v.1 = 2 → am_rok n v.2)
def am_lok (n : Int) (l : List am_V) : Prop := ∀ v ∈ l, am_vok n v
def am_mn (h h' : am_H) : Prop := am_n h ≤ am_n h' ∧ am_m h ≤ am_m h' ∧ ∀ a, a < am_n h → am_k h' a = am_k h a ∧ am_l h' a = am_l h a
theorem am_mn.rf (h : am_H) : am_mn h h := ⟨Int.le_refl _, Int.le_refl _, fun _ _ => ⟨rfl, rfl⟩⟩
theorem am_mn.tr {a b c : am_H} (h1 : am_mn a b) (h2 : am_mn b c) : am_mn a c :=
  ⟨Int.le_trans h1.1 h2.1, Int.le_trans h1.2.1 h2.2.1, fun x hx => ⟨(h2.2.2 x (Int.lt_of_lt_of_le hx h1.1)).1.trans (h1.2.2 x hx).1, (h2.2.2 x (Int.lt_of_lt_of_le hx h1.1)).2.trans (h1.2.2 x hx).2⟩⟩
theorem am_rok.mono {n n' x : Int} (h : am_rok n x) (hn : n ≤ n') : am_rok n' x := by unfold am_rok at *; omega
theorem am_vok.mono {n n' : Int} {v : am_V} (h : am_vok n v) (hn : n ≤ n') : am_vok n' v := ⟨h.1, h.2.1, fun h3 => (h.2.2 h3).mono hn⟩
theorem am_lok.mono {n n' : Int} {l : List am_V} (h : am_lok n l) (hn : n ≤ n') : am_lok n' l := fun v hv => (h v hv).mono hn
theorem am_vok_i {n x : Int} (h : am_r32 x) : am_vok n (0, x) := ⟨fun _ => h, fun h => absurd h (by simp), fun h => absurd h (by simp)⟩
theorem am_vok_l {n x : Int} (h : am_r64 x) : am_vok n (1, x) := ⟨fun h => absurd h (by simp), fun _ => h, fun h => absurd h (by simp)⟩
theorem am_vok_r {n x : Int} (h : am_rok n x) : am_vok n (2, x) := ⟨fun h => absurd h (by simp), fun h => absurd h (by simp), fun _ => h⟩
theorem am_vok_3 {n x : Int} : am_vok n (3, x) := ⟨fun h => absurd h (by simp), fun h => absurd h (by simp), fun h => absurd h (by simp)⟩
theorem am_lok_c {n : Int} {v : am_V} {l : List am_V} (h : am_vok n v) (hl : am_lok n l) : am_lok n (v :: l) := List.forall_mem_cons.mpr ⟨h, hl⟩
theorem am_lok_t {n : Int} {v : am_V} {l : List am_V} (h : am_lok n (v :: l)) : am_vok n v ∧ am_lok n l := List.forall_mem_cons.mp h
theorem am_lok_set {n : Int} {v : am_V} {l : List am_V} (h : am_lok n l) (hv : am_vok n v) (k : Nat) : am_lok n (l.set k v) := by
  intro w hw
  rcases List.mem_or_eq_of_mem_set hw with h1 | h1
  · exact h w h1
  · rw [h1]; exact hv
/-- a cell that is of a kind is one of ours, or one of the start's -/
theorem am_inh {L : Int} {xs : Int → Int} {h : am_H} (H : am_hok L xs h) {a : Int} (hk : am_k h a ≠ -9) : a < am_n h := by
  by_cases c : a < am_n h
  · exact c
  · exact absurd (H.2.2.2.1 a (by omega)) hk
theorem am_obj {L : Int} {xs : Int → Int} {h : am_H} (H : am_hok L xs h) {a : Int} (h1 : 0 ≤ am_k h a) (h2 : am_k h a ≤ 10) : 0 ≤ a ∧ a < am_n h ∧ ∀ j : Nat, j < am_fn (am_k h a).toNat → am_fdok h (am_ft (am_k h a).toNat j) (am_v h a j) := by
  have hn : a < am_n h := am_inh H (by omega)
  have h0 : 0 ≤ a := by
    by_cases c : 0 ≤ a
    · exact c
    · have := (H.2.2.2.2 a (by omega)).1
      rw [this] at h1 h2
      unfold am_k0 at h1 h2
      split at h1
      · rename_i e; rw [if_pos e] at h2; omega
      · rename_i e
        rw [if_neg e] at h2
        split at h1
        · rename_i e2
          rw [if_pos e2] at h2
          split at h2 <;> omega
        · omega
  refine ⟨h0, hn, ?_⟩
  rcases H.2.2.1 a h0 hn with h3 | h3
  · exact h3.2.2
  · omega
theorem am_set_n (h : am_H) (a i v : Int) : am_n (am_set h a i v) = am_n h ∧ am_m (am_set h a i v) = am_m h ∧ (∀ b, am_k (am_set h a i v) b = am_k h b) ∧ (∀ b, am_l (am_set h a i v) b = am_l h b) := ⟨rfl, rfl, fun _ => rfl, fun _ => rfl⟩
theorem am_set_v (h : am_H) (a i v b j : Int) : am_v (am_set h a i v) b j = if b = a ∧ j = i then v else am_v h b j := rfl
theorem am_set_mo (h : am_H) (a i v : Int) : am_mn h (am_set h a i v) := ⟨Int.le_refl _, Int.le_refl _, fun _ _ => ⟨rfl, rfl⟩⟩
theorem am_set_ok {L : Int} {xs : Int → Int} {h : am_H} (H : am_hok L xs h) {a i v : Int} (h0 : 0 ≤ a)
    (hv1 : ∀ j : Nat, i = j → 0 ≤ am_k h a → am_k h a ≤ 10 → am_fdok h (am_ft (am_k h a).toNat j) v) (hv2 : 16 ≤ am_k h a → am_elok h (am_k h a) v) : am_hok L xs (am_set h a i v) := by
  refine ⟨H.1, H.2.1, fun b hb0 hbn => ?_, H.2.2.2.1, fun b hb => ?_⟩
  · rcases H.2.2.1 b hb0 hbn with ⟨h1, h2, h3⟩ | ⟨h1, h2, h3, h4, h5⟩
    · left
      refine ⟨h1, h2, fun j hj => ?_⟩
      rw [am_set_v]
      by_cases c : b = a ∧ (j : Int) = i
      · rw [if_pos c]
        obtain ⟨rfl, c2⟩ := c
        exact hv1 j c2.symm h1 h2
      · rw [if_neg c]; exact h3 j hj
    · right
      refine ⟨h1, h2, h3, h4, fun j hj0 hj => ?_⟩
      rw [am_set_v]
      by_cases c : b = a ∧ j = i
      · rw [if_pos c]
        obtain ⟨rfl, c2⟩ := c
        exact hv2 h1
      · rw [if_neg c]; exact h5 j hj0 hj
  · obtain ⟨h1, h2, h3⟩ := H.2.2.2.2 b hb
    refine ⟨h1, h2, fun j => ?_⟩
    rw [am_set_v, if_neg (by omega)]
    exact h3 j
theorem am_cpy_ok {L : Int} {xs : Int → Int} {h : am_H} (H : am_hok L xs h) {s sp d dp n : Int} (h0 : 0 ≤ d) (hs : 0 ≤ s) (hk : am_k h s = am_k h d) (hk1 : 16 ≤ am_k h s) (hk2 : am_k h s ≤ 23) (hsp : 0 ≤ sp) (hl : sp + n ≤ am_l h s) : am_hok L xs (am_cpy h s sp d dp n) ∧ am_mn h (am_cpy h s sp d dp n) := by
  refine ⟨⟨H.1, H.2.1, fun b hb0 hbn => ?_, H.2.2.2.1, fun b hb => ?_⟩, Int.le_refl _, Int.le_refl _, fun _ _ => ⟨rfl, rfl⟩⟩
  · have hsn : s < am_n h := am_inh H (by omega)
    rcases H.2.2.1 s hs hsn with h3 | ⟨_, _, _, _, hse⟩
    · omega
    rcases H.2.2.1 b hb0 hbn with ⟨h1, h2, h3⟩ | ⟨h1, h2, h3, h4, h5⟩
    · left
      refine ⟨h1, h2, fun j hj => ?_⟩
      show am_fdok h _ (if b = d ∧ dp ≤ (j : Int) ∧ (j : Int) < dp + n then _ else _)
      rw [if_neg (fun c => by have := c.1; subst this; omega)]
      exact h3 j hj
    · right
      refine ⟨h1, h2, h3, h4, fun j hj0 hj => ?_⟩
      show am_elok h (am_k h b) (if b = d ∧ dp ≤ j ∧ j < dp + n then am_v h s (sp + (j - dp)) else am_v h b j)
      by_cases c : b = d ∧ dp ≤ j ∧ j < dp + n
      · rw [if_pos c]
        obtain ⟨rfl, c2, c3⟩ := c
        rw [← hk]
        exact hse _ (by omega) (by omega)
      · rw [if_neg c]; exact h5 j hj0 hj
  · obtain ⟨h1, h2, h3⟩ := H.2.2.2.2 b hb
    refine ⟨h1, h2, fun j => ?_⟩
    show (if b = d ∧ dp ≤ j ∧ j < dp + n then _ else _) = _
    rw [if_neg (by omega)]
    exact h3 j
theorem am_new_ok {L : Int} {xs : Int → Int} {h : am_H} (H : am_hok L xs h) {k l : Int} {z : Int → Int} (hl : 0 ≤ l) (hc : (0 ≤ k ∧ k ≤ 10 ∧ ∀ j : Nat, j < am_fn k.toNat → am_fdok h (am_ft k.toNat j) (z j)) ∨ (16 ≤ k ∧ k ≤ 23 ∧ l ≤ 1000000 ∧ ∀ j, am_elok h k (z j))) : am_hok L xs (am_new h k l z) ∧ am_mn h (am_new h k l z) := by
  have fd : ∀ (ft : Nat) (v : Int), am_fdok h ft v → am_fdok (am_new h k l z) ft v := by
    intro ft v hv
    unfold am_fdok at *
    split; · simpa [*] using hv
    split; · simpa [*] using hv
    split; · simpa [*] using hv
    rename_i c1 c2 c3
    rw [if_neg c1, if_neg c2, if_neg c3] at hv
    have : am_n (am_new h k l z) = am_n h + 1 := rfl
    omega
  have el : ∀ (k' v : Int), am_elok h k' v → am_elok (am_new h k l z) k' v := by
    intro ft v hv
    unfold am_elok at *
    split; · simpa [*] using hv
    split; · simpa [*] using hv
    split; · simpa [*] using hv
    split; · simpa [*] using hv
    rename_i c1 c2 c3 c4
    rw [if_neg c1, if_neg c2, if_neg c3, if_neg c4] at hv
    rcases hv with hv | ⟨e1, e2, e3⟩
    · left; exact hv
    · right
      have hn : am_n (am_new h k l z) = am_n h + 1 := rfl
      refine ⟨e1, by omega, ?_⟩
      show (if v = am_n h then k else am_k h v) = _
      rw [if_neg (by omega)]; exact e3
  have hn : am_n (am_new h k l z) = am_n h + 1 := rfl
  have hko : ∀ b, b ≠ am_n h → am_k (am_new h k l z) b = am_k h b ∧ am_l (am_new h k l z) b = am_l h b ∧ ∀ j, am_v (am_new h k l z) b j = am_v h b j := fun b hb => ⟨if_neg hb, if_neg hb, fun j => if_neg hb⟩
  have hkn : am_k (am_new h k l z) (am_n h) = k ∧ am_l (am_new h k l z) (am_n h) = l ∧ ∀ j, am_v (am_new h k l z) (am_n h) j = z j := ⟨if_pos rfl, if_pos rfl, fun j => if_pos rfl⟩
  have h0 := H.1
  refine ⟨⟨by omega, ?_, fun b hb0 hbn => ?_, fun b hb => ?_, fun b hb => ?_⟩, by omega, ?_, fun b hb => ?_⟩
  · show 0 ≤ am_m h + l; have := H.2.1; omega
  · by_cases c : b = am_n h
    · subst c
      unfold am_clok
      rw [hkn.1, hkn.2.1]
      rcases hc with ⟨h1, h2, h3⟩ | ⟨h1, h2, h3, h4⟩
      · left
        exact ⟨h1, h2, fun j hj => by rw [hkn.2.2]; exact fd _ _ (h3 j hj)⟩
      · right
        exact ⟨h1, h2, hl, h3, fun j _ _ => by rw [hkn.2.2]; exact el _ _ (h4 j)⟩
    · unfold am_clok
      rw [(hko b c).1, (hko b c).2.1]
      rcases H.2.2.1 b hb0 (by omega) with ⟨h1, h2, h3⟩ | ⟨h1, h2, h3, h4, h5⟩
      · left
        exact ⟨h1, h2, fun j hj => by rw [(hko b c).2.2]; exact fd _ _ (h3 j hj)⟩
      · right
        exact ⟨h1, h2, h3, h4, fun j hj0 hj => by rw [(hko b c).2.2]; exact el _ _ (h5 j hj0 hj)⟩
  · rw [(hko b (by omega)).1]
    exact H.2.2.2.1 b (by omega)
  · obtain ⟨h1, h2, h3⟩ := H.2.2.2.2 b hb
    obtain ⟨g1, g2, g3⟩ := hko b (by omega)
    exact ⟨g1.trans h1, g2.trans h2, fun j => (g3 j).trans (h3 j)⟩
  · show am_m h ≤ am_m h + l; omega
  · exact ⟨(hko b (by omega)).1, (hko b (by omega)).2.1⟩
theorem am_elok_d (h : am_H) (k : Int) (h1 : 16 ≤ k) (h2 : k ≤ 23) : am_elok h k (if k ≤ 19 then 0 else -1) := by
  unfold am_elok am_r32 am_r64
  repeat' split
  all_goals omega
theorem am_strb0 : ∀ s ∈ am_strs, ∀ c ∈ s, 0 ≤ c ∧ c ≤ 127 := by decide +kernel
theorem am_strb (s i : Nat) : -128 ≤ (am_str s).getD i 0 ∧ (am_str s).getD i 0 ≤ 127 := by
  have h : ∀ c ∈ am_str s, 0 ≤ c ∧ c ≤ 127 := by
    unfold am_str
    by_cases c : s < am_strs.length
    · rw [List.getD_eq_getElem?_getD, List.getElem?_eq_getElem c, Option.getD_some]
      exact am_strb0 _ (List.getElem_mem c)
    · rw [List.getD_eq_getElem?_getD, List.getElem?_eq_none (by omega), Option.getD_none]
      intro c hc
      cases hc
  by_cases c : i < (am_str s).length
  · rw [List.getD_eq_getElem?_getD, List.getElem?_eq_getElem c, Option.getD_some]
    have := h _ (List.getElem_mem c)
    omega
  · rw [List.getD_eq_getElem?_getD, List.getElem?_eq_none (by omega), Option.getD_none]
    omega
theorem am_strl0 : ∀ s ∈ am_strs, s.length ≤ 300 := by decide +kernel
theorem am_strl (s : Nat) : (am_str s).length ≤ 300 := by
  unfold am_str
  by_cases c : s < am_strs.length
  · rw [List.getD_eq_getElem?_getD, List.getElem?_eq_getElem c, Option.getD_some]
    exact am_strl0 _ (List.getElem_mem c)
  · rw [List.getD_eq_getElem?_getD, List.getElem?_eq_none (by omega), Option.getD_none]
    exact Nat.zero_le _
