set_option maxRecDepth 100000
/-! the heap as the kit's world: cells read, written, made -/
theorem am_ws_get {ad : Int → Nat} {fm : Value} {cA : Int → ClassId} {h : am_H} {a : Int} (h0 : 0 ≤ a) (hn : a < am_n h) : (am_ws ad fm cA h)[a.toNat]? = some (ad a, am_ce ad fm cA h a) := by
  unfold am_ws
  rw [List.getElem?_map, List.getElem?_range (by omega), Option.map_some, Int.toNat_of_nonneg h0]
theorem am_ws_len {ad : Int → Nat} {fm : Value} {cA : Int → ClassId} {h : am_H} : (am_ws ad fm cA h).length = (am_n h).toNat := by
  unfold am_ws; rw [List.length_map, List.length_range]
theorem am_ce_same {ad : Int → Nat} {fm : Value} {cA : Int → ClassId} {h h' : am_H} {a : Int} (hk : am_k h' a = am_k h a) (hl : am_l h' a = am_l h a) (hv : ∀ j, am_v h' a j = am_v h a j) : am_ce ad fm cA h' a = am_ce ad fm cA h a := by
  unfold am_ce am_fs
  simp only [hk, hl, hv]
theorem am_ws_set {ad : Int → Nat} {fm : Value} {cA : Int → ClassId} {h h' : am_H} {a : Int} (h0 : 0 ≤ a) (hn : am_n h' = am_n h) (hk : ∀ b, am_k h' b = am_k h b) (hl : ∀ b, am_l h' b = am_l h b) (hv : ∀ b, b ≠ a → ∀ j, am_v h' b j = am_v h b j) : (am_ws ad fm cA h).set a.toNat (ad a, am_ce ad fm cA h' a) = am_ws ad fm cA h' := by
  apply List.ext_getElem?
  intro i
  rw [List.getElem?_set]
  by_cases c : a.toNat = i
  · subst c
    rw [if_pos rfl]
    by_cases c2 : a < am_n h
    · rw [if_pos (by rw [am_ws_len]; omega), am_ws_get h0 (by omega)]
    · rw [if_neg (by rw [am_ws_len]; omega), List.getElem?_eq_none (by rw [am_ws_len]; omega)]
  · rw [if_neg c]
    by_cases c2 : i < (am_n h).toNat
    · have e1 := am_ws_get (ad := ad) (fm := fm) (cA := cA) (h := h) (a := (i : Int)) (by omega) (by omega)
      have e2 := am_ws_get (ad := ad) (fm := fm) (cA := cA) (h := h') (a := (i : Int)) (by omega) (by omega)
      rw [Int.toNat_natCast] at e1 e2
      rw [e1, e2, am_ce_same (hk _) (hl _) (hv _ (by omega))]
    · rw [List.getElem?_eq_none (by rw [am_ws_len]; omega), List.getElem?_eq_none (by rw [am_ws_len]; omega)]
theorem am_ce_obj {ad : Int → Nat} {fm : Value} {cA : Int → ClassId} {h : am_H} {a : Int} (hk : am_k h a ≤ 10) : am_ce ad fm cA h a = .inr ((am_k h a).toNat, am_fs ad fm h a (am_k h a).toNat) := if_pos hk
theorem am_ce_int {ad : Int → Nat} {fm : Value} {cA : Int → ClassId} {h : am_H} {a : Int} (hk : 16 ≤ am_k h a) (hk2 : am_k h a ≤ 18) : am_ce ad fm cA h a = .inl (cA a, (am_l h a).toNat, .inl (fun j => Int32.ofInt (am_v h a j))) := by
  unfold am_ce; rw [if_neg (by omega), if_pos hk2]
theorem am_ce_long {ad : Int → Nat} {fm : Value} {cA : Int → ClassId} {h : am_H} {a : Int} (hk : am_k h a = 19) : am_ce ad fm cA h a = .inl (cA a, (am_l h a).toNat, .inr (.inl (fun j => Int64.ofInt (am_v h a j)))) := by
  unfold am_ce; rw [if_neg (by omega), if_neg (by omega), if_pos (by omega)]
theorem am_ce_ref {ad : Int → Nat} {fm : Value} {cA : Int → ClassId} {h : am_H} {a : Int} (hk : 20 ≤ am_k h a) : am_ce ad fm cA h a = .inl (cA a, (am_l h a).toNat, .inr (.inr (.inr (.inr (fun j => am_ro ad (if (j : Int) < am_l h a then am_v h a j else -1)))))) := by
  unfold am_ce; rw [if_neg (by omega), if_neg (by omega), if_neg (by omega)]
/-- more addresses: the cells that are there are the same -/
theorem am_ce_ex {L : Int} {xs : Int → Int} {ad ad' : Int → Nat} {fm : Value} {cA cA' : Int → ClassId} {h h' : am_H} {a : Int} (H : am_hok L xs h) (hx : am_ex (am_n h) ad ad') (h0 : 0 ≤ a) (hn : a < am_n h) (hc : cA' a = cA a) (hk : am_k h' a = am_k h a) (hl : am_l h' a = am_l h a) (hv : ∀ j, am_v h' a j = am_v h a j) : am_ce ad' fm cA' h' a = am_ce ad fm cA h a := by
  have hN := H.1
  rcases H.2.2.1 a h0 hn with ⟨g1, g2, g3⟩ | ⟨g1, g2, g3, g4, g5⟩
  · rw [am_ce_obj (by omega), am_ce_obj g2, hk]
    congr 2
    unfold am_fs
    apply List.map_congr_left
    intro k hkk
    rw [hv]
    have hk' := List.mem_range.mp hkk
    refine am_vl_ex hx hN ?_
    have g := g3 k hk'
    have h4 := am_ft4 (ci := (am_k h a).toNat) (by omega) hk'
    unfold am_fdok at g
    rcases h4 with h4 | h4 | h4 | h4 <;> rw [h4] at g ⊢
    · exact am_vok_i g
    · exact am_vok_l g
    · exact am_vok_r (Or.inl g)
    · refine am_vok_i ?_
      simp at g
      unfold am_r32
      omega
  · unfold am_ce
    rw [hk, hl, hc]
    simp only [hv]
    by_cases c1 : am_k h a ≤ 10
    · omega
    rw [if_neg c1, if_neg c1]
    by_cases c2 : am_k h a ≤ 18
    · rw [if_pos c2, if_pos c2]
    rw [if_neg c2, if_neg c2]
    by_cases c3 : am_k h a ≤ 19
    · rw [if_pos c3, if_pos c3]
    rw [if_neg c3, if_neg c3]
    have : (fun j : Nat => am_ro ad' (if (j : Int) < am_l h a then am_v h a j else -1)) = (fun j : Nat => am_ro ad (if (j : Int) < am_l h a then am_v h a j else -1)) := by
      funext j
      by_cases c4 : (j : Int) < am_l h a
      · rw [if_pos c4]
        have g := g5 j (by omega) c4
        unfold am_elok at g
        rw [if_neg (by omega), if_neg (by omega), if_neg (by omega), if_neg (by omega)] at g
        unfold am_ro
        split
        · rfl
        · rw [hx _ (by omega)]
      · rw [if_neg c4]; rfl
    rw [this]
theorem am_ws_new {L : Int} {xs : Int → Int} {ad : Int → Nat} {fm : Value} {cA : Int → ClassId} {h : am_H} (H : am_hok L xs h) {k l : Int} {z : Int → Int} {q : Nat} {cq : ClassId} :
    am_ws (fun x => if x = am_n h then q else ad x) fm (fun x => if x = am_n h then cq else cA x) (am_new h k l z) = am_ws ad fm cA h ++ [(q, am_ce (fun x => if x = am_n h then q else ad x) fm (fun x => if x = am_n h then cq else cA x) (am_new h k l z) (am_n h))] := by
  have hN := H.1
  have hx : am_ex (am_n h) ad (fun x => if x = am_n h then q else ad x) := fun a ha => if_neg (by omega)
  have e : (am_n (am_new h k l z)).toNat = (am_n h).toNat + 1 := by show (am_n h + 1).toNat = _; omega
  unfold am_ws
  rw [e, List.range_succ, List.map_append]
  congr 1
  · apply List.map_congr_left
    intro a ha
    have ha' := List.mem_range.mp ha
    have e1 : (fun x => if x = am_n h then q else ad x) (a : Int) = ad (a : Int) := if_neg (by omega)
    have hne : ¬ (a : Int) = am_n h := by omega
    rw [e1]
    congr 1
    refine am_ce_ex H hx (by omega) (by omega) (if_neg (by omega)) ?_ ?_ ?_
    · exact if_neg hne
    · exact if_neg hne
    · exact fun j => if_neg hne
  · have e1 : (fun x => if x = am_n h then q else ad x) (am_n h) = q := if_pos rfl
    rw [List.map_cons, List.map_nil, Int.toNat_of_nonneg hN, e1]
theorem am_has_ex {ad ad' : Int → Nat} {fm : Value} {arr : Array Slot} {ls : List am_V} {n : Int} (h : am_has ad fm arr ls) (hx : am_ex n ad ad') (h0 : 0 ≤ n) (hl : am_lok n ls) : am_has ad' fm arr ls :=
  ⟨h.1, h.2.1, fun k v hv h3 => by rw [am_vl_ex hx h0 (hl v (List.mem_of_getElem? hv))]; exact h.2.2 k v hv h3⟩
theorem am_map_ex {ad ad' : Int → Nat} {fm : Value} {st : List am_V} {n : Int} (hx : am_ex n ad ad') (h0 : 0 ≤ n) (hl : am_lok n st) : st.map (am_vl ad' fm) = st.map (am_vl ad fm) :=
  List.map_congr_left (fun v hv => am_vl_ex hx h0 (hl v hv))
theorem am_cl32 {i : Int} (h0 : 0 ≤ i) (h1 : i ≤ 2147483647) : (Int32.ofInt i).toNatClampNeg = i.toNat := Int32.toNatClampNeg_ofInt_of_le (by omega) (by omega)
theorem am_vpin {i l : Int} (h0 : 0 ≤ i) (hi : i < l) (hl : l ≤ 2147483647) : vp_in (Int32.ofInt i) l.toNat := by
  rw [vp_in_iff, am_i32 ⟨by omega, by omega⟩]
  omega
theorem am_rf_ro (ad : Int → Nat) (fm : Value) {x : Int} (h : x = -1 ∨ 0 ≤ x) : va_rf (am_ro ad x) = am_rf ad fm x := by
  unfold am_ro am_rf
  by_cases c : x = -1
  · rw [if_pos c, if_pos c]; rfl
  · rw [if_neg c, if_neg c, if_neg (by omega)]; rfl
theorem am_upd_int {h : am_H} {a i v : Int} (h0 : 0 ≤ i) : upd (fun j : Nat => Int32.ofInt (am_v h a j)) i.toNat (Int32.ofInt v) = (fun j : Nat => Int32.ofInt (am_v (am_set h a i v) a j)) := by
  funext j
  rw [am_set_v]
  unfold upd
  by_cases c : j = i.toNat
  · rw [if_pos c, if_pos ⟨rfl, by omega⟩]
  · rw [if_neg c, if_neg (by omega)]
theorem am_upd_long {h : am_H} {a i v : Int} (h0 : 0 ≤ i) : vp_updL (fun j : Nat => Int64.ofInt (am_v h a j)) i.toNat (Int64.ofInt v) = (fun j : Nat => Int64.ofInt (am_v (am_set h a i v) a j)) := by
  funext j
  rw [am_set_v]
  unfold vp_updL
  by_cases c : j = i.toNat
  · rw [if_pos c, if_pos ⟨rfl, by omega⟩]
  · rw [if_neg c, if_neg (by omega)]
theorem am_upd_ref {ad : Int → Nat} {h : am_H} {a i v : Int} (h0 : 0 ≤ i) (hi : i < am_l h a) : va_up (fun j : Nat => am_ro ad (if (j : Int) < am_l h a then am_v h a j else -1)) i.toNat (am_ro ad v) = (fun j : Nat => am_ro ad (if (j : Int) < am_l (am_set h a i v) a then am_v (am_set h a i v) a j else -1)) := by
  funext j
  rw [am_set_v]
  show (if j = i.toNat then _ else _) = am_ro ad (if (j : Int) < am_l h a then _ else _)
  by_cases c : j = i.toNat
  · rw [if_pos c, if_pos (by omega), if_pos ⟨rfl, by omega⟩]
  · rw [if_neg c]
    have e1 : ¬ (a = a ∧ (j : Int) = i) := by omega
    rw [if_neg e1]
