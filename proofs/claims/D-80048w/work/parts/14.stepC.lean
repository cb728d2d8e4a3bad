set_option maxRecDepth 100000
theorem am_enx {k : Int} (h1 : 20 ≤ k) (h2 : k ≤ 23) : am_en k.toNat = am_nm (am_ec k).toNat ∧ 0 ≤ am_ec k ∧ am_ec k < 11 := by
  have : k = 20 ∨ k = 21 ∨ k = 22 ∨ k = 23 := by omega
  rcases this with rfl | rfl | rfl | rfl <;> exact ⟨rfl, by decide, by decide⟩
theorem am_ws_st {ad : Int → Nat} {fm : Value} {cA : Int → ClassId} {h : am_H} {a i v : Int} {E : va_E} (h0 : 0 ≤ a) (hE : E = am_ce ad fm cA (am_set h a i v) a) : (am_ws ad fm cA h).set a.toNat (ad a, E) = am_ws ad fm cA (am_set h a i v) := by
  rw [hE]
  exact am_ws_set h0 rfl (fun _ => rfl) (fun _ => rfl) (fun b hb j => by rw [am_set_v, if_neg (fun e => hb e.1)])
section
variable {p : Program} {l : Launch} {e : Env} {R : Room} {s : State} {m : MethodId} {args : Array Value} {below : List Frame} {meth : Method} {c : Code} {Q : State → Prop} {fm : Value} {D : va_G} {A : Nat → Prop} {h1 h : am_H}
variable {y d pc : Nat} {ls st : List am_V} {ad : Int → Nat} {cA : Int → ClassId} {tys : List (ClassId × FieldType)} {L : Int} {xs : Int → Int}
theorem am_W_iast (hh : am_hok L xs h) {a i v : Int} (h0 : 0 ≤ a) (hk : am_k h a = 16) (i0 : 0 ≤ i) (i1 : i < am_l h a) (F : am_Fx y d p R s m args meth c) (hd : decode (am_b y) pc = .ok (.iastore, 1))
    (kk : am_At p l e R s m args below meth c Q fm D A h1 (am_set h a i v) (pc + 1) ls st ad cA tys) : am_At p l e R s m args below meth c Q fm D A h1 h pc ls ((0, v) :: (0, i) :: (2, a) :: st) ad cA tys := by
  intro arr H locs ha hw hS
  obtain ⟨hn, -, g3, g4⟩ := am_arr hh h0 (by omega)
  obtain ⟨t0, ht0⟩ := hw.2.2.2 a h0 hn (by omega)
  rw [hk] at ht0
  have hg := am_ws_get (ad := ad) (fm := fm) (cA := cA) h0 hn
  rw [am_ce_int (by omega) (by omega)] at hg
  rw [List.map_cons, List.map_cons, List.map_cons, am_vl_r ad fm (x := a) (by omega) (by omega), am_vl_0, am_vl_0]
  refine va_iast F.1 F.2.1 hw.1 hw.2.1 hw.2.2.1 hS a.toNat t0 hg ht0 (am_vpin i0 i1 (by omega)) hd ?_
  intro H1 locs1 hP1 hD1 hS1
  have hset : (am_ws ad fm cA h).set a.toNat (ad a, .inl (cA a, (am_l h a).toNat, .inl (fun j : Nat => Int32.ofInt (am_v (am_set h a i v) a j)))) = am_ws ad fm cA (am_set h a i v) := am_ws_st (i := i) (v := v) h0 (am_ce_int (ad := ad) (fm := fm) (cA := cA) (h := am_set h a i v) (a := a) (by show 16 ≤ am_k h a; omega) (by show am_k h a ≤ 18; omega)).symm
  rw [am_cl32 i0 (by omega), am_upd_int i0, hset] at hP1 hD1
  exact kk arr H1 locs1 ha ⟨hw.1, hP1, hD1, hw.2.2.2⟩ hS1
theorem am_W_bast (hh : am_hok L xs h) {a i v : Int} (h0 : 0 ≤ a) (hk : am_k h a = 17) (i0 : 0 ≤ i) (i1 : i < am_l h a) (F : am_Fx y d p R s m args meth c) (hd : decode (am_b y) pc = .ok (.bastore, 1))
    (kk : am_At p l e R s m args below meth c Q fm D A h1 (am_set h a i (am_i2b v)) (pc + 1) ls st ad cA tys) : am_At p l e R s m args below meth c Q fm D A h1 h pc ls ((0, v) :: (0, i) :: (2, a) :: st) ad cA tys := by
  intro arr H locs ha hw hS
  obtain ⟨hn, -, g3, g4⟩ := am_arr hh h0 (by omega)
  obtain ⟨t0, ht0⟩ := hw.2.2.2 a h0 hn (by omega)
  rw [hk] at ht0
  have hg := am_ws_get (ad := ad) (fm := fm) (cA := cA) h0 hn
  rw [am_ce_int (by omega) (by omega)] at hg
  rw [List.map_cons, List.map_cons, List.map_cons, am_vl_r ad fm (x := a) (by omega) (by omega), am_vl_0, am_vl_0]
  refine va_bast F.1 F.2.1 hw.1 hw.2.1 hw.2.2.1 hS a.toNat t0 hg ht0 (am_vpin i0 i1 (by omega)) hd ?_
  intro H1 locs1 hP1 hD1 hS1
  have e1 : vp_nar .byte (Int32.ofInt v) = Int32.ofInt (am_i2b v) := by rw [vp_nar_byte, am_i2b, Int32.ofInt_toInt]
  have hset : (am_ws ad fm cA h).set a.toNat (ad a, .inl (cA a, (am_l h a).toNat, .inl (fun j : Nat => Int32.ofInt (am_v (am_set h a i (am_i2b v)) a j)))) = am_ws ad fm cA (am_set h a i (am_i2b v)) := am_ws_st (i := i) (v := am_i2b v) h0 (am_ce_int (ad := ad) (fm := fm) (cA := cA) (h := am_set h a i (am_i2b v)) (a := a) (by show 16 ≤ am_k h a; omega) (by show am_k h a ≤ 18; omega)).symm
  rw [am_cl32 i0 (by omega), e1, am_upd_int i0, hset] at hP1 hD1
  exact kk arr H1 locs1 ha ⟨hw.1, hP1, hD1, hw.2.2.2⟩ hS1
theorem am_W_zast (hh : am_hok L xs h) {a i v : Int} (h0 : 0 ≤ a) (hk : am_k h a = 18) (hv : v = 0 ∨ v = 1) (i0 : 0 ≤ i) (i1 : i < am_l h a) (F : am_Fx y d p R s m args meth c) (hd : decode (am_b y) pc = .ok (.bastore, 1))
    (kk : am_At p l e R s m args below meth c Q fm D A h1 (am_set h a i v) (pc + 1) ls st ad cA tys) : am_At p l e R s m args below meth c Q fm D A h1 h pc ls ((0, v) :: (0, i) :: (2, a) :: st) ad cA tys := by
  intro arr H locs ha hw hS
  obtain ⟨hn, -, g3, g4⟩ := am_arr hh h0 (by omega)
  obtain ⟨t0, ht0⟩ := hw.2.2.2 a h0 hn (by omega)
  rw [hk] at ht0
  have hg := am_ws_get (ad := ad) (fm := fm) (cA := cA) h0 hn
  rw [am_ce_int (by omega) (by omega)] at hg
  rw [List.map_cons, List.map_cons, List.map_cons, am_vl_r ad fm (x := a) (by omega) (by omega), am_vl_0, am_vl_0]
  refine va_zast F.1 F.2.1 hw.1 hw.2.1 hw.2.2.1 hS a.toNat t0 hg ht0 (am_vpin i0 i1 (by omega)) hd ?_
  intro H1 locs1 hP1 hD1 hS1
  have e1 : vp_nar .boolean (Int32.ofInt v) = Int32.ofInt v := by rcases hv with rfl | rfl <;> rfl
  have hset : (am_ws ad fm cA h).set a.toNat (ad a, .inl (cA a, (am_l h a).toNat, .inl (fun j : Nat => Int32.ofInt (am_v (am_set h a i v) a j)))) = am_ws ad fm cA (am_set h a i v) := am_ws_st (i := i) (v := v) h0 (am_ce_int (ad := ad) (fm := fm) (cA := cA) (h := am_set h a i v) (a := a) (by show 16 ≤ am_k h a; omega) (by show am_k h a ≤ 18; omega)).symm
  rw [am_cl32 i0 (by omega), e1, am_upd_int i0, hset] at hP1 hD1
  exact kk arr H1 locs1 ha ⟨hw.1, hP1, hD1, hw.2.2.2⟩ hS1
theorem am_W_last (hh : am_hok L xs h) {a i v : Int} (h0 : 0 ≤ a) (hk : am_k h a = 19) (i0 : 0 ≤ i) (i1 : i < am_l h a) (F : am_Fx y d p R s m args meth c) (hd : decode (am_b y) pc = .ok (.lastore, 1))
    (kk : am_At p l e R s m args below meth c Q fm D A h1 (am_set h a i v) (pc + 1) ls st ad cA tys) : am_At p l e R s m args below meth c Q fm D A h1 h pc ls ((1, v) :: (0, i) :: (2, a) :: st) ad cA tys := by
  intro arr H locs ha hw hS
  obtain ⟨hn, -, g3, g4⟩ := am_arr hh h0 (by omega)
  obtain ⟨t0, ht0⟩ := hw.2.2.2 a h0 hn (by omega)
  rw [hk] at ht0
  have hg := am_ws_get (ad := ad) (fm := fm) (cA := cA) h0 hn
  rw [am_ce_long hk] at hg
  rw [List.map_cons, List.map_cons, List.map_cons, am_vl_r ad fm (x := a) (by omega) (by omega), am_vl_0, am_vl_1]
  refine va_last F.1 F.2.1 hw.1 hw.2.1 hw.2.2.1 hS a.toNat t0 hg ht0 (am_vpin i0 i1 (by omega)) hd ?_
  intro H1 locs1 hP1 hD1 hS1
  have hset : (am_ws ad fm cA h).set a.toNat (ad a, .inl (cA a, (am_l h a).toNat, .inr (.inl (fun j : Nat => Int64.ofInt (am_v (am_set h a i v) a j))))) = am_ws ad fm cA (am_set h a i v) := am_ws_st (i := i) (v := v) h0 (am_ce_long (ad := ad) (fm := fm) (cA := cA) (h := am_set h a i v) (a := a) (by show am_k h a = 19; omega)).symm
  rw [am_cl32 i0 (by omega), am_upd_long i0, hset] at hP1 hD1
  exact kk arr H1 locs1 ha ⟨hw.1, hP1, hD1, hw.2.2.2⟩ hS1
theorem am_W_aast (hh : am_hok L xs h) {a i v : Int} (h0 : 0 ≤ a) (hk : 20 ≤ am_k h a) (hv : v = -1 ∨ (0 ≤ v ∧ am_k h v = am_ec (am_k h a))) (i0 : 0 ≤ i) (i1 : i < am_l h a) (F : am_Fx y d p R s m args meth c) (hd : decode (am_b y) pc = .ok (.aastore, 1))
    (kk : am_At p l e R s m args below meth c Q fm D A h1 (am_set h a i v) (pc + 1) ls st ad cA tys) : am_At p l e R s m args below meth c Q fm D A h1 h pc ls ((2, v) :: (0, i) :: (2, a) :: st) ad cA tys := by
  intro arr H locs ha hw hS
  obtain ⟨hn, hk2, g3, g4⟩ := am_arr hh h0 (by omega)
  obtain ⟨t0, ht0⟩ := hw.2.2.2 a h0 hn (by omega)
  have hty : am_aty (am_k h a) = .object (am_en (am_k h a).toNat) := by unfold am_aty; rw [if_neg (by omega), if_neg (by omega), if_neg (by omega), if_neg (by omega)]
  rw [hty] at ht0
  have hg := am_ws_get (ad := ad) (fm := fm) (cA := cA) h0 hn
  rw [am_ce_ref hk] at hg
  rw [List.map_cons, List.map_cons, List.map_cons, am_vl_r ad fm (x := a) (by omega) (by omega), am_vl_0]
  have kk2 : ∀ (H1 : Heap) (locs1 : List Loc), va_P D am_cl ((am_ws ad fm cA h).set a.toNat (ad a, .inl (cA a, (am_l h a).toNat, .inr (.inr (.inr (.inr (va_up (fun j : Nat => am_ro ad (if (j : Int) < am_l h a then am_v h a j else -1)) (Int32.ofInt i).toNatClampNeg (am_ro ad v)))))))) H1 → va_D A ((am_ws ad fm cA h).set a.toNat (ad a, .inl (cA a, (am_l h a).toNat, .inr (.inr (.inr (.inr (va_up (fun j : Nat => am_ro ad (if (j : Int) < am_l h a then am_v h a j else -1)) (Int32.ofInt i).toNatClampNeg (am_ro ad v)))))))) → va_S A s.heap H1 locs1 → W p l e R s m args below meth c H1 locs1 (am_n h - am_n h1).toNat (am_m h - am_m h1).toNat Q (F0 m (pc + 1) arr (st.map (am_vl ad fm))) := by
    intro H1 locs1 hP1 hD1 hS1
    have hset : (am_ws ad fm cA h).set a.toNat (ad a, .inl (cA a, (am_l h a).toNat, .inr (.inr (.inr (.inr (fun j : Nat => am_ro ad (if (j : Int) < am_l (am_set h a i v) a then am_v (am_set h a i v) a j else -1))))))) = am_ws ad fm cA (am_set h a i v) := am_ws_st (i := i) (v := v) h0 (am_ce_ref (ad := ad) (fm := fm) (cA := cA) (h := am_set h a i v) (a := a) (by show 20 ≤ am_k h a; omega)).symm
    rw [am_cl32 i0 (by omega), am_upd_ref i0 i1, hset] at hP1 hD1
    exact kk arr H1 locs1 ha ⟨hw.1, hP1, hD1, hw.2.2.2⟩ hS1
  rcases hv with rfl | ⟨v0, vk⟩
  · rw [am_vl_n]
    exact va_astqN F.1 F.2.1 hw.1 hw.2.1 hw.2.2.1 hS a.toNat t0 hg ht0 (am_vpin i0 i1 (by omega)) hd kk2
  · obtain ⟨e1, e2, e3⟩ := am_enx hk hk2
    obtain ⟨-, hvn, -⟩ := am_obj hh (a := v) (by omega) (by omega)
    have hgv := am_ws_get (ad := ad) (fm := fm) (cA := cA) v0 hvn
    rw [am_ce_obj (by omega), vk] at hgv
    rw [am_vl_r ad fm (x := v) (by omega) (by omega)]
    have hro : am_ro ad v = some (ad v) := if_neg (by omega)
    rw [hro] at kk2
    rw [e1] at ht0
    exact va_astq F.1 F.2.1 hw.1 hw.2.1 hw.2.2.1 hS a.toNat t0 v.toNat (am_ec (am_k h a)).toNat hg (r := (am_nm (am_ec (am_k h a)).toNat, am_T (am_ec (am_k h a)).toNat, am_fn (am_ec (am_k h a)).toNat)) ht0 hgv (am_clx _ (by omega)) (am_vpin i0 i1 (by omega)) hd kk2
/-- how many cells, slots more -/
theorem am_cnt {a b k : Int} (h : b ≤ a) (hk : 0 ≤ k) : (a + k - b).toNat = (a - b).toNat + k.toNat := by omega
theorem am_W_newa (hh : am_hok L xs h) (hl : am_lok (am_n h) ls) (hs : am_lok (am_n h) st) (hA : ∀ q, s.heap.size ≤ q → A q) {t : ArrayType} {k n : Int} (hk : am_prm t k = true) (n0 : 0 ≤ n) (n1 : n ≤ 1000000) (hm1 : am_n h1 ≤ am_n h) (hm2 : am_m h1 ≤ am_m h) (hc : (am_n h + 1 - am_n h1).toNat ≤ R.cells) (hsl : (am_m h + n - am_m h1).toNat ≤ R.slots) (F : am_Fx y d p R s m args meth c) (hd : decode (am_b y) pc = .ok (.newarray t, 2))
    (kk : ∀ (ad' : Int → Nat) (cA' : Int → ClassId) (tys' : List (ClassId × FieldType)), am_ex (am_n h) ad ad' → am_At p l e R s m args below meth c Q fm D A h1 (am_new h k n (fun _ => 0)) (pc + 2) ls ((2, am_n h) :: st) ad' cA' tys') : am_At p l e R s m args below meth c Q fm D A h1 h pc ls ((0, n) :: st) ad cA tys := by
  intro arr H locs ha hw hS
  have hN := hh.1
  have hkr := am_prm_sp hk
  rw [List.map_cons, am_vl_0]
  rw [am_cnt hm1 (by decide)] at hc
  rw [am_cnt hm2 n0] at hsl
  have hx : ∀ q, am_ex (am_n h) ad (fun x => if x = am_n h then q else ad x) := fun q a ha => if_neg (by omega)
  have common : ∀ (ty : FieldType) (a0 : vp_A), newarray.typeOf t = ty → am_aty k = ty → (Cond.arrayClass ty) ∈ lw_all → componentBytes ty ≤ 8 → (∀ c0 : ClassId, vp_cell c0 a0 = arrV c0 n.toNat (fun _ => defaultValue ty)) → (∀ (ad' : Int → Nat) (cA' : Int → ClassId), am_ce ad' fm cA' (am_new h k n (fun _ => 0)) (am_n h) = .inl (cA' (am_n h), a0)) → W p l e R s m args below meth c H locs (am_n h - am_n h1).toNat (am_m h - am_m h1).toNat Q (F0 m pc arr (.int (Int32.ofInt n) :: st.map (am_vl ad fm))) := by
    intro ty a0 ht1 ht2 hw1 hcb hcell hce
    refine va_newa F.1 F.2.1 (atype := t) (by rw [ht1]; exact F.2.2.2.2.1 _ hw1) ht1 hw.1 hw.2.1 hw.2.2.1 hS hA (N' := n.toNat) (a0 := a0) hcell ?_ (am_cl32 n0 (by omega)) ?_ (by simpa using hc) hsl hd ?_
    · rw [show (0 : Int32) = Int32.ofInt 0 from rfl, am_lt32 ⟨by omega, by omega⟩ am_z32]; omega
    · have : n.toNat ≤ 1000000 := by omega
      calc n.toNat * componentBytes ty ≤ 1000000 * 8 := Nat.mul_le_mul this hcb
        _ ≤ 536870912 := by decide
    · intro q cq H1 hK1 hP1 hD1 hS1
      have e0 := am_ws_new (ad := ad) (fm := fm) (cA := cA) hh (k := k) (l := n) (z := fun _ => 0) (q := q) (cq := cq)
      rw [hce] at e0
      simp only [if_true] at e0
      have k1 := kk _ (fun x => if x = am_n h then cq else cA x) (tys ++ [(cq, ty)]) (hx q) arr H1 locs (am_has_ex ha (hx q) hN hl) ⟨hK1, by rw [e0]; exact hP1, by rw [e0]; exact hD1, ?_⟩ hS1
      · rw [List.map_cons, am_map_ex (hx q) hN hs, am_vl_r _ fm (by omega) (by omega), if_pos rfl] at k1
        have ec : (am_n (am_new h k n (fun _ => 0)) - am_n h1).toNat = (am_n h - am_n h1).toNat + 1 := by show (am_n h + 1 - am_n h1).toNat = _; omega
        have es : (am_m (am_new h k n (fun _ => 0)) - am_m h1).toNat = (am_m h - am_m h1).toNat + n.toNat := by show (am_m h + n - am_m h1).toNat = _; omega
        rwa [ec, es] at k1
      · intro b hb0 hbn hbk
        by_cases c1 : b = am_n h
        · subst c1
          refine ⟨tys.length, ?_⟩
          have e5 : (fun x => if x = am_n h then cq else cA x) (am_n h) = cq := if_pos rfl
          rw [List.getElem?_append_right (Nat.le_refl _), Nat.sub_self, e5, show am_k (am_new h k n (fun _ => 0)) (am_n h) = k from if_pos rfl, ht2]
          rfl
        · have hb2 : b < am_n h := by have : b < am_n h + 1 := hbn; omega
          have hk2 : am_k (am_new h k n (fun _ => 0)) b = am_k h b := if_neg c1
          rw [hk2] at hbk ⊢
          obtain ⟨t0, ht0⟩ := hw.2.2.2 b hb0 hb2 hbk
          refine ⟨t0, ?_⟩
          have e5 : (fun x => if x = am_n h then cq else cA x) b = cA b := if_neg c1
          rw [e5, List.getElem?_append_left (List.getElem?_eq_some_iff.mp ht0).1]
          exact ht0
  have hkn : am_k (am_new h k n (fun _ => 0)) (am_n h) = k := if_pos rfl
  have hln : am_l (am_new h k n (fun _ => 0)) (am_n h) = n := if_pos rfl
  have hvn : ∀ j, am_v (am_new h k n (fun _ => 0)) (am_n h) j = 0 := fun j => if_pos rfl
  have hint : 16 ≤ k → k ≤ 18 → ∀ (ad' : Int → Nat) (cA' : Int → ClassId), am_ce ad' fm cA' (am_new h k n (fun _ => 0)) (am_n h) = .inl (cA' (am_n h), n.toNat, .inl (fun _ => 0)) := by
    intro k1 k2 ad' cA'
    rw [am_ce_int (by omega) (by omega), hln]
    simp only [hvn]
    rfl
  unfold am_prm at hk
  split at hk
  · simp only [decide_eq_true_eq] at hk
    subst hk
    exact common .int (n.toNat, .inl (fun _ => 0)) rfl rfl q208 (by decide) (fun _ => rfl) (hint (by omega) (by omega))
  · simp only [decide_eq_true_eq] at hk
    subst hk
    exact common .byte (n.toNat, .inl (fun _ => 0)) rfl rfl q207 (by decide) (fun _ => rfl) (hint (by omega) (by omega))
  · simp only [decide_eq_true_eq] at hk
    subst hk
    exact common .boolean (n.toNat, .inl (fun _ => 0)) rfl rfl q209 (by decide) (fun _ => rfl) (hint (by omega) (by omega))
  · simp only [decide_eq_true_eq] at hk
    subst hk
    refine common .long (n.toNat, .inr (.inl (fun _ => 0))) rfl rfl q210 (by decide) (fun _ => rfl) ?_
    intro ad' cA'
    rw [am_ce_long hkn, hln]
    simp only [hvn]
    rfl
  · cases hk
end
