set_option maxRecDepth 100000
section
variable {p : Program} {l : Launch} {e : Env} {R : Room} {s : State} {m : MethodId} {args : Array Value} {below : List Frame} {meth : Method} {c : Code} {Q : State → Prop} {fm : Value} {D : va_G} {A : Nat → Prop} {h1 h : am_H}
variable {y d pc : Nat} {ls st : List am_V} {ad : Int → Nat} {cA : Int → ClassId} {tys : List (ClassId × FieldType)} {L : Int} {xs : Int → Int}
theorem am_W_anew (C : am_Cs L xs ad fm A s s.heap) (hh : am_hok L xs h) (hl : am_lok (am_n h) ls) (hs : am_lok (am_n h) st) (hA : ∀ q, s.heap.size ≤ q → A q) {x : Nat} {k n : Int} (k0 : 20 ≤ k) (k1 : k ≤ 23) (hx : (am_ow y, x, k.toNat) ∈ am_ka) (n0 : 0 ≤ n) (n1 : n ≤ 1000000) (hm1 : am_n h1 ≤ am_n h) (hm2 : am_m h1 ≤ am_m h) (hc : (am_n h + 1 - am_n h1).toNat ≤ R.cells) (hsl : (am_m h + n - am_m h1).toNat ≤ R.slots) (F : am_Fx y d p R s m args meth c) (hd : decode (am_b y) pc = .ok (.anewarray x, 3))
    (kk : ∀ (ad' : Int → Nat) (cA' : Int → ClassId) (tys' : List (ClassId × FieldType)), am_ex (am_n h) ad ad' → am_At p l e R s m args below meth c Q fm D A h1 (am_new h k n (fun _ => -1)) (pc + 3) ls ((2, am_n h) :: st) ad' cA' tys') : am_At p l e R s m args below meth c Q fm D A h1 h pc ls ((0, n) :: st) ad cA tys := by
  intro arr H locs ha hw hS
  have hN := hh.1
  rw [List.map_cons, am_vl_0]
  rw [am_cnt hm1 (by decide)] at hc
  rw [am_cnt hm2 n0] at hsl
  have hex : ∀ q, am_ex (am_n h) ad (fun x => if x = am_n h then q else ad x) := fun q a ha => if_neg (by omega)
  have hkn : am_k (am_new h k n (fun _ => -1)) (am_n h) = k := if_pos rfl
  have hln : am_l (am_new h k n (fun _ => -1)) (am_n h) = n := if_pos rfl
  have hvn : ∀ j, am_v (am_new h k n (fun _ => -1)) (am_n h) j = -1 := fun j => if_pos rfl
  refine va_newq F.1 F.2.1 F.2.2.2.1 (F.2.2.2.2.1 _ (am_ka_ok _ hx)) (C.2.2.2.2.2.2.2 k.toNat (by omega) (by omega)) hw.1 hw.2.1 hw.2.2.1 hS hA (N' := n.toNat) ?_ (am_cl32 n0 (by omega)) (by omega) (by simpa using hc) hsl hd ?_
  · rw [show (0 : Int32) = Int32.ofInt 0 from rfl, am_lt32 ⟨by omega, by omega⟩ am_z32]; omega
  · intro q cq H1 hK1 hP1 hD1 hS1
    have e0 := am_ws_new (ad := ad) (fm := fm) (cA := cA) hh (k := k) (l := n) (z := fun _ => -1) (q := q) (cq := cq)
    rw [am_ce_ref (by omega), hln] at e0
    simp only [hvn, if_true] at e0
    have e1 : (fun j : Nat => am_ro (fun x => if x = am_n h then q else ad x) (if (j : Int) < n then (-1) else (-1))) = (fun _ : Nat => (none : Option Nat)) := by
      funext j; unfold am_ro; split <;> rfl
    rw [e1] at e0
    have k2 := kk _ (fun x => if x = am_n h then cq else cA x) (tys ++ [(cq, .object (am_en k.toNat))]) (hex q) arr H1 locs (am_has_ex ha (hex q) hN hl) ⟨hK1, by rw [e0]; exact hP1, by rw [e0]; exact hD1, ?_⟩ hS1
    · rw [List.map_cons, am_map_ex (hex q) hN hs, am_vl_r _ fm (by omega) (by omega), if_pos rfl] at k2
      have ec : (am_n (am_new h k n (fun _ => -1)) - am_n h1).toNat = (am_n h - am_n h1).toNat + 1 := by show (am_n h + 1 - am_n h1).toNat = _; omega
      have es : (am_m (am_new h k n (fun _ => -1)) - am_m h1).toNat = (am_m h - am_m h1).toNat + n.toNat := by show (am_m h + n - am_m h1).toNat = _; omega
      rwa [ec, es] at k2
    · intro b hb0 hbn hbk
      by_cases c1 : b = am_n h
      · subst c1
        refine ⟨tys.length, ?_⟩
        have e5 : (fun x => if x = am_n h then cq else cA x) (am_n h) = cq := if_pos rfl
        rw [List.getElem?_append_right (Nat.le_refl _), Nat.sub_self, e5, hkn]
        unfold am_aty
        rw [if_neg (by omega), if_neg (by omega), if_neg (by omega), if_neg (by omega)]
        rfl
      · have hb2 : b < am_n h := by have : b < am_n h + 1 := hbn; omega
        have hk2 : am_k (am_new h k n (fun _ => -1)) b = am_k h b := if_neg c1
        rw [hk2] at hbk ⊢
        obtain ⟨t0, ht0⟩ := hw.2.2.2 b hb0 hb2 hbk
        refine ⟨t0, ?_⟩
        have e5 : (fun x => if x = am_n h then cq else cA x) b = cA b := if_neg c1
        rw [e5, List.getElem?_append_left (List.getElem?_eq_some_iff.mp ht0).1]
        exact ht0
theorem am_dflt {ad : Int → Nat} {fm : Value} {ft : Nat} {ty : FieldType} (hc : am_tyc ft ty = true) : defaultValue ty = am_vl ad fm (am_tg ft, if ft = 2 then -1 else 0) := by
  unfold am_tyc at hc
  split at hc
  all_goals first | rfl | cases hc
theorem am_W_new (hh : am_hok L xs h) (hl : am_lok (am_n h) ls) (hs : am_lok (am_n h) st) (hA : ∀ q, s.heap.size ≤ q → A q) {x : Nat} {ci : Int} (k0 : 0 ≤ ci) (k1 : ci < 11) (hx : (am_ow y, x, ci.toNat) ∈ am_kn) (hm1 : am_n h1 ≤ am_n h) (hm2 : am_m h1 ≤ am_m h) (hc : (am_n h + 1 - am_n h1).toNat ≤ R.cells) (hsl : (am_m h + am_fn ci.toNat - am_m h1).toNat ≤ R.slots) (F : am_Fx y d p R s m args meth c) (hd : decode (am_b y) pc = .ok (.new x, 3))
    (kk : ∀ (ad' : Int → Nat) (cA' : Int → ClassId) (tys' : List (ClassId × FieldType)), am_ex (am_n h) ad ad' → am_At p l e R s m args below meth c Q fm D A h1 (am_new h ci (am_fn ci.toNat) (am_z ci.toNat)) (pc + 3) ls ((2, am_n h) :: st) ad' cA' tys') : am_At p l e R s m args below meth c Q fm D A h1 h pc ls st ad cA tys := by
  intro arr H locs ha hw hS
  have hN := hh.1
  rw [am_cnt hm1 (by decide)] at hc
  rw [am_cnt hm2 (by omega), Int.toNat_natCast] at hsl
  have hex : ∀ q, am_ex (am_n h) ad (fun x => if x = am_n h then q else ad x) := fun q a ha => if_neg (by omega)
  have hkn : am_k (am_new h ci (am_fn ci.toNat) (am_z ci.toNat)) (am_n h) = ci := if_pos rfl
  have hvn : ∀ j, am_v (am_new h ci (am_fn ci.toNat) (am_z ci.toNat)) (am_n h) j = am_z ci.toNat j := fun j => if_pos rfl
  have hlt : ci.toNat < 11 := by omega
  have hF : ∀ ad' : Int → Nat, am_fs ad' fm (am_new h ci (am_fn ci.toNat) (am_z ci.toNat)) (am_n h) ci.toNat = am_fs ad fm (am_new h ci (am_fn ci.toNat) (am_z ci.toNat)) (am_n h) ci.toNat := by
    intro ad'
    unfold am_fs
    apply List.map_congr_left
    intro k hk
    have h4 := am_ft4 hlt (List.mem_range.mp hk)
    rw [hvn]
    unfold am_z
    rw [Int.toNat_natCast]
    rcases h4 with h4 | h4 | h4 | h4 <;> rw [h4] <;> rfl
  refine va_new F.1 F.2.1 F.2.2.2.2.1 (am_in ci.toNat hlt) (am_ty ci.toNat) (am_tyx ci.toNat hlt) F.2.2.2.1 (F.2.2.2.2.1 _ (am_kn_ok _ hx)) (F.2.2.2.2.1 _ (am_ins ci.toNat hlt).1) (F.2.2.2.2.1 _ (am_ins ci.toNat hlt).2) hw.1 hw.2.1 hw.2.2.1 hS hA (am_clx ci.toNat hlt) (fs := am_fs ad fm (am_new h ci (am_fn ci.toNat) (am_z ci.toNat)) (am_n h) ci.toNat) ?_ (by simpa using hc) hsl hd ?_
  · intro j hj
    have e1 := am_fs_get (ad := ad) (fm := fm) (h := am_new h ci (am_fn ci.toNat) (am_z ci.toNat)) (a := am_n h) hj
    unfold vp_V
    rw [List.getD_eq_getElem?_getD, e1, Option.getD_some, hvn, am_dflt (ad := ad) (fm := fm) (am_tyf hlt hj)]
    unfold am_z
    rw [Int.toNat_natCast]
  · intro q H1 hP1 hD1 hS1
    have e0 := am_ws_new (ad := ad) (fm := fm) (cA := cA) hh (k := ci) (l := am_fn ci.toNat) (z := am_z ci.toNat) (q := q) (cq := 0)
    rw [am_ce_obj (by omega), hkn, hF] at e0
    have k2 := kk _ (fun x => if x = am_n h then 0 else cA x) tys (hex q) arr H1 locs (am_has_ex ha (hex q) hN hl) ⟨hw.1, by rw [e0]; exact hP1, by rw [e0]; exact hD1, ?_⟩ hS1
    · rw [List.map_cons, am_map_ex (hex q) hN hs, am_vl_r _ fm (by omega) (by omega), if_pos rfl] at k2
      have ec : (am_n (am_new h ci (am_fn ci.toNat) (am_z ci.toNat)) - am_n h1).toNat = (am_n h - am_n h1).toNat + 1 := by show (am_n h + 1 - am_n h1).toNat = _; omega
      have es : (am_m (am_new h ci (am_fn ci.toNat) (am_z ci.toNat)) - am_m h1).toNat = (am_m h - am_m h1).toNat + am_fn ci.toNat := by show (am_m h + am_fn ci.toNat - am_m h1).toNat = _; omega
      rwa [ec, es] at k2
    · intro b hb0 hbn hbk
      by_cases c1 : b = am_n h
      · subst c1; omega
      · have hb2 : b < am_n h := by have : b < am_n h + 1 := hbn; omega
        have hk2 : am_k (am_new h ci (am_fn ci.toNat) (am_z ci.toNat)) b = am_k h b := if_neg c1
        rw [hk2] at hbk ⊢
        obtain ⟨t0, ht0⟩ := hw.2.2.2 b hb0 hb2 hbk
        have e5 : (fun x => if x = am_n h then 0 else cA x) b = cA b := if_neg c1
        exact ⟨t0, by rw [e5]; exact ht0⟩
theorem am_cpy_v (h : am_H) (s sp d dp n b j : Int) : am_v (am_cpy h s sp d dp n) b j = if b = d ∧ dp ≤ j ∧ j < dp + n then am_v h s (sp + (j - dp)) else am_v h b j := rfl
theorem am_W_cpy (hf : am_nfm fm) (hh : am_hok L xs h) {x : Nat} {n dp b sp a : Int} (hx : (am_ow y, x, 7, 0) ∈ am_mAl) (hd1 : 1 ≤ d) (a0 : 0 ≤ a) (b0 : 0 ≤ b) (hk : am_k h a = am_k h b) (hk1 : 16 ≤ am_k h a) (hk2 : am_k h a ≤ 23) (n0 : 0 ≤ n) (sp0 : 0 ≤ sp) (dp0 : 0 ≤ dp) (hl1 : sp + n ≤ am_l h a) (hl2 : dp + n ≤ am_l h b) (hcat : am_cats st ≤ 8) (F : am_Fx y d p R s m args meth c) (hls : ls.length = am_ml y) (hd : decode (am_b y) pc = .ok (.invokestatic x, 3))
    (kk : am_At p l e R s m args below meth c Q fm D A h1 (am_cpy h a sp b dp n) (pc + 3) ls st ad cA tys) : am_At p l e R s m args below meth c Q fm D A h1 h pc ls ((0, n) :: (0, dp) :: (2, b) :: (0, sp) :: (2, a) :: st) ad cA tys := by
  intro arr H locs ha hw hS
  obtain ⟨ha1, -, ha3, ha4⟩ := am_arr hh a0 hk1
  obtain ⟨hb1, -, hb3, hb4⟩ := am_arr hh b0 (by omega)
  obtain ⟨t0, ht0⟩ := hw.2.2.2 a a0 ha1 hk1
  obtain ⟨t1, ht1⟩ := hw.2.2.2 b b0 hb1 (by omega)
  rw [← hk] at ht1
  have hga := am_ws_get (ad := ad) (fm := fm) (cA := cA) a0 ha1
  have hgb := am_ws_get (ad := ad) (fm := fm) (cA := cA) b0 hb1
  rw [List.map_cons, List.map_cons, List.map_cons, List.map_cons, List.map_cons, am_vl_r ad fm (x := a) (by omega) (by omega), am_vl_r ad fm (x := b) (by omega) (by omega), am_vl_0, am_vl_0, am_vl_0]
  have nn : ∀ z : Int, 0 ≤ z → z ≤ 1000000 → ¬ Int32.ofInt z < 0 := fun z z0 z1 => by
    rw [show (0 : Int32) = Int32.ofInt 0 from rfl, am_lt32 ⟨by omega, by omega⟩ am_z32]; omega
  have c1 := am_cl32 (i := n) n0 (by omega)
  have c2 := am_cl32 (i := sp) sp0 (by omega)
  have c3 := am_cl32 (i := dp) dp0 (by omega)
  have hml : c.maxLocals = arr.size := by rw [F.2.2.1, ha.1, hls]
  have hlk : (Cond.methodLink (am_nm (am_ow y)) x arraycopyName).before args s = true := F.2.2.2.2.1 _ (am_mA _ hx)
  have hroom : ((st.map (am_vl ad fm)).map fun v => v.category).sum + (nativeFrameWords "java/lang/System" "arraycopy" 5 + 11) ≤ R.locals := by
    rw [am_cats_vl hf]
    have e1 : nativeFrameWords "java/lang/System" "arraycopy" 5 ≤ 13 := by decide
    have := F.2.2.2.2.2.2.1
    omega
  have hset : ∀ E : va_E, E = am_ce ad fm cA (am_cpy h a sp b dp n) b → (am_ws ad fm cA h).set b.toNat (ad b, E) = am_ws ad fm cA (am_cpy h a sp b dp n) := by
    intro E hE
    rw [hE]
    exact am_ws_set b0 rfl (fun _ => rfl) (fun _ => rfl) (fun b' hb' j => by rw [am_cpy_v, if_neg (fun e => hb' e.1)])
  have fin : ∀ (E : va_E), E = am_ce ad fm cA (am_cpy h a sp b dp n) b → ∀ (H1 : Heap) (locs1 : List Loc), va_P D am_cl ((am_ws ad fm cA h).set b.toNat (ad b, E)) H1 → va_D A ((am_ws ad fm cA h).set b.toNat (ad b, E)) → va_S A s.heap H1 locs1 → W p l e R s m args below meth c H1 locs1 (am_n h - am_n h1).toNat (am_m h - am_m h1).toNat Q (F0 m (pc + 3) arr (st.map (am_vl ad fm))) := by
    intro E hE H1 locs1 hP1 hD1 hS1
    rw [hset E hE] at hP1 hD1
    exact kk arr H1 locs1 ha ⟨hw.1, hP1, hD1, hw.2.2.2⟩ hS1
  rcases hh.2.2.1 a a0 ha1 with g | ⟨-, -, -, -, hel⟩
  · omega
  by_cases k3 : am_k h a ≤ 18
  · rw [am_ce_int hk1 k3] at hga
    rw [am_ce_int (by omega) (by omega)] at hgb
    refine va_copyi F.1 F.2.1 hml F.2.2.2.1 hlk (F.2.2.2.2.1 _ q493) (F.2.2.2.2.1 _ q492) (F.2.2.2.2.1 _ q170) hw.1 hw.2.1 hw.2.2.1 hS a.toNat b.toNat t0 t1 hga hgb ht0 ht1 ?_ (nn _ sp0 (by omega)) (nn _ dp0 (by omega)) (nn _ n0 (by omega)) (by rw [c1, c2]; omega) (by rw [c1, c3]; omega) ?_ (by have := F.2.2.2.2.2.1; omega) hroom hd (fin _ ?_)
    · have : am_k h a = 16 ∨ am_k h a = 17 ∨ am_k h a = 18 := by omega
      rcases this with e1 | e1 | e1 <;> rw [e1] <;> rfl
    · intro i hi
      rw [c1] at hi
      rw [c2]
      have g := hel ((sp.toNat + i : Nat) : Int) (by omega) (by omega)
      unfold am_elok at g
      have : am_k h a = 16 ∨ am_k h a = 17 ∨ am_k h a = 18 := by omega
      rcases this with e1 | e1 | e1 <;> rw [e1] at g ⊢
      · rfl
      · have g' : -128 ≤ am_v h a ((sp.toNat + i : Nat) : Int) ∧ am_v h a ((sp.toNat + i : Nat) : Int) ≤ 127 := g
        show ((decide (-128 ≤ _)) && (decide (_ ≤ 127))) = true
        rw [Bool.and_eq_true, decide_eq_true_eq, decide_eq_true_eq, show (-128 : Int32) = Int32.ofInt (-128) from rfl, show (127 : Int32) = Int32.ofInt 127 from rfl, am_le32 ⟨by omega, by omega⟩ ⟨by omega, by omega⟩, am_le32 ⟨by omega, by omega⟩ ⟨by omega, by omega⟩]
        exact g'
      · have g' : am_v h a ((sp.toNat + i : Nat) : Int) = 0 ∨ am_v h a ((sp.toNat + i : Nat) : Int) = 1 := g
        rcases g' with g' | g' <;> rw [g'] <;> rfl
    · have hfun : va_cpy (fun j : Nat => Int32.ofInt (am_v h a j)) (fun j : Nat => Int32.ofInt (am_v h b j)) sp.toNat dp.toNat n.toNat = (fun j : Nat => Int32.ofInt (am_v (am_cpy h a sp b dp n) b j)) := by
        funext j
        rw [am_cpy_v]
        unfold va_cpy
        by_cases cc : dp.toNat ≤ j ∧ j < dp.toNat + n.toNat
        · have e9 : ((sp.toNat + (j - dp.toNat) : Nat) : Int) = sp + (j - dp) := by omega
          rw [if_pos cc, if_pos ⟨rfl, by omega, by omega⟩]
          dsimp only
          rw [e9]
        · rw [if_neg cc, if_neg (by omega)]
      rw [c1, c2, c3, am_ce_int (by show 16 ≤ am_k h b; omega) (by show am_k h b ≤ 18; omega), hfun]
      rfl
  · by_cases k4 : am_k h a = 19
    · rw [am_ce_long k4] at hga
      rw [am_ce_long (by omega)] at hgb
      rw [k4] at ht0 ht1
      refine va_copyl F.1 F.2.1 hml F.2.2.2.1 hlk (F.2.2.2.2.1 _ q493) (F.2.2.2.2.1 _ q492) (F.2.2.2.2.1 _ q170) hw.1 hw.2.1 hw.2.2.1 hS a.toNat b.toNat t0 t1 hga hgb ht0 ht1 rfl (nn _ sp0 (by omega)) (nn _ dp0 (by omega)) (nn _ n0 (by omega)) (by rw [c1, c2]; omega) (by rw [c1, c3]; omega) (fun _ _ => rfl) (by have := F.2.2.2.2.2.1; omega) hroom hd (fin _ ?_)
      have hfun : va_cpy (fun j : Nat => Int64.ofInt (am_v h a j)) (fun j : Nat => Int64.ofInt (am_v h b j)) sp.toNat dp.toNat n.toNat = (fun j : Nat => Int64.ofInt (am_v (am_cpy h a sp b dp n) b j)) := by
        funext j
        rw [am_cpy_v]
        unfold va_cpy
        by_cases cc : dp.toNat ≤ j ∧ j < dp.toNat + n.toNat
        · have e9 : ((sp.toNat + (j - dp.toNat) : Nat) : Int) = sp + (j - dp) := by omega
          rw [if_pos cc, if_pos ⟨rfl, by omega, by omega⟩]
          dsimp only
          rw [e9]
        · rw [if_neg cc, if_neg (by omega)]
      rw [c1, c2, c3, am_ce_long (by show am_k h b = 19; omega), hfun]
      rfl
    · have k5 : 20 ≤ am_k h a := by omega
      rw [am_ce_ref k5] at hga
      rw [am_ce_ref (by omega)] at hgb
      have hty : am_aty (am_k h a) = .object (am_en (am_k h a).toNat) := by unfold am_aty; rw [if_neg (by omega), if_neg (by omega), if_neg (by omega), if_neg (by omega)]
      rw [hty] at ht0 ht1
      obtain ⟨e1, e2, e3⟩ := am_enx k5 hk2
      refine va_copyq F.1 F.2.1 hml F.2.2.2.1 hlk (F.2.2.2.2.1 _ q493) (F.2.2.2.2.1 _ q492) (F.2.2.2.2.1 _ q170) hw.1 hw.2.1 hw.2.2.1 hS a.toNat b.toNat t0 t1 hga hgb ht0 ht1 (C := am_en (am_k h a).toNat) (nn _ sp0 (by omega)) (nn _ dp0 (by omega)) (nn _ n0 (by omega)) (by rw [c1, c2]; omega) (by rw [c1, c3]; omega) ?_ ?_ (by have := F.2.2.2.2.2.1; omega) hroom hd (fin _ ?_)
      · intro i hi z hz
        rw [c1] at hi
        rw [c2] at hz
        have g := hel ((sp.toNat + i : Nat) : Int) (by omega) (by omega)
        unfold am_elok at g
        rw [if_neg (by omega), if_neg (by omega), if_neg (by omega), if_neg (by omega)] at g
        rw [if_pos (by omega)] at hz
        unfold am_ro at hz
        split at hz
        · cases hz
        · rename_i cz
          cases hz
          rcases g with g | ⟨v0, v1, vk⟩
          · exact absurd g cz
          · have hgv := am_ws_get (ad := ad) (fm := fm) (cA := cA) v0 v1
            rw [am_ce_obj (by omega), vk] at hgv
            have hr := va_recv hw.1 hw.2.1 (am_clx (am_ec (am_k h a)).toNat (by omega)) hgv
            rw [e1]
            exact hr
      · exact fun comp c0 g1 g2 => vb_asgS comp c0 g1 g2
      · have hfun : va_cpy (fun j : Nat => am_ro ad (if (j : Int) < am_l h a then am_v h a j else -1)) (fun j : Nat => am_ro ad (if (j : Int) < am_l h b then am_v h b j else -1)) sp.toNat dp.toNat n.toNat = (fun j : Nat => am_ro ad (if (j : Int) < am_l h b then am_v (am_cpy h a sp b dp n) b j else -1)) := by
          funext j
          rw [am_cpy_v]
          unfold va_cpy
          dsimp only
          by_cases cc : dp.toNat ≤ j ∧ j < dp.toNat + n.toNat
          · have e9 : ((sp.toNat + (j - dp.toNat) : Nat) : Int) = sp + (j - dp) := by omega
            have e8 : b = b ∧ dp ≤ (j : Int) ∧ (j : Int) < dp + n := ⟨rfl, by omega, by omega⟩
            have e7 : (j : Int) < am_l h b := by omega
            have e6 : sp + ((j : Int) - dp) < am_l h a := by omega
            rw [if_pos cc, e9, if_pos e6, if_pos e7, if_pos e8]
          · have e8 : ¬ (b = b ∧ dp ≤ (j : Int) ∧ (j : Int) < dp + n) := by omega
            rw [if_neg cc, if_neg e8]
        rw [c1, c2, c3, am_ce_ref (by show 20 ≤ am_k h b; omega), hfun]
        rfl
end
