set_option maxRecDepth 100000
theorem am_T1x : ∀ ci : Fin 11, ∀ j : Fin 128, j.val < am_fn ci.val → (am_T ci.val j.val).1 = am_nm ci.val := by decide +kernel
theorem am_T1 {ci j : Nat} (hc : ci < 11) (hj : j < am_fn ci) : (am_T ci j).1 = am_nm ci := am_T1x ⟨ci, hc⟩ ⟨j, Nat.lt_trans hj (am_fnx ⟨ci, hc⟩)⟩ hj
def am_tyc (ft : Nat) (ty : FieldType) : Bool := match ft, ty with
  | 0, .int => true
  | 1, .long => true
  | 4, .boolean => true
  | 2, .object _ => true
  | 2, .array _ => true
  | _, _ => false
theorem am_tyfx : ∀ ci : Fin 11, ∀ j : Fin 128, j.val < am_fn ci.val → am_tyc (am_ft ci.val j.val) (am_ty ci.val j.val) = true := by decide +kernel
theorem am_tyf {ci j : Nat} (hc : ci < 11) (hj : j < am_fn ci) : am_tyc (am_ft ci j) (am_ty ci j) = true := am_tyfx ⟨ci, hc⟩ ⟨j, Nat.lt_trans hj (am_fnx ⟨ci, hc⟩)⟩ hj
/-- a field's value fits its type -/
theorem am_fitv {fm : Value} (hf : am_nfm fm) {ad : Int → Nat} {ft t : Nat} {ty : FieldType} {v : Int} (hc : am_tyc ft ty = true) (ht : t = am_tg ft) (h4 : ft = 4 → v = 0 ∨ v = 1) : narrow ty (am_vl ad fm (t, v)) = am_vl ad fm (t, v) ∧ fits ty (am_vl ad fm (t, v)) = true := by
  unfold am_tyc at hc
  split at hc
  · subst ht; exact ⟨rfl, rfl⟩
  · subst ht; exact ⟨rfl, rfl⟩
  · subst ht
    rcases h4 rfl with rfl | rfl
    · exact ⟨rfl, rfl⟩
    · exact ⟨rfl, rfl⟩
  · subst ht
    show narrow _ (am_rf ad fm v) = am_rf ad fm v ∧ fits _ (am_rf ad fm v) = true
    rcases am_rf_or hf ad v with e | ⟨a, e⟩ <;> rw [e] <;> exact ⟨rfl, rfl⟩
  · subst ht
    show narrow _ (am_rf ad fm v) = am_rf ad fm v ∧ fits _ (am_rf ad fm v) = true
    rcases am_rf_or hf ad v with e | ⟨a, e⟩ <;> rw [e] <;> exact ⟨rfl, rfl⟩
  · cases hc
theorem am_fs_len {ad : Int → Nat} {fm : Value} {h : am_H} {a : Int} {ci : Nat} : (am_fs ad fm h a ci).length = am_fn ci := by
  unfold am_fs; rw [List.length_map, List.length_range]
theorem am_fs_get {ad : Int → Nat} {fm : Value} {h : am_H} {a : Int} {ci k : Nat} (hk : k < am_fn ci) : (am_fs ad fm h a ci)[k]? = some (am_vl ad fm (am_tg (am_ft ci k), am_v h a k)) := by
  unfold am_fs; rw [List.getElem?_map, List.getElem?_range hk, Option.map_some]
theorem am_fs_set {ad : Int → Nat} {fm : Value} {h : am_H} {a v : Int} {ci k : Nat} (hk : k < am_fn ci) : (am_fs ad fm h a ci).set k (am_vl ad fm (am_tg (am_ft ci k), v)) = am_fs ad fm (am_set h a k v) a ci := by
  apply List.ext_getElem?
  intro i
  rw [List.getElem?_set]
  by_cases c : k = i
  · subst c
    rw [if_pos rfl, if_pos (by rw [am_fs_len]; exact hk), am_fs_get hk, am_set_v, if_pos ⟨rfl, rfl⟩]
  · rw [if_neg c]
    by_cases c2 : i < am_fn ci
    · rw [am_fs_get c2, am_fs_get c2, am_set_v, if_neg (by omega)]
    · rw [List.getElem?_eq_none (by rw [am_fs_len]; omega), List.getElem?_eq_none (by rw [am_fs_len]; omega)]
section
variable {p : Program} {l : Launch} {e : Env} {R : Room} {s : State} {m : MethodId} {args : Array Value} {below : List Frame} {meth : Method} {c : Code} {Q : State → Prop} {fm : Value} {D : va_G} {A : Nat → Prop} {h1 h : am_H}
variable {y d pc : Nat} {ls st : List am_V} {ad : Int → Nat} {cA : Int → ClassId} {tys : List (ClassId × FieldType)} {L : Int} {xs : Int → Int}
theorem am_W_getf (C : am_Cs L xs ad fm A s s.heap) (hh : am_hok L xs h) {ci k a : Int} {x : Nat} (c1 : 0 ≤ ci) (c2 : ci < 11) (c3 : 0 ≤ k) (c4 : k.toNat < am_fn ci.toNat) (hlk : (am_ow y, x, ci.toNat, k.toNat) ∈ am_fAl ∨ (am_ow y, x, ci.toNat, k.toNat) ∈ am_fBl) (hk : am_k h a = ci) (F : am_Fx y d p R s m args meth c) (hd : decode (am_b y) pc = .ok (.getfield x, 3))
    (kk : am_At p l e R s m args below meth c Q fm D A h1 h (pc + 3) ls ((am_tg (am_ft ci.toNat k.toNat), am_v h a k) :: st) ad cA tys) : am_At p l e R s m args below meth c Q fm D A h1 h pc ls ((2, a) :: st) ad cA tys := by
  intro arr H locs ha hw hS
  obtain ⟨h0, hn, -⟩ := am_obj hh (a := a) (by omega) (by omega)
  have he : (am_ws ad fm cA h)[a.toNat]? = some (ad a, .inr (ci.toNat, am_fs ad fm h a ci.toNat)) := by rw [am_ws_get h0 hn, am_ce_obj (by omega), hk]
  have hv : (am_fs ad fm h a ci.toNat)[k.toNat]? = some (am_vl ad fm (am_tg (am_ft ci.toNat k.toNat), am_v h a k)) := by rw [am_fs_get c4, Int.toNat_of_nonneg c3]
  have hlt : ci.toNat < 11 := by omega
  have hsm : ∀ x, s.fieldFound? (am_T ci.toNat k.toNat).1 (am_T ci.toNat k.toNat).2.1 (am_T ci.toNat k.toNat).2.2.1 = some x → s.fieldFound? (am_nm ci.toNat) (am_T ci.toNat k.toNat).2.1 (am_T ci.toNat k.toNat).2.2.1 = some x := by
    intro x hx; rwa [am_T1 hlt c4] at hx
  rw [List.map_cons, am_vl_r ad fm (by omega) (by omega)]
  rcases hlk with hlk | hlk
  · exact va_get F.1 F.2.1 F.2.2.2.2.1 (am_in ci.toNat hlt) F.2.2.2.1 hw.1 hw.2.1 a.toNat he (am_clx ci.toNat hlt) k.toNat c4 (F.2.2.2.2.1 _ (am_fA _ hlk)) hsm hv hd (kk arr H locs ha hw hS)
  · exact va_getN F.1 F.2.1 F.2.2.2.2.1 (am_in ci.toNat hlt) F.2.2.2.1 hw.1 hw.2.1 a.toNat he (am_clx ci.toNat hlt) k.toNat c4 ((C.2.2.2.2.2.1 _ hlk).use rfl) hsm hv hd (kk arr H locs ha hw hS)
theorem am_W_gets (C : am_Cs L xs ad fm A s s.heap) (hh : am_hok L xs h) {k a : Int} {x : Nat} (hlk : (am_ow y, x, 100, k.toNat) ∈ am_fCl) (c1 : 0 ≤ k) (c2 : k ≤ 1) (hk : am_k h a = 100) (F : am_Fx y d p R s m args meth c) (hd : decode (am_b y) pc = .ok (.getfield x, 3))
    (kk : am_At p l e R s m args below meth c Q fm D A h1 h (pc + 3) ls ((if k = 0 then (2, a - 1) else (0, 0)) :: st) ad cA tys) : am_At p l e R s m args below meth c Q fm D A h1 h pc ls ((2, a) :: st) ad cA tys := by
  intro arr H locs ha hw hS
  have hs : ∃ q : Nat, q < 96 ∧ a = -10 - 2 * q := by
    have ha : a < 0 := by
      by_cases c0 : 0 ≤ a
      · have hn := am_inh hh (a := a) (by omega)
        rcases hh.2.2.1 a c0 hn with h1 | h1 <;> omega
      · omega
    have h1 := (hh.2.2.2.2 a ha).1
    rw [h1] at hk
    unfold am_k0 at hk
    split at hk
    · omega
    · split at hk
      · split at hk
        · exact ⟨((-10 - a) / 2).toNat, by omega, by omega⟩
        · omega
      · omega
  obtain ⟨q, hq, rfl⟩ := hs
  have hC := C.2.1 q hq
  have hlink := F.2.2.2.2.1 _ (am_fC _ hlk)
  rw [List.map_cons, am_vl_r ad fm (by omega) (by omega)]
  have k1 := kk arr H locs ha hw hS
  by_cases c3 : k = 0
  · subst c3
    rw [if_pos rfl, List.map_cons, am_vl_r ad fm (by omega) (by omega), show -10 - 2 * (q : Int) - 1 = -11 - 2 * q by omega] at k1
    exact vk_getf F.1 F.2.1 hC.2.2.2.1 hS F.2.2.2.1 hlink (fun _ h => h) hd k1
  · have : k = 1 := by omega
    subst this
    rw [if_neg (by decide)] at k1
    exact vk_getf F.1 F.2.1 hC.2.2.1 hS F.2.2.2.1 hlink (fun _ h => h) hd k1
theorem am_W_putf (C : am_Cs L xs ad fm A s s.heap) (hh : am_hok L xs h) {ci k a v : Int} {t x : Nat} (c1 : 0 ≤ ci) (c2 : ci < 11) (c3 : 0 ≤ k) (c4 : k.toNat < am_fn ci.toNat)
    (hlk : if am_fin ci.toNat k.toNat then (am_ow y, x, ci.toNat, k.toNat) ∈ am_fAl ∧ am_sk y = 2 ∧ am_ow y = ci.toNat else (am_ow y, x, ci.toNat, k.toNat) ∈ am_fAl ∨ (am_ow y, x, ci.toNat, k.toNat) ∈ am_fBl)
    (h0 : 0 ≤ a) (hk : am_k h a = ci) (ht : t = am_tg (am_ft ci.toNat k.toNat)) (h4 : am_ft ci.toNat k.toNat = 4 → v = 0 ∨ v = 1) (F : am_Fx y d p R s m args meth c) (hd : decode (am_b y) pc = .ok (.putfield x, 3))
    (kk : am_At p l e R s m args below meth c Q fm D A h1 (am_set h a k v) (pc + 3) ls st ad cA tys) : am_At p l e R s m args below meth c Q fm D A h1 h pc ls ((t, v) :: (2, a) :: st) ad cA tys := by
  intro arr H locs ha hw hS
  have hn := am_inh hh (a := a) (by omega)
  have he : (am_ws ad fm cA h)[a.toNat]? = some (ad a, .inr (ci.toNat, am_fs ad fm h a ci.toNat)) := by rw [am_ws_get h0 hn, am_ce_obj (by omega), hk]
  have hlt : ci.toNat < 11 := by omega
  have hsm : ∀ x, s.fieldFound? (am_T ci.toNat k.toNat).1 (am_T ci.toNat k.toNat).2.1 (am_T ci.toNat k.toNat).2.2.1 = some x → s.fieldFound? (am_nm ci.toNat) (am_T ci.toNat k.toNat).2.1 (am_T ci.toNat k.toNat).2.2.1 = some x := by
    intro x hx; rwa [am_T1 hlt c4] at hx
  obtain ⟨hnar, hfit⟩ := am_fitv C.1 (ad := ad) (am_tyf hlt c4) ht h4
  have hset : (am_ws ad fm cA h).set a.toNat (ad a, .inr (ci.toNat, (am_fs ad fm h a ci.toNat).set k.toNat (am_vl ad fm (t, v)))) = am_ws ad fm cA (am_set h a k v) := by
    have := am_ws_set (ad := ad) (fm := fm) (cA := cA) (h := h) (h' := am_set h a k v) h0 rfl (fun _ => rfl) (fun _ => rfl) (fun b hb j => by rw [am_set_v, if_neg (fun e => hb e.1)])
    rw [← this, am_ce_obj (by show am_k h a ≤ 10; omega)]
    show _ = (am_ws ad fm cA h).set a.toNat (ad a, .inr ((am_k h a).toNat, am_fs ad fm (am_set h a k v) a (am_k h a).toNat))
    rw [hk, ht]
    have e2 := am_fs_set (ad := ad) (fm := fm) (h := h) (a := a) (v := v) (ci := ci.toNat) (k := k.toNat) c4
    rw [Int.toNat_of_nonneg c3] at e2
    rw [e2]
  have kk2 : ∀ (H1 : Heap) (locs1 : List Loc), va_P D am_cl ((am_ws ad fm cA h).set a.toNat (ad a, .inr (ci.toNat, (am_fs ad fm h a ci.toNat).set k.toNat (am_vl ad fm (t, v))))) H1 → va_D A ((am_ws ad fm cA h).set a.toNat (ad a, .inr (ci.toNat, (am_fs ad fm h a ci.toNat).set k.toNat (am_vl ad fm (t, v))))) → va_S A s.heap H1 locs1 → W p l e R s m args below meth c H1 locs1 (am_n h - am_n h1).toNat (am_m h - am_m h1).toNat Q (F0 m (pc + 3) arr (st.map (am_vl ad fm))) := by
    intro H1 locs1 hP1 hD1 hS1
    rw [hset] at hP1 hD1
    exact kk arr H1 locs1 ha ⟨hw.1, hP1, hD1, hw.2.2.2⟩ hS1
  rw [List.map_cons, List.map_cons, am_vl_r ad fm (x := a) (by omega) (by omega)]
  have hl : k.toNat < (am_fs ad fm h a ci.toNat).length := by rw [am_fs_len]; exact c4
  split at hlk
  · rename_i hfin
    refine va_putF F.1 F.2.1 F.2.2.2.2.1 (am_in ci.toNat hlt) (am_ty ci.toNat) (am_tyx ci.toNat hlt) (am_nmx ci.toNat hlt) F.2.2.2.1 hw.1 hw.2.1 hw.2.2.1 hS a.toNat he (am_clx ci.toNat hlt) k.toNat c4 (F.2.2.2.2.1 _ (am_fA _ hlk.1)) hsm hfin (F.2.2.2.2.2.2.2.2.2 hlk.2.1) ?_ (am_tyx ci.toNat hlt _ c4) hnar hfit hl hd kk2
    rw [am_T1 hlt c4, hlk.2.2]
  · rename_i hfin
    have hfin' : (am_T ci.toNat k.toNat).2.2.2 = false := by simpa [am_fin] using hfin
    rcases hlk with hlk | hlk
    · exact va_put F.1 F.2.1 F.2.2.2.2.1 (am_in ci.toNat hlt) (am_ty ci.toNat) (am_tyx ci.toNat hlt) (am_nmx ci.toNat hlt) F.2.2.2.1 hw.1 hw.2.1 hw.2.2.1 hS a.toNat he (am_clx ci.toNat hlt) k.toNat c4 (F.2.2.2.2.1 _ (am_fA _ hlk)) hsm hfin' (am_tyx ci.toNat hlt _ c4) hnar hfit hl hd kk2
    · exact va_putN F.1 F.2.1 F.2.2.2.2.1 (am_in ci.toNat hlt) (am_ty ci.toNat) (am_tyx ci.toNat hlt) (am_nmx ci.toNat hlt) F.2.2.2.1 hw.1 hw.2.1 hw.2.2.1 hS a.toNat he (am_clx ci.toNat hlt) k.toNat c4 ((C.2.2.2.2.2.1 _ hlk).use rfl) hsm hfin' (am_tyx ci.toNat hlt _ c4) hnar hfit hl hd kk2
/-- an array of ours -/
theorem am_arr (hh : am_hok L xs h) {a : Int} (h0 : 0 ≤ a) (hk : 16 ≤ am_k h a) : a < am_n h ∧ am_k h a ≤ 23 ∧ 0 ≤ am_l h a ∧ am_l h a ≤ 1000000 := by
  have hn := am_inh hh (a := a) (by omega)
  rcases hh.2.2.1 a h0 hn with g | g
  · omega
  · exact ⟨hn, g.2.1, g.2.2.1, g.2.2.2.1⟩
/-- an array of the start's: the script or a String's bytes -/
theorem am_arr0 (hh : am_hok L xs h) {a : Int} (h0 : a < 0) (hk : 16 ≤ am_k h a) (hk2 : am_k h a ≤ 23) : (a = -2 ∧ am_k h a = 16 ∧ am_l h a = L ∧ ∀ i, am_v h a i = xs i) ∨ ∃ q : Nat, q < 96 ∧ a = -11 - 2 * q ∧ am_k h a = 17 ∧ am_l h a = (am_str q).length ∧ ∀ i, am_v h a i = (am_str q).getD i.toNat 0 := by
  obtain ⟨g1, g2, g3⟩ := hh.2.2.2.2 a h0
  rw [g1] at hk hk2
  rw [g1, g2]
  unfold am_k0 at *
  unfold am_l0
  by_cases c : a = -2
  · left
    rw [if_pos c, if_pos c]
    refine ⟨c, rfl, rfl, fun i => ?_⟩
    rw [g3]; unfold am_v0; rw [if_pos c]
  · rw [if_neg c] at hk hk2 ⊢
    by_cases c1 : a ≤ -10 ∧ -201 ≤ a
    · rw [if_pos c1] at hk hk2
      by_cases c2 : a % 2 = 0
      · rw [if_pos c2] at hk2; omega
      · right
        refine ⟨((-11 - a) / 2).toNat, by omega, by omega, ?_⟩
        have e : am_si a = ((-11 - a) / 2).toNat := by unfold am_si; omega
        rw [if_pos c1, if_neg c2, if_neg c, if_pos (by omega), e]
        refine ⟨rfl, rfl, fun i => ?_⟩
        rw [g3]; unfold am_v0; rw [if_neg c, e]
    · rw [if_neg c1] at hk; omega
theorem am_W_alen (hL : 0 ≤ L) (C : am_Cs L xs ad fm A s s.heap) (hh : am_hok L xs h) {a : Int} (hk : 16 ≤ am_k h a) (hk2 : am_k h a ≤ 23) (F : am_Fx y d p R s m args meth c) (hd : decode (am_b y) pc = .ok (.arraylength, 1))
    (kk : am_At p l e R s m args below meth c Q fm D A h1 h (pc + 1) ls ((0, am_l h a) :: st) ad cA tys) : am_At p l e R s m args below meth c Q fm D A h1 h pc ls ((2, a) :: st) ad cA tys := by
  intro arr H locs ha hw hS
  have k1 := kk arr H locs ha hw hS
  rw [List.map_cons, am_vl_0] at k1
  by_cases h0 : 0 ≤ a
  · obtain ⟨hn, -, g3, g4⟩ := am_arr hh h0 hk
    obtain ⟨t0, ht0⟩ := hw.2.2.2 a h0 hn hk
    have hg := am_ws_get (ad := ad) (fm := fm) (cA := cA) h0 hn
    rw [List.map_cons, am_vl_r ad fm (by omega) (by omega)]
    have e1 : Int32.ofNat (am_l h a).toNat = Int32.ofInt (am_l h a) := by rw [← Int32.ofInt_eq_ofNat, Int.toNat_of_nonneg g3]
    by_cases c1 : am_k h a ≤ 18
    · rw [am_ce_int hk c1] at hg
      exact va_alen F.1 F.2.1 hw.1 hw.2.1 a.toNat t0 hg ht0 e1 hd k1
    · by_cases c2 : am_k h a = 19
      · rw [am_ce_long c2] at hg
        exact va_alen F.1 F.2.1 hw.1 hw.2.1 a.toNat t0 hg ht0 e1 hd k1
      · rw [am_ce_ref (by omega)] at hg
        exact va_alen F.1 F.2.1 hw.1 hw.2.1 a.toNat t0 hg ht0 e1 hd k1
  · rw [List.map_cons]
    rcases am_arr0 hh (by omega) hk hk2 with ⟨rfl, -, g3, -⟩ | ⟨q, hq, rfl, -, g3, -⟩
    · rw [am_vl_r ad fm (by omega) (by omega)]
      exact va_tlen F.1 F.2.1 C.2.2.1 hS (by rw [g3, ← Int32.ofInt_eq_ofNat, Int.toNat_of_nonneg hL]) hd k1
    · rw [am_vl_r ad fm (by omega) (by omega)]
      exact va_tlen F.1 F.2.1 (C.2.1 q hq).2.2.2.2 hS (by rw [g3, ← Int32.ofInt_eq_ofNat]) hd k1
theorem am_W_iald (hL : L ≤ 1000000) (C : am_Cs L xs ad fm A s s.heap) (hh : am_hok L xs h) {a i : Int} (hk : am_k h a = 16) (i0 : 0 ≤ i) (i1 : i < am_l h a) (F : am_Fx y d p R s m args meth c) (hd : decode (am_b y) pc = .ok (.iaload, 1))
    (kk : am_At p l e R s m args below meth c Q fm D A h1 h (pc + 1) ls ((0, am_v h a i) :: st) ad cA tys) : am_At p l e R s m args below meth c Q fm D A h1 h pc ls ((0, i) :: (2, a) :: st) ad cA tys := by
  intro arr H locs ha hw hS
  have k1 := kk arr H locs ha hw hS
  rw [List.map_cons, am_vl_0] at k1
  by_cases h0 : 0 ≤ a
  · obtain ⟨hn, -, g3, g4⟩ := am_arr hh h0 (by omega)
    obtain ⟨t0, ht0⟩ := hw.2.2.2 a h0 hn (by omega)
    rw [hk] at ht0
    have hg := am_ws_get (ad := ad) (fm := fm) (cA := cA) h0 hn
    rw [am_ce_int (by omega) (by omega)] at hg
    rw [List.map_cons, List.map_cons, am_vl_r ad fm (x := a) (by omega) (by omega), am_vl_0]
    refine va_iald F.1 F.2.1 hw.1 hw.2.1 a.toNat t0 hg ht0 (am_vpin i0 i1 (by omega)) hd ?_
    rw [am_cl32 i0 (by omega)]
    simp only [Int.toNat_of_nonneg i0]
    exact k1
  · rcases am_arr0 hh (a := a) (by omega) (by omega) (by omega) with ⟨rfl, -, g3, g4⟩ | ⟨q, hq, rfl, g2, -⟩
    · rw [List.map_cons, List.map_cons, am_vl_r ad fm (x := -2) (by omega) (by omega), am_vl_0]
      refine va_ti F.1 F.2.1 C.2.2.1 hS (am_vpin i0 (by omega) (by omega)) (v := .int (Int32.ofInt (am_v h (-2) i))) ?_ hd k1
      rw [am_cl32 i0 (by omega), Int.toNat_of_nonneg i0, g4]
    · omega
theorem am_W_bald (C : am_Cs L xs ad fm A s s.heap) (hh : am_hok L xs h) {a i : Int} (hk : am_k h a = 17 ∨ am_k h a = 18) (i0 : 0 ≤ i) (i1 : i < am_l h a) (F : am_Fx y d p R s m args meth c) (hd : decode (am_b y) pc = .ok (.baload, 1))
    (kk : am_At p l e R s m args below meth c Q fm D A h1 h (pc + 1) ls ((0, am_v h a i) :: st) ad cA tys) : am_At p l e R s m args below meth c Q fm D A h1 h pc ls ((0, i) :: (2, a) :: st) ad cA tys := by
  intro arr H locs ha hw hS
  have k1 := kk arr H locs ha hw hS
  rw [List.map_cons, am_vl_0] at k1
  by_cases h0 : 0 ≤ a
  · obtain ⟨hn, -, g3, g4⟩ := am_arr hh h0 (by omega)
    obtain ⟨t0, ht0⟩ := hw.2.2.2 a h0 hn (by omega)
    have hg := am_ws_get (ad := ad) (fm := fm) (cA := cA) h0 hn
    rw [am_ce_int (by omega) (by omega)] at hg
    rw [List.map_cons, List.map_cons, am_vl_r ad fm (x := a) (by omega) (by omega), am_vl_0]
    rcases hk with hk | hk
    · rw [hk] at ht0
      refine va_bald F.1 F.2.1 hw.1 hw.2.1 a.toNat t0 hg ht0 (am_vpin i0 i1 (by omega)) hd ?_
      rw [am_cl32 i0 (by omega)]
      simp only [Int.toNat_of_nonneg i0]
      exact k1
    · rw [hk] at ht0
      refine va_zald F.1 F.2.1 hw.1 hw.2.1 a.toNat t0 hg ht0 (am_vpin i0 i1 (by omega)) hd ?_
      rw [am_cl32 i0 (by omega)]
      simp only [Int.toNat_of_nonneg i0]
      exact k1
  · rcases am_arr0 hh (a := a) (by omega) (by omega) (by omega) with ⟨rfl, g2, -⟩ | ⟨q, hq, rfl, g2, g3, g4⟩
    · omega
    · have := am_strl q
      rw [List.map_cons, List.map_cons, am_vl_r ad fm (x := -11 - 2 * (q : Int)) (by omega) (by omega), am_vl_0]
      rw [g3] at i1
      refine va_tb F.1 F.2.1 (C.2.1 q hq).2.2.2.2 hS (i := Int32.ofInt i) ?_ (v := .int (Int32.ofInt (am_v h (-11 - 2 * (q : Int)) i))) ?_ hd k1
      · have e := am_vpin i0 i1 (by omega)
        rwa [Int.toNat_natCast] at e
      · rw [am_cl32 i0 (by omega), g4]
theorem am_W_lald (hh : am_hok L xs h) {a i : Int} (hk : am_k h a = 19) (i0 : 0 ≤ i) (i1 : i < am_l h a) (F : am_Fx y d p R s m args meth c) (hd : decode (am_b y) pc = .ok (.laload, 1))
    (kk : am_At p l e R s m args below meth c Q fm D A h1 h (pc + 1) ls ((1, am_v h a i) :: st) ad cA tys) : am_At p l e R s m args below meth c Q fm D A h1 h pc ls ((0, i) :: (2, a) :: st) ad cA tys := by
  intro arr H locs ha hw hS
  have k1 := kk arr H locs ha hw hS
  rw [List.map_cons, am_vl_1] at k1
  by_cases h0 : 0 ≤ a
  · obtain ⟨hn, -, g3, g4⟩ := am_arr hh h0 (by omega)
    obtain ⟨t0, ht0⟩ := hw.2.2.2 a h0 hn (by omega)
    rw [hk] at ht0
    have hg := am_ws_get (ad := ad) (fm := fm) (cA := cA) h0 hn
    rw [am_ce_long hk] at hg
    rw [List.map_cons, List.map_cons, am_vl_r ad fm (x := a) (by omega) (by omega), am_vl_0]
    refine va_lald F.1 F.2.1 hw.1 hw.2.1 a.toNat t0 hg ht0 (am_vpin i0 i1 (by omega)) hd ?_
    rw [am_cl32 i0 (by omega)]
    simp only [Int.toNat_of_nonneg i0]
    exact k1
  · rcases am_arr0 hh (a := a) (by omega) (by omega) (by omega) with ⟨rfl, g2, -⟩ | ⟨q, hq, rfl, g2, -⟩ <;> omega
theorem am_W_aald (hh : am_hok L xs h) {a i : Int} (hk : 20 ≤ am_k h a) (hk2 : am_k h a ≤ 23) (i0 : 0 ≤ i) (i1 : i < am_l h a) (F : am_Fx y d p R s m args meth c) (hd : decode (am_b y) pc = .ok (.aaload, 1))
    (kk : am_At p l e R s m args below meth c Q fm D A h1 h (pc + 1) ls ((2, am_v h a i) :: st) ad cA tys) : am_At p l e R s m args below meth c Q fm D A h1 h pc ls ((0, i) :: (2, a) :: st) ad cA tys := by
  intro arr H locs ha hw hS
  have k1 := kk arr H locs ha hw hS
  rw [List.map_cons, am_vl_2] at k1
  by_cases h0 : 0 ≤ a
  · obtain ⟨hn, -, g3, g4⟩ := am_arr hh h0 (by omega)
    obtain ⟨t0, ht0⟩ := hw.2.2.2 a h0 hn (by omega)
    have hty : am_aty (am_k h a) = .object (am_en (am_k h a).toNat) := by unfold am_aty; rw [if_neg (by omega), if_neg (by omega), if_neg (by omega), if_neg (by omega)]
    rw [hty] at ht0
    have hel : am_v h a i = -1 ∨ 0 ≤ am_v h a i := by
      rcases hh.2.2.1 a h0 hn with g | g
      · omega
      · have g5 := g.2.2.2.2 i i0 i1
        unfold am_elok at g5
        rw [if_neg (by omega), if_neg (by omega), if_neg (by omega), if_neg (by omega)] at g5
        omega
    have hg := am_ws_get (ad := ad) (fm := fm) (cA := cA) h0 hn
    rw [am_ce_ref hk] at hg
    rw [List.map_cons, List.map_cons, am_vl_r ad fm (x := a) (by omega) (by omega), am_vl_0]
    refine va_aldq F.1 F.2.1 hw.1 hw.2.1 a.toNat t0 hg ht0 (am_vpin i0 i1 (by omega)) hd ?_
    rw [am_cl32 i0 (by omega)]
    simp only [Int.toNat_of_nonneg i0]
    rw [if_pos i1, am_rf_ro ad fm hel]
    exact k1
  · rcases am_arr0 hh (a := a) (by omega) (by omega) (by omega) with ⟨rfl, g2, -⟩ | ⟨q, hq, rfl, g2, -⟩ <;> omega
end
