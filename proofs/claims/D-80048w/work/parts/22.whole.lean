set_option maxRecDepth 1000000
def lw_P (b : Addr) (xs : List Int32) (args : Array Value) (s : State) : Prop := args = #[.ref b] ∧ s.IntsAt b xs ∧ xs.length ≤ 384 ∧ (Jvm.Cond.and given_1 narrow_1).before args s = true
def lw_Q (_ : Array Value) (s : State) (o : Outcome) (t : State) : Prop := o = .returned (some (.int 1)) ∧ Framed s o t [] 934287 6299387
def lw_Z (below : List Frame) (a : Array Value) (s : State) : State → Prop := fun t => ∃ o, t.status = .running ∧ Ended t below o ∧ lw_Q a s o t
/-- the law's own end, with 1 on the stack, nothing written that was there before, its room as the claim has it -/
theorem lw_ret {p : Program} {l : Launch} {e : Env} {s : State} {m : MethodId} {below : List Frame} {meth : Method} {c : Code} {b : Nat} (hx : p.tables.exec = Jvm.exec) (hb : c.code = code) (hr : meth.sig.returnType = ret) (hlocks : meth.locks = false) {pc : Nat} {H : Heap} {ls : Array Slot} (hdg : decode code pc = .ok (.ireturn, 1)) : W p l e room_1 s m #[Value.ref b] below meth c H [] 934287 6299387 (lw_Z below #[Value.ref b] s) (F0 m pc ls [.int 1]) := by
  intro T hT X
  obtain ⟨fs, hret, hrun, hended, hW, hframe⟩ := X.leave (v := some (.int 1)) (hlocks := hlocks) (fun h => by rw [hr] at h; cases h)
  have hmeth' : T.vm.method? m = some meth := X.method'
  refine ⟨T.setFrames fs, ?_, .returned (some (.int 1)), hrun, hended, rfl, ⟨_, rfl⟩, hW, hframe⟩
  jvm_step X.here [X.here.top, hx, hb, hdg, hmeth', hr, ret, narrow_b1]
  (try refine ⟨rfl, ?_⟩); (try refine ⟨rfl, ?_⟩)
  first | (intro acts; rw [hret _ acts rfl rfl rfl]) | rw [hret _ _ rfl rfl rfl]
  exact Steps.refl _
/-- what holds at the law's entry: the machine, the code, the tables' words (any of lw_tbl by 'hts w (by decide +kernel)'), the script of L ints xs at the cell b, what the Statement gives of the start (any of its parts by flat_of_before) -/
def lw_At (p : Program) (s : State) (m : MethodId) (meth : Method) (c : Code) (b L : Nat) (xs : Nat → Int32) : Prop :=
  p.tables.exec = Jvm.exec ∧ c.code = code ∧ meth.sig.returnType = ret ∧ c.maxLocals = 4 ∧ s.vm.findClass R_law = some m.cls ∧ (∀ w ∈ lw_tbl, w.before #[Value.ref b] s = true) ∧ va_X b L xs s s.heap ∧ b < s.heap.size ∧ meth.locks = false ∧ (Jvm.Cond.and given_1 narrow_1).before #[Value.ref b] s = true
/-- what is owed of the abstract machine -/
def am_LawOK : Prop := ∀ (L : Int) (xs : Int → Int), 0 ≤ L → L ≤ 384 → (∀ i, am_r32 (xs i)) → ∃ (f : Nat) (h' : am_H), am_run f 2048 309 (am_blk 309 0) (am_ent 309 [(2, -2)]) [] (am_h0 L xs) = some (some (0, 1), h') ∧ am_n h' ≤ 934287 ∧ am_m h' ≤ 6299387
theorem am_hok0 (L : Int) (xs : Int → Int) : am_hok L xs (am_h0 L xs) := by
  refine ⟨Int.le_refl _, Int.le_refl _, fun a h0 hn => ?_, fun a ha => ?_, fun a ha => ⟨rfl, rfl, fun _ => rfl⟩⟩
  · have : a < 0 := hn
    omega
  · have ha0 : 0 ≤ a := ha
    show am_k0 a = -9
    unfold am_k0
    rw [if_neg (by omega), if_neg (by omega)]
theorem am_whole (hlaw : am_LawOK) (hO : ∀ y, y < 310 → am_okM y = true) {p : Program} {e : Env} {s : State} {m : MethodId} {below : List Frame} {meth : Method} {c : Code} (l : Launch) {b L : Nat} {xs : Nat → Int32} (hL : L ≤ 384) (C0 : lw_At p s m meth c b L xs) : W p l e room_1 s m #[Value.ref b] below meth c s.heap [] 0 0 (lw_Z below #[Value.ref b] s) (entryFrame m ([Value.ref b] : List Value).toArray 4) := by
  obtain ⟨hx, hb, hr, hml, hown, hts, hX, hbl, hlocks, hgv⟩ := C0
  obtain ⟨ad, fm, had, C⟩ := am_Cs0 hts hgv hX hbl hL
  obtain ⟨D, hK⟩ := am_known hts
  obtain ⟨f, h', hrun, hn, hm⟩ := hlaw L (fun j => (xs j.toNat).toInt) (by omega) (by omega) (fun i => am_t32 _)
  have hok0 := am_hok0 (L : Int) (fun j => (xs j.toNat).toInt)
  have hF : am_Fx 309 2048 p room_1 s m #[Value.ref b] meth c := ⟨hx, hb, hml, hown, fun w hw => hts w (lw_all_tbl hw), Nat.le_refl _, by decide, hr, hlocks, fun h => by cases h⟩
  have hlen : (am_exp [((2 : Nat), (-2 : Int))]).length ≤ am_ml 309 := by decide
  have hM := hO 309 (by omega)
  have hoL := am_blk_ok hM 0
  have hM' := hM
  unfold am_okM at hM'
  simp only [Bool.and_eq_true, decide_eq_true_eq] at hM'
  have hvl : ([((2 : Nat), (-2 : Int))]).map (am_vl ad fm) = [Value.ref b] := by
    rw [List.map_cons, am_vl_r ad fm (by decide) (by decide), had]
    rfl
  have hent := lv_entry ([((2 : Nat), (-2 : Int))].map (am_vl ad fm)) (n := am_ml 309) (by rw [(am_exp_len C.1 _).1]; exact hlen)
  obtain ⟨g1, g2⟩ := am_has_ent C.1 hlen hent
  have hl0 : am_lok 0 [((2 : Nat), (-2 : Int))] := am_lok_c (am_vok_r (Or.inr (Or.inl rfl))) (fun v hv => by cases hv)
  obtain ⟨A1, A2⟩ := am_all (l := l) (L := (L : Int)) (xs := fun j => (xs j.toNat).toInt) (by omega) (by omega) (fun i => am_t32 _) hO f 2048 309 (am_blk 309 0) (am_ent 309 [(2, -2)]) [] (am_h0 L (fun j => (xs j.toNat).toInt)) (some (0, 1)) h' hrun (by omega) hoL g2 hok0 (am_lok_ent hl0 309) (fun v hv => by cases hv)
  have hwd : am_Wd D ad fm (fun _ => 0) [] (fun q => s.heap.size ≤ q) (am_h0 L (fun j => (xs j.toNat).toInt)) s s.heap := by
    refine ⟨hK, fun k q hq => ?_, ⟨fun i j p q hp => ?_, fun k q hq => ?_⟩, fun a h0 hn => ?_⟩
    · cases hq
    · cases hp
    · cases hq
    · have : a < 0 := hn
      omega
  have n0 : am_n (am_h0 L (fun j => (xs j.toNat).toInt)) = 0 := rfl
  have m0 : am_m (am_h0 L (fun j => (xs j.toNat).toInt)) = 0 := rfl
  have hn0 := A1.2.1.1
  have hm0 := A1.2.1.2.1
  rw [n0] at hn0
  rw [m0] at hm0
  have rc : room_1.cells = 934287 := rfl
  have rs : room_1.slots = 6299387 := rfl
  have k := A2 p e room_1 s m #[Value.ref b] below meth c (lw_Z below #[Value.ref b] s) fm D (fun q => s.heap.size ≤ q) (am_h0 L (fun j => (xs j.toNat).toInt)) ad ad (fun _ => 0) [] 0 ?_ hM'.2 hF C (fun q hq => hq) (Int.le_refl _) (Int.le_refl _) am_ex.rf (by rw [n0, rc]; omega) (by rw [m0, rs]; omega) _ s.heap [] g1 hwd va_S.rf
  · rw [n0, m0, Int.sub_self] at k
    rw [lg_entry_eq]
    rw [hvl] at k
    exact k
  · intro i r pc nx ls st ad' cA' tys' o1 o2 o3 o4 arr H locs ha hw hS
    unfold am_ret at o3
    split at o3
    · rw [if_neg (by decide)] at o3; cases o3
    · rename_i x
      split at o3
      · cases o3
        simp only [am_okI] at o1
        refine W.widen (k := 934287) (n := 6299387) (by rw [n0]; omega) (by rw [m0]; omega) ?_
        refine va_forget hS.2.2 ?_
        exact lw_ret hx hb hr hlocks (am_dec_sp o1)
      · cases o3
    · rw [if_neg (by decide)] at o3; cases o3
    · rw [if_neg (fun h => absurd h.1 (by decide))] at o3; cases o3
    · cases o3
