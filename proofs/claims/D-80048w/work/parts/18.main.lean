set_option maxRecDepth 100000
theorem am_ofW {l : Launch} {y : MethodName} {ws ws' : List Cond} {rm : Room} {Pc : Array Value → State → Prop} {Qc : Array Value → State → Outcome → State → Prop} {mc ms : Nat} {free : Addr → Prop} {cc : ByteArray} {maxL : Nat} {ret : Option FieldType}
    (hy : plainFor y = true) (hw : ws = Cond.code y cc maxL ret :: ws')
    (body : ∀ p e s m args below meth c s₁, BodyLoose p l y (headSpec ws rm) cc maxL ret e s m args below meth c s₁ → c.maxLocals = maxL → Pc args s →
      W p l e (headSpec ws rm).room s m args below meth c s.heap [] 0 0 (MQ below Qc args s mc ms free) (entryFrame m args maxL)) : Met l y ws rm Pc Qc mc ms free := by
  refine MetFree.of_bodySF (code := cc) (maxLocals := maxL) (ret := ret) hy ?_ ?_
  · intro args s m h hn
    obtain ⟨meth, c, h1, h2, h3, h4, h5, h6, -, -⟩ := Cond.code_spec hn (atoms_spec (ws := ws) h _ (by rw [hw]; exact List.mem_cons_self))
    exact ⟨meth, c, h1, h2, h3, h4, h5, h6⟩
  · intro p e s m args below meth c s₁ B hml hP _
    have hh0 : s₁.heap = s.heap := by rw [B.state]; rfl
    obtain ⟨t, a1, o, b1, b2, b3⟩ := body p e s m args below meth c s₁ B hml hP s₁ hh0 (Stand.of_body B)
    exact ⟨t, o, a1, b1, b2, ⟨b3.1, b3.2⟩⟩
theorem am_mAx : ∀ e ∈ am_mAl, e.2.2.2 < 309 ∧ e.2.2.2 ≠ 294 := by decide +kernel
theorem am_yl : (List.range 309).filter (fun k => decide (k ≠ 294)) = [0, 1, 2, 3, 4, 5, 6, 7, 8, 9, 10, 11, 12, 13, 14, 15, 16, 17, 18, 19, 20, 21, 22, 23, 24, 25, 26, 27, 28, 29, 30, 31, 32, 33, 34, 35, 36, 37, 38, 39, 40, 41, 42, 43, 44, 45, 46, 47, 48, 49, 50, 51, 52, 53, 54, 55, 56, 57, 58, 59, 60, 61, 62, 63, 64, 65, 66, 67, 68, 69, 70, 71, 72, 73, 74, 75, 76, 77, 78, 79, 80, 81, 82, 83, 84, 85, 86, 87, 88, 89, 90, 91, 92, 93, 94, 95, 96, 97, 98, 99, 100, 101, 102, 103, 104, 105, 106, 107, 108, 109, 110, 111, 112, 113, 114, 115, 116, 117, 118, 119, 120, 121, 122, 123, 124, 125, 126, 127, 128, 129, 130, 131, 132, 133, 134, 135, 136, 137, 138, 139, 140, 141, 142, 143, 144, 145, 146, 147, 148, 149, 150, 151, 152, 153, 154, 155, 156, 157, 158, 159, 160, 161, 162, 163, 164, 165, 166, 167, 168, 169, 170, 171, 172, 173, 174, 175, 176, 177, 178, 179, 180, 181, 182, 183, 184, 185, 186, 187, 188, 189, 190, 191, 192, 193, 194, 195, 196, 197, 198, 199, 200, 201, 202, 203, 204, 205, 206, 207, 208, 209, 210, 211, 212, 213, 214, 215, 216, 217, 218, 219, 220, 221, 222, 223, 224, 225, 226, 227, 228, 229, 230, 231, 232, 233, 234, 235, 236, 237, 238, 239, 240, 241, 242, 243, 244, 245, 246, 247, 248, 249, 250, 251, 252, 253, 254, 255, 256, 257, 258, 259, 260, 261, 262, 263, 264, 265, 266, 267, 268, 269, 270, 271, 272, 273, 274, 275, 276, 277, 278, 279, 280, 281, 282, 283, 284, 285, 286, 287, 288, 289, 290, 291, 292, 293, 295, 296, 297, 298, 299, 300, 301, 302, 303, 304, 305, 306, 307, 308] := by decide +kernel
theorem am_yx (y : Nat) (h : y < 309 ∧ y ≠ 294) : am_yo y := am_yo_ok y (by rw [← am_yl]; exact List.mem_filter.mpr ⟨List.mem_range.mpr h.1, decide_eq_true h.2⟩)
theorem am_Cs.go {L : Int} {xs : Int → Int} {ad : Int → Nat} {fm : Value} {A : Nat → Prop} {s U : State} {H : Heap} {locs : List Loc} (C : am_Cs L xs ad fm A s s.heap) (hS : va_S A s.heap H locs) (hU : U.heap = H) (hW : s.WarmedH U.vm) : am_Cs L xs ad fm A U U.heap := by
  rw [hU]
  have hk := hS.2.1
  have hv := hW.alike
  refine ⟨C.1, fun k hq => ?_, (C.2.2.1.kept hk).moved hv, (C.2.2.2.1.kept hk).moved hv, (C.2.2.2.2.1.kept hk).moved hv, fun e he => (C.2.2.2.2.2.1 e he).warmF hW, fun e he h5 => (C.2.2.2.2.2.2.1 e he h5).warmM hW, fun k h1 h2 => (C.2.2.2.2.2.2.2 k h1 h2).moved hv⟩
  obtain ⟨g1, g2, g3, g4, g5⟩ := C.2.1 k hq
  exact ⟨g1.warm hW, (g2.kept hk).moved hv, (g3.kept hk).moved hv, (g4.kept hk).moved hv, (g5.kept hk).moved hv⟩
/-- a method's locals at its start -/
theorem am_exp_at {fm : Value} (hf : am_nfm fm) {ad : Int → Nat} (as : List am_V) : ∀ (i k : Nat) (v : am_V), (am_exp as)[k]? = some v → v.1 ≠ 3 → (i + k, am_vl ad fm v) ∈ lv_args i (as.map (am_vl ad fm)) := by
  induction as with
  | nil => intro i k v h; simp [am_exp] at h
  | cons w l ih =>
    intro i k v h h3
    obtain ⟨t, x⟩ := w
    by_cases c1 : t = 1
    · subst c1
      rw [List.map_cons, lv_args, am_cat_vl hf]
      rw [am_exp] at h
      match k with
      | 0 => simp at h; subst h; exact List.mem_cons_self
      | 1 => simp at h; subst h; exact absurd rfl h3
      | k + 2 =>
        have := ih (i + 2) k v (by simpa using h) h3
        refine List.mem_cons_of_mem _ ?_
        rw [if_pos (show am_cat (1, x) = 2 from rfl)]
        rwa [show i + 2 + k = i + (k + 2) by omega] at this
    · have e1 : am_exp ((t, x) :: l) = (t, x) :: am_exp l := by
        rw [am_exp]
        intro x' hh; cases hh; exact absurd rfl c1
      rw [e1] at h
      rw [List.map_cons, lv_args, am_cat_vl hf]
      have e2 : ¬ am_cat (t, x) = 2 := by unfold am_cat; rw [if_neg c1]; decide
      rw [if_neg e2]
      match k with
      | 0 => simp at h; subst h; exact List.mem_cons_self
      | k + 1 =>
        have := ih (i + 1) k v (by simpa using h) h3
        refine List.mem_cons_of_mem _ ?_
        rwa [show i + 1 + k = i + (k + 1) by omega] at this
theorem am_exp_len {fm : Value} (hf : am_nfm fm) {ad : Int → Nat} (as : List am_V) : (lg_sl (as.map (am_vl ad fm))).length = (am_exp as).length ∧ (am_exp as).length = am_cats as := by
  induction as with
  | nil => exact ⟨rfl, rfl⟩
  | cons w l ih =>
    obtain ⟨t, x⟩ := w
    by_cases c1 : t = 1
    · subst c1
      have e1 : am_exp ((1, x) :: l) = (1, x) :: (3, 0) :: am_exp l := rfl
      rw [e1, List.map_cons]
      unfold lg_sl at *
      rw [List.flatMap_cons, am_cat_vl hf, if_pos (show am_cat (1, x) = 2 from rfl)]
      simp only [List.length_append, List.length_cons, List.length_nil, ih.1, ih.2, am_cats, am_cat, if_true]
      omega
    · have e1 : am_exp ((t, x) :: l) = (t, x) :: am_exp l := by
        rw [am_exp]
        intro x' hh; cases hh; exact absurd rfl c1
      have e2 : ¬ am_cat (t, x) = 2 := by unfold am_cat; rw [if_neg c1]; decide
      have e3 : am_cat (t, x) = 1 := by unfold am_cat; rw [if_neg c1]
      rw [e1, List.map_cons]
      unfold lg_sl at *
      rw [List.flatMap_cons, am_cat_vl hf, if_neg e2]
      simp only [List.length_append, List.length_cons, List.length_nil, ih.1, ih.2, am_cats, e3]
      omega
theorem am_cats_rev (as : List am_V) : am_cats as.reverse = am_cats as := by
  have app : ∀ a b : List am_V, am_cats (a ++ b) = am_cats a + am_cats b := by
    intro a b
    induction a with
    | nil => simp [am_cats]
    | cons v l ih => simp only [List.cons_append, am_cats, ih]; omega
  induction as with
  | nil => rfl
  | cons v l ih => rw [List.reverse_cons, app, ih]; simp only [am_cats]; omega
theorem am_has_ent {fm : Value} (hf : am_nfm fm) {ad : Int → Nat} {as : List am_V} {y : Nat} (hl : (am_exp as).length ≤ am_ml y) {arr : Array Slot} (h : lv_has arr (am_ml y) (lv_args 0 (as.map (am_vl ad fm)))) : am_has ad fm arr (am_ent y as) ∧ (am_ent y as).length = am_ml y := by
  have hlen : (am_ent y as).length = am_ml y := by unfold am_ent; rw [List.length_append, List.length_replicate]; omega
  refine ⟨⟨by rw [h.1, hlen], h.2.1, fun k v hv h3 => ?_⟩, hlen⟩
  unfold am_ent at hv
  rw [List.getElem?_append] at hv
  split at hv
  · have := am_exp_at hf (ad := ad) as 0 k v hv h3
    rw [Nat.zero_add] at this
    exact h.2.2 _ this
  · rw [List.getElem?_replicate] at hv
    split at hv
    · cases hv; exact absurd rfl h3
    · cases hv
theorem am_lok_ent {n : Int} {as : List am_V} (h : am_lok n as) (y : Nat) : am_lok n (am_ent y as) := by
  have e : am_lok n (am_exp as) := by
    induction as with
    | nil => intro v hv; cases hv
    | cons w l ih =>
      obtain ⟨t, x⟩ := w
      have h1 := am_lok_t h
      by_cases c1 : t = 1
      · subst c1
        exact am_lok_c h1.1 (am_lok_c am_vok_3 (ih h1.2))
      · have e1 : am_exp ((t, x) :: l) = (t, x) :: am_exp l := by
          rw [am_exp]
          intro x' hh; cases hh; exact absurd rfl c1
        rw [e1]
        exact am_lok_c h1.1 (ih h1.2)
  intro v hv
  unfold am_ent at hv
  rcases List.mem_append.mp hv with hv | hv
  · exact e v hv
  · rw [(List.mem_replicate.mp hv).2]; exact am_vok_3
/-- the whole: from a run of the abstract machine the kit's machine comes to the same end -/
def am_P (l : Launch) (L : Int) (xs : Int → Int) (f : Nat) : Prop := ∀ (d y : Nat) (co : List am_I) (ls st : List am_V) (h : am_H) (v : Option am_V) (h' : am_H),
  am_run f d y co ls st h = some (v, h') → y < 310 → am_okL y co = true → ls.length = am_ml y → am_hok L xs h → am_lok (am_n h) ls → am_lok (am_n h) st →
  (am_hok L xs h' ∧ am_mn h h' ∧ ∀ w, v = some w → am_vok (am_n h') w) ∧
  ∀ (p : Program) (e : Env) (R : Room) (s : State) (m : MethodId) (args : Array Value) (below : List Frame) (meth : Method) (c : Code) (Q : State → Prop) (fm : Value) (D : va_G) (A : Nat → Prop) (h1 : am_H) (ad ad0 : Int → Nat) (cA : Int → ClassId) (tys : List (ClassId × FieldType)) (pc : Nat),
    (∀ (i : Instr) (r : List Int) (pc : Nat) (nx : Option Nat) (ls st : List am_V) (ad : Int → Nat) (cA : Int → ClassId) (tys : List (ClassId × FieldType)), am_okI y i r pc nx = true → am_lok (am_n h') st → am_ret i (am_rt y) st h' = some (v, h') → am_ex (am_n h1) ad0 ad → am_At p l e R s m args below meth c Q fm D A h1 h' pc ls st ad cA tys) →
    am_hd co = some pc → am_Fx y d p R s m args meth c → am_Cs L xs ad fm A s s.heap → (∀ q, s.heap.size ≤ q → A q) → am_n h1 ≤ am_n h → am_m h1 ≤ am_m h → am_ex (am_n h1) ad0 ad → (am_n h' - am_n h1).toNat ≤ R.cells → (am_m h' - am_m h1).toNat ≤ R.slots →
    am_At p l e R s m args below meth c Q fm D A h1 h pc ls st ad cA tys
/-- a method's contract out of a run of it -/
theorem am_met {l : Launch} {L : Int} {xs : Int → Int} {f : Nat} (IH : am_P l L xs f) {d y : Nat} {as : List am_V} {h h' : am_H} {v : Option am_V} (hr : am_run f d y (am_blk y 0) (am_ent y as) [] h = some (v, h')) (hy : y < 310) (hok : am_okM y = true) (hlen : (am_exp as).length ≤ am_ml y) (hh : am_hok L xs h) (hl : am_lok (am_n h) as)
    {fm : Value} (hf : am_nfm fm) {D : va_G} {A : Nat → Prop} {ad : Int → Nat} {cA : Int → ClassId} {tys : List (ClassId × FieldType)} :
    Met l (am_y y) (ws_ (am_y y) (am_b y) (am_ml y) (am_r y)) ({ frames := d, cells := (am_n h' - am_n h).toNat, slots := (am_m h' - am_m h).toNat, locals := 32 * d } : Room)
      (fun a U => a = (as.map (am_vl ad fm)).toArray ∧ am_Wd D ad fm cA tys A h U U.heap ∧ am_Cs L xs ad fm A U U.heap ∧ ∀ q, U.heap.size ≤ q → A q)
      (am_Qc D fm A ad (am_n h) v h') (am_n h' - am_n h).toNat (am_m h' - am_m h).toNat A := by
  have hK := am_okh y hy
  unfold am_okK at hK
  simp only [Bool.and_eq_true, decide_eq_true_eq] at hK
  unfold am_okM at hok
  simp only [Bool.and_eq_true, decide_eq_true_eq] at hok
  have hoL : am_okL y (am_blk y 0) = true := by
    unfold am_blk
    cases hq : am_code y with
    | nil => rfl
    | cons b bs => exact List.all_eq_true.mp hok.1 b (by rw [hq]; exact List.mem_cons_self)
  refine am_ofW (cc := am_b y) (maxL := am_ml y) (ret := am_r y) hK.1.1.1.1.1.1.1 rfl ?_
  intro p e s m args below meth c s₁ B hml hv
  obtain ⟨rfl, hw, hC, hA⟩ := hv
  have hts := atoms_spec (ws := ws_ (am_y y) (am_b y) (am_ml y) (am_r y)) B.pre
  have hown : s.vm.findClass (am_nm (am_ow y)) = some m.cls := by rw [← hK.1.1.1.2]; exact findClass_of_methodNamed B.named
  have hF : am_Fx y d p (headSpec (ws_ (am_y y) (am_b y) (am_ml y) (am_r y)) ({ frames := d, cells := (am_n h' - am_n h).toNat, slots := (am_m h' - am_m h).toNat, locals := 32 * d } : Room)).room s m (as.map (am_vl ad fm)).toArray meth c :=
    ⟨B.exec, B.bytes, hml, hown, fun w hq => hts w (List.mem_cons_of_mem _ hq), Nat.le_refl _, Nat.le_refl _, B.returns, B.notSynchronized, fun h2 => by rw [← hK.1.2 h2]; exact (name_of_methodNamed B.named B.method).1⟩
  have hent := lv_entry (as.map (am_vl ad fm)) (n := am_ml y) (by rw [(am_exp_len hf as).1]; exact hlen)
  rw [lg_entry_eq]
  obtain ⟨g1, g2⟩ := am_has_ent hf hlen hent
  obtain ⟨-, hW⟩ := IH d y (am_blk y 0) (am_ent y as) [] h v h' hr hy hoL g2 hh (am_lok_ent hl y) (fun v hv => by cases hv)
  have k := hW p e _ s m _ below meth c _ fm D A h ad ad cA tys 0 (fun i r pc nx ls st ad' cA' tys' o1 o2 o3 o4 => am_stepR hf hy hF o1 o2 o3 o4) hok.2 hF hC hA (Int.le_refl _) (Int.le_refl _) am_ex.rf (Nat.le_refl _) (Nat.le_refl _) _ s.heap [] g1 hw va_S.rf
  rw [Int.sub_self, Int.sub_self] at k
  exact k
/-- behind a call -/
theorem am_back {p : Program} {l : Launch} {e : Env} {R : Room} {s : State} {m : MethodId} {args : Array Value} {below : List Frame} {meth : Method} {c : Code} {Q : State → Prop} {fm : Value} {D : va_G} {A : Nat → Prop} {h1 h h2 : am_H} {L : Int} {xs : Int → Int}
    {pc : Nat} {ls rest st0 : List am_V} {ad : Int → Nat} {v : Option am_V} {arr : Array Slot} {H : Heap} {locs : List Loc} {a : Array Value} (hh : am_hok L xs h) (hl : am_lok (am_n h) ls) (hs : am_lok (am_n h) rest) (hm1 : am_n h1 ≤ am_n h) (hm2 : am_m h1 ≤ am_m h) (hmo : am_mn h h2)
    (hr : va_Run p l e R s m args below meth c H locs (am_n h - am_n h1).toNat (am_m h - am_m h1).toNat (am_n h2 - am_n h).toNat (am_m h2 - am_m h).toNat (F0 m pc arr (st0.map (am_vl ad fm))) (rest.map (am_vl ad fm)) (am_Qc D fm A ad (am_n h) v h2 a) A)
    (ha : am_has ad fm arr ls) (hS : va_S A s.heap H locs)
    (kk : ∀ (ad' : Int → Nat) (cA' : Int → ClassId) (tys' : List (ClassId × FieldType)), am_ex (am_n h) ad ad' → am_At p l e R s m args below meth c Q fm D A h1 h2 (pc + 3) ls (am_push v rest) ad' cA' tys') : W p l e R s m args below meth c H locs (am_n h - am_n h1).toNat (am_m h - am_m h1).toNat Q (F0 m pc arr (st0.map (am_vl ad fm))) := by
  intro T hT X
  obtain ⟨v', st₀, t, T', LL, g0, X', hL, e1, e2, ⟨ad', cA', tys', hx, ho, hw, hz, hk⟩, st⟩ := hr T hT X
  have hv' : v' = v.map (am_vl ad' fm) := by cases ho; rfl
  rw [g0] at hz hk
  have hS1 : va_S A s.heap T'.heap (locs ++ LL) := ⟨Nat.le_trans hS.1 (by rw [e1]; exact hz), fun q q1 q2 => by rw [e1, hk q (Nat.lt_of_lt_of_le q1 hS.1) q2]; exact hS.2.1 q q1 q2, fun q hq => by
      rcases List.mem_append.mp hq with h | h
      · exact hS.2.2 q h
      · exact hL q h⟩
  have hvm : t.vm.Alike s.vm := by rw [← e2]; exact X'.warmed.alike.symm
  have hw1 : am_Wd D ad' fm cA' tys' A h2 s T'.heap := ⟨hw.1.moved hvm, by rw [e1]; exact hw.2.1, hw.2.2.1, hw.2.2.2⟩
  have k1 := kk ad' cA' tys' hx arr T'.heap (locs ++ LL) (am_has_ex ha hx hh.1 hl) hw1 hS1
  have c1 : (am_n h2 - am_n h1).toNat = (am_n h - am_n h1).toNat + (am_n h2 - am_n h).toNat := by have := hmo.1; omega
  have c2 : (am_m h2 - am_m h1).toNat = (am_m h - am_m h1).toNat + (am_m h2 - am_m h).toNat := by have := hmo.2.1; omega
  have c3 : (am_push v rest).map (am_vl ad' fm) = v'.toList ++ rest.map (am_vl ad fm) := by
    rw [hv']
    cases v with
    | none => exact am_map_ex hx hh.1 hs
    | some w => show _ :: _ = _ :: _; rw [am_map_ex hx hh.1 hs]; rfl
  rw [c1, c2, c3] at k1
  obtain ⟨t2, a1, b1⟩ := k1 T' rfl X'
  exact ⟨t2, st t2 a1, b1⟩

theorem am_skx : (List.range 310).all (fun y => decide (am_sk y = 2 → am_r y = none)) = true := by decide +kernel
theorem am_skr {y : Nat} (h : y < 310) (h2 : am_sk y = 2) : am_r y = none := by
  have := List.all_eq_true.mp am_skx y (List.mem_range.mpr h)
  exact of_decide_eq_true this h2
theorem am_blk_ok {y : Nat} (h : am_okM y = true) (b : Nat) : am_okL y (am_blk y b) = true := by
  unfold am_okM at h
  simp only [Bool.and_eq_true] at h
  unfold am_blk
  rw [List.getD_eq_getElem?_getD]
  cases hq : (am_code y)[b]? with
  | none => rfl
  | some x => exact List.all_eq_true.mp h.1 x (List.mem_of_getElem? hq)
section
variable {p : Program} {l : Launch} {e : Env} {R : Room} {s : State} {m : MethodId} {args : Array Value} {below : List Frame} {meth : Method} {c : Code} {Q : State → Prop} {fm : Value} {D : va_G} {A : Nat → Prop} {h1 h h2 : am_H}
variable {y d pc : Nat} {x : Nat} {ls rest as : List am_V} {ad : Int → Nat} {cA : Int → ClassId} {tys : List (ClassId × FieldType)} {L : Int} {xs : Int → Int} {f : Nat} {v : Option am_V} {y' : Nat}
/-- all of a call but its link -/
theorem am_call (IH : am_P l L xs f) (hr : am_run f d y' (am_blk y' 0) (am_ent y' as) [] h = some (v, h2)) (hy : y' < 310) (hok : am_okM y' = true) (hlen : (am_exp as).length ≤ am_ml y') (hh : am_hok L xs h) (hl : am_lok (am_n h) ls) (hst : am_lok (am_n h) (as.reverse ++ rest)) (hcat : am_cats rest ≤ 8)
    (C : am_Cs L xs ad fm A s s.heap) (F : am_Fx y (d + 1) p R s m args meth c) (hA : ∀ q, s.heap.size ≤ q → A q) (hlsl : ls.length = am_ml y) (hm1 : am_n h1 ≤ am_n h) (hm2 : am_m h1 ≤ am_m h) (hmo : am_mn h h2) (hrc : (am_n h2 - am_n h1).toNat ≤ R.cells) (hrs : (am_m h2 - am_m h1).toNat ≤ R.slots)
    (hrun : ∀ (arr : Array Slot) (H : Heap) (locs : List Loc), am_has ad fm arr ls → am_Wd D ad fm cA tys A h s H → va_S A s.heap H locs →
      ∀ (Pc : Array Value → State → Prop) (Qc : Array Value → State → Outcome → State → Prop) (mc ms : Nat), Met l (am_y y') (ws_ (am_y y') (am_b y') (am_ml y') (am_r y')) ({ frames := d, cells := mc, slots := ms, locals := 32 * d } : Room) Pc Qc mc ms A →
      FrameBlind Pc → (∀ U : State, U.heap = H → s.WarmedH U.vm → Pc (as.map (am_vl ad fm)).toArray U) → (am_n h - am_n h1).toNat + mc ≤ R.cells ∧ (am_m h - am_m h1).toNat + ms ≤ R.slots →
      va_Run p l e R s m args below meth c H locs (am_n h - am_n h1).toNat (am_m h - am_m h1).toNat mc ms (F0 m pc arr ((as.reverse ++ rest).map (am_vl ad fm))) (rest.map (am_vl ad fm)) (Qc (as.map (am_vl ad fm)).toArray) A)
    (kk : ∀ (ad' : Int → Nat) (cA' : Int → ClassId) (tys' : List (ClassId × FieldType)), am_ex (am_n h) ad ad' → am_At p l e R s m args below meth c Q fm D A h1 h2 (pc + 3) ls (am_push v rest) ad' cA' tys') : am_At p l e R s m args below meth c Q fm D A h1 h pc ls (as.reverse ++ rest) ad cA tys := by
  intro arr H locs ha hw hS
  have hlas : am_lok (am_n h) as := fun w hq => hst w (List.mem_append_left _ (List.mem_reverse.mpr hq))
  have hlr : am_lok (am_n h) rest := fun w hq => hst w (List.mem_append_right _ hq)
  have hM := am_met IH hr hy hok hlen hh hlas C.1 (D := D) (A := A) (ad := ad) (cA := cA) (tys := tys)
  refine am_back hh hl hlr hm1 hm2 hmo (hrun arr H locs ha hw hS _ _ _ _ hM (fun a U g mk hq => hq) ?_ ?_) ha hS kk
  · intro U hU hW
    refine ⟨rfl, ⟨hw.1.moved hW.alike, by rw [hU]; exact hw.2.1, hw.2.2.1, hw.2.2.2⟩, C.go hS hU hW, fun q hq => hA q ?_⟩
    rw [hU] at hq
    exact Nat.le_trans hS.1 hq
  · have := hmo.1; have := hmo.2.1
    constructor <;> omega
theorem am_room (F : am_Fx y (d + 1) p R s m args meth c) (hy : y' < 310) (mc ms : Nat) : ({ frames := d, cells := mc, slots := ms, locals := 32 * d } : Room).frames + 1 ≤ R.frames ∧ 8 + (am_ml y' + 11) + ({ frames := d, cells := mc, slots := ms, locals := 32 * d } : Room).locals ≤ R.locals := by
  have hK := am_okh y' hy
  unfold am_okK at hK
  simp only [Bool.and_eq_true, decide_eq_true_eq] at hK
  have h1 := hK.2
  have h2 := F.2.2.2.2.2.1
  have h3 := F.2.2.2.2.2.2.1
  refine ⟨h2, ?_⟩
  show 8 + (am_ml y' + 11) + 32 * d ≤ R.locals
  omega
theorem am_hd3 (hy : y' < 310) (n : Nat) (hn : am_np y' = n) : (am_y y').cls ≠ "java/lang/invoke/MethodHandle" ∧ (am_y y').cls ≠ "java/lang/invoke/VarHandle" ∧ (parseMethodDescriptor (am_y y').desc).map (fun d => d.parameters.length) = some n := by
  have hK := am_okh y' hy
  unfold am_okK at hK
  simp only [Bool.and_eq_true, decide_eq_true_eq] at hK
  exact ⟨hK.1.1.1.1.1.1.2, hK.1.1.1.1.1.2, by rw [hK.1.1.1.1.2, hn]⟩
theorem am_fix (F : am_Fx y (d + 1) p R s m args meth c) : CallFix p m c (am_b y) (am_ml y) s args lw_all (am_nm (am_ow y)) := ⟨F.1, F.2.1, F.2.2.1, F.2.2.2.1, F.2.2.2.2.1⟩
theorem am_runS (F : am_Fx y (d + 1) p R s m args meth c) (hf : am_nfm fm) (hlk : (am_ow y, x, 1, y') ∈ am_mAl) (hsk : am_sk y' = 1) (hn : as.length = am_np y') (hlsl : ls.length = am_ml y) (hcat : am_cats rest ≤ 8) (hd : decode (am_b y) pc = .ok (.invokestatic x, 3))
    {arr : Array Slot} {H : Heap} {locs : List Loc} (ha : am_has ad fm arr ls) {Pc : Array Value → State → Prop} {Qc : Array Value → State → Outcome → State → Prop} {mc ms k1 k2 : Nat} (hM : Met l (am_y y') (ws_ (am_y y') (am_b y') (am_ml y') (am_r y')) ({ frames := d, cells := mc, slots := ms, locals := 32 * d } : Room) Pc Qc mc ms A)
    (hb : FrameBlind Pc) (hp : ∀ U : State, U.heap = H → s.WarmedH U.vm → Pc (as.map (am_vl ad fm)).toArray U) (hc : k1 + mc ≤ R.cells ∧ k2 + ms ≤ R.slots) :
    va_Run p l e R s m args below meth c H locs k1 k2 mc ms (F0 m pc arr ((as.reverse ++ rest).map (am_vl ad fm))) (rest.map (am_vl ad fm)) (Qc (as.map (am_vl ad fm)).toArray) A := by
  have hlt2 := am_mAx _ hlk
  have hlt : y' < 309 := hlt2.1
  have hyo := am_yx y' hlt2
  have g3 := hyo.2.2
  rw [if_pos hsk] at g3
  have hl : Cond.methodLink (am_nm (am_ow y)) x (am_y y') ∈ lw_all := am_mA _ hlk
  have cw := va_cwS (R := R) (rm := ({ frames := d, cells := mc, slots := ms, locals := 32 * d } : Room)) (am_np y') F.2.2.2.2.1 (lw_S hl g3 hyo.2.1 hyo.1) rfl rfl rfl (am_hd3 (by omega) _ rfl) (am_room F (by omega) mc ms)
  refine va_runS (am_fix F) hM cw ⟨hb, hp⟩ rfl (by rw [List.length_map]; exact hn) (by show arr.size = _; rw [ha.1, hlsl]) ?_ (lv_room (by rw [am_cats_vl hf]; exact hcat)) hd hc
  show (as.reverse ++ rest).map _ = _
  rw [List.map_append, List.map_reverse]
theorem am_runI (F : am_Fx y (d + 1) p R s m args meth c) (C : am_Cs L xs ad fm A s s.heap) (hlk : (am_ow y, x, 2, y') ∈ am_mAl ∨ (am_ow y, x, 5, y') ∈ am_mAl) (hsk : am_sk y' = 2) {a : Int} (a0 : 0 ≤ a) (hn : as.length = am_np y') (hlsl : ls.length = am_ml y) (hcat : am_cats rest ≤ 8) (hd : decode (am_b y) pc = .ok (.invokespecial x, 3))
    {arr : Array Slot} {H : Heap} {locs : List Loc} (ha : am_has ad fm arr ls) {Pc : Array Value → State → Prop} {Qc : Array Value → State → Outcome → State → Prop} {mc ms k1 k2 : Nat} (hM : Met l (am_y y') (ws_ (am_y y') (am_b y') (am_ml y') (am_r y')) ({ frames := d, cells := mc, slots := ms, locals := 32 * d } : Room) Pc Qc mc ms A)
    (hb : FrameBlind Pc) (hp : ∀ U : State, U.heap = H → s.WarmedH U.vm → Pc (((2, a) :: as).map (am_vl ad fm)).toArray U) (hc : k1 + mc ≤ R.cells ∧ k2 + ms ≤ R.slots) :
    va_Run p l e R s m args below meth c H locs k1 k2 mc ms (F0 m pc arr ((((2, a) :: as).reverse ++ rest).map (am_vl ad fm))) (rest.map (am_vl ad fm)) (Qc (((2, a) :: as).map (am_vl ad fm)).toArray) A := by
  have hlt2 : y' < 309 ∧ y' ≠ 294 := by rcases hlk with h | h <;> exact am_mAx _ h
  have hlt : y' < 309 := hlt2.1
  have hyo := am_yx y' hlt2
  have g3 := hyo.2.2
  rw [if_neg (by omega), if_pos hsk] at g3
  have hK := am_okh y' (by omega)
  unfold am_okK at hK
  simp only [Bool.and_eq_true, decide_eq_true_eq] at hK
  have hnone := am_skr (y := y') (by omega) hsk
  have hcode := hyo.1
  rw [hnone] at hM hcode
  have hst : ((((2, a) :: as).reverse ++ rest).map (am_vl ad fm)) = (as.map (am_vl ad fm)).reverse ++ Value.ref (ad a) :: rest.map (am_vl ad fm) := by
    rw [List.reverse_cons, List.append_assoc, List.map_append, List.map_reverse]
    show _ ++ (am_vl ad fm (2, a) :: _) = _
    rw [am_vl_r ad fm (by omega) (by omega)]
    rfl
  have hst2 : ((2, a) :: as).map (am_vl ad fm) = Value.ref (ad a) :: as.map (am_vl ad fm) := by
    rw [List.map_cons, am_vl_r ad fm (by omega) (by omega)]
  rw [hst2] at hp ⊢
  rw [hst]
  rcases hlk with hlk | hlk
  · have hl : Cond.methodLink (am_nm (am_ow y)) x (am_y y') ∈ lw_all := am_mA _ hlk
    have cw := cwI (R := R) (rm := ({ frames := d, cells := mc, slots := ms, locals := 32 * d } : Room)) (am_np y') F.2.2.2.2.1 (lw_meth hcode) rfl rfl rfl (F.2.2.2.2.1 _ hyo.2.1) (F.2.2.2.2.1 _ hl) (F.2.2.2.2.1 _ g3) (hK.1.2 hsk) (am_hd3 (by omega) _ rfl) (am_room F (by omega) mc ms)
    exact va_runI (am_fix F) hM cw ⟨hb, hp⟩ rfl (by rw [List.length_map]; exact hn) (by show arr.size = _; rw [ha.1, hlsl]) rfl (lv_room (by rw [am_cats_vl C.1]; exact hcat)) hd hc
  · have hl := C.2.2.2.2.2.2.1 _ hlk rfl
    have cw := va_cnB (R := R) (rm := ({ frames := d, cells := mc, slots := ms, locals := 32 * d } : Room)) (am_np y') F.2.2.2.2.1 (lw_meth hcode) rfl rfl rfl hl (F.2.2.2.2.1 _ hyo.2.1) (am_hd3 (by omega) _ rfl) (am_room F (by omega) mc ms)
    exact va_runIN (am_fix F) hM ⟨cw, hK.1.2 hsk, F.2.2.2.2.1 _ g3⟩ ⟨hb, hp⟩ rfl (by rw [List.length_map]; exact hn) (by show arr.size = _; rw [ha.1, hlsl]) rfl (lv_room (by rw [am_cats_vl C.1]; exact hcat)) hd hc
theorem am_runV (F : am_Fx y (d + 1) p R s m args meth c) (C : am_Cs L xs ad fm A s s.heap) (hh : am_hok L xs h) (hlk : (am_ow y, x, 0, y') ∈ am_mAl) (hsk : am_sk y' = 0) {a : Int} (hrv : if am_ow y' = 11 then am_k h a = 100 else 0 ≤ a ∧ am_k h a = (am_ow y' : Int)) (how : am_ow y' ≠ 11 → am_ow y' < 11) (hn : as.length = am_np y') (hlsl : ls.length = am_ml y) (hcat : am_cats rest ≤ 8) (hd : decode (am_b y) pc = .ok (.invokevirtual x, 3))
    {arr : Array Slot} {H : Heap} {locs : List Loc} (ha : am_has ad fm arr ls) (hw : am_Wd D ad fm cA tys A h s H) (hS : va_S A s.heap H locs) {Pc : Array Value → State → Prop} {Qc : Array Value → State → Outcome → State → Prop} {mc ms k1 k2 : Nat} (hM : Met l (am_y y') (ws_ (am_y y') (am_b y') (am_ml y') (am_r y')) ({ frames := d, cells := mc, slots := ms, locals := 32 * d } : Room) Pc Qc mc ms A)
    (hb : FrameBlind Pc) (hp : ∀ U : State, U.heap = H → s.WarmedH U.vm → Pc (((2, a) :: as).map (am_vl ad fm)).toArray U) (hc : k1 + mc ≤ R.cells ∧ k2 + ms ≤ R.slots) :
    va_Run p l e R s m args below meth c H locs k1 k2 mc ms (F0 m pc arr ((((2, a) :: as).reverse ++ rest).map (am_vl ad fm))) (rest.map (am_vl ad fm)) (Qc (((2, a) :: as).map (am_vl ad fm)).toArray) A := by
  have hlt2 := am_mAx _ hlk
  have hlt : y' < 309 := hlt2.1
  have hyo := am_yx y' hlt2
  have g3 := hyo.2.2
  rw [if_neg (by omega), if_neg (by omega)] at g3
  have hK := am_okh y' (by omega)
  unfold am_okK at hK
  simp only [Bool.and_eq_true, decide_eq_true_eq] at hK
  have hcls : (am_y y').cls = am_nm (am_ow y') := hK.1.1.1.2
  have hne : a ≠ -1 ∧ a ≠ -3 ∧ ∃ cellB : Cell, H[ad a]? = some cellB ∧ cellB.vm.isStatics = false ∧ s.vm.findClass (am_y y').cls = some cellB.cls := by
    by_cases c11 : am_ow y' = 11
    · rw [if_pos c11] at hrv
      have hq : ∃ q : Nat, q < 96 ∧ a = -10 - 2 * q := by
        have ha : a < 0 := by
          by_cases c0 : 0 ≤ a
          · have hn := am_inh hh (a := a) (by omega)
            rcases hh.2.2.1 a c0 hn with h1 | h1 <;> omega
          · omega
        have h1 := (hh.2.2.2.2 a ha).1
        rw [h1] at hrv
        unfold am_k0 at hrv
        split at hrv
        · omega
        · split at hrv
          · split at hrv
            · exact ⟨((-10 - a) / 2).toNat, by omega, by omega⟩
            · omega
          · omega
      obtain ⟨q, hq, rfl⟩ := hq
      refine ⟨by omega, by omega, ?_⟩
      obtain ⟨cell, g1, g2, g4, -⟩ := (C.2.1 q hq).2.1.kept hS.2.1
      exact ⟨cell, g1, g2, by rw [hcls, c11]; exact g4⟩
    · rw [if_neg c11] at hrv
      have hlt' := how c11
      obtain ⟨-, hn', -⟩ := am_obj hh (a := a) (by omega) (by omega)
      have hgv := am_ws_get (ad := ad) (fm := fm) (cA := cA) hrv.1 hn'
      rw [am_ce_obj (by omega), hrv.2, Int.toNat_natCast] at hgv
      refine ⟨by omega, by omega, ?_⟩
      have := va_recv hw.1 hw.2.1 (am_clx (am_ow y') hlt') hgv
      rw [hcls]
      exact this
  obtain ⟨n1, n3, hcell⟩ := hne
  have hst : ((((2, a) :: as).reverse ++ rest).map (am_vl ad fm)) = (as.map (am_vl ad fm)).reverse ++ Value.ref (ad a) :: rest.map (am_vl ad fm) := by
    rw [List.reverse_cons, List.append_assoc, List.map_append, List.map_reverse]
    show _ ++ (am_vl ad fm (2, a) :: _) = _
    rw [am_vl_r ad fm n1 n3]
    rfl
  have hst2 : ((2, a) :: as).map (am_vl ad fm) = Value.ref (ad a) :: as.map (am_vl ad fm) := by
    rw [List.map_cons, am_vl_r ad fm n1 n3]
  rw [hst2] at hp ⊢
  rw [hst]
  have hl : Cond.methodLink (am_nm (am_ow y)) x (am_y y') ∈ lw_all := am_mA _ hlk
  have h3 := am_hd3 (y' := y') (by omega) _ rfl
  have cw := cwV (R := R) (C := (am_y y').cls) (rm := ({ frames := d, cells := mc, slots := ms, locals := 32 * d } : Room)) (am_np y') F.2.2.2.2.1 (lw_V hl g3.1 g3.2 hyo.2.1 hyo.1) rfl rfl rfl ⟨rfl, h3⟩ (am_room F (by omega) mc ms)
  exact va_runV (am_fix F) hM cw ⟨hb, hcell, hp⟩ rfl (by rw [List.length_map]; exact hn) (by show arr.size = _; rw [ha.1, hlsl]) rfl (lv_room (by rw [am_cats_vl C.1]; exact hcat)) hd hc
end
