set_option maxRecDepth 100000
def am_Fx (y d : Nat) (p : Program) (R : Room) (s : State) (m : MethodId) (args : Array Value) (meth : Method) (c : Code) : Prop :=
  p.tables.exec = Jvm.exec ∧ c.code = am_b y ∧ c.maxLocals = am_ml y ∧ s.vm.findClass (am_nm (am_ow y)) = some m.cls ∧ (∀ w ∈ lw_all, w.before args s = true) ∧ d ≤ R.frames ∧ 32 * d ≤ R.locals ∧ meth.sig.returnType = am_r y ∧ meth.locks = false ∧ (am_sk y = 2 → meth.name = "<init>")
def am_sre (k : Nat) : Nat × Nat × String := am_sr.getD k (99, 0, "")
def am_Cs (L : Int) (xs : Int → Int) (ad : Int → Nat) (fm : Value) (A : Nat → Prop) (U : State) (H : Heap) : Prop := am_nfm fm ∧
  (∀ k : Nat, k < 96 → vk_R (am_nm (am_sre k).1) (am_sre k).2.1 (am_sre k).2.2 (ad (-10 - 2 * k)) U ∧ va_O "java/lang/String" (ad (-10 - 2 * k)) A U H ∧ va_OF "java/lang/String" "coder" "B" (.int 0) (ad (-10 - 2 * k)) A U H ∧ va_OF "java/lang/String" "value" "[B" (.ref (ad (-11 - 2 * k))) (ad (-10 - 2 * k)) A U H ∧ va_T .byte (ad (-11 - 2 * k)) (am_str k).length (fun j => .int (Int32.ofInt ((am_str k).getD j 0))) A U H) ∧
  va_T .int (ad (-2)) L.toNat (fun j => .int (Int32.ofInt (xs j))) A U H ∧
  va_Z (am_sf 101 0).1 (am_sf 101 0).2.1 (am_sf 101 0).2.2 (.int 1) A U H ∧ va_Z (am_sf 101 1).1 (am_sf 101 1).2.1 (am_sf 101 1).2.2 fm A U H ∧
  (∀ e ∈ am_fBl, va_Nw (Cond.fieldLinkNest (am_nm e.1) e.2.1 (am_nm e.2.2.1) (am_T e.2.2.1 e.2.2.2).2.1 (am_T e.2.2.1 e.2.2.2).2.2.1 "StreamQueries") U) ∧
  (∀ e ∈ am_mAl, e.2.2.1 = 5 → va_Nw (Cond.methodLinkNest (am_nm e.1) e.2.1 (am_y e.2.2.2) "StreamQueries") U) ∧ (∀ k : Nat, 20 ≤ k → k ≤ 23 → va_AO (am_en k) U)
def am_At (p : Program) (l : Launch) (e : Env) (R : Room) (s : State) (m : MethodId) (args : Array Value) (below : List Frame) (meth : Method) (c : Code) (Q : State → Prop) (fm : Value) (D : va_G) (A : Nat → Prop) (h1 h : am_H) (pc : Nat) (ls st : List am_V) (ad : Int → Nat) (cA : Int → ClassId) (tys : List (ClassId × FieldType)) : Prop :=
  ∀ (arr : Array Slot) (H : Heap) (locs : List Loc), am_has ad fm arr ls → am_Wd D ad fm cA tys A h s H → va_S A s.heap H locs → W p l e R s m args below meth c H locs (am_n h - am_n h1).toNat (am_m h - am_m h1).toNat Q (F0 m pc arr (st.map (am_vl ad fm)))
section
variable {p : Program} {l : Launch} {e : Env} {R : Room} {s : State} {m : MethodId} {args : Array Value} {below : List Frame} {meth : Method} {c : Code} {Q : State → Prop} {fm : Value} {D : va_G} {A : Nat → Prop} {h1 h : am_H}
variable {y d pc : Nat} {ls st : List am_V} {ad : Int → Nat} {cA : Int → ClassId} {tys : List (ClassId × FieldType)}
theorem am_W_iconst {n : Int} (F : am_Fx y d p R s m args meth c) (hd : decode (am_b y) pc = .ok (.iconst n, 1))
    (kk : am_At p l e R s m args below meth c Q fm D A h1 h (pc + 1) ls ((0, n) :: st) ad cA tys) : am_At p l e R s m args below meth c Q fm D A h1 h pc ls st ad cA tys := by
  intro arr H locs ha hw hS
  exact lv_iconst F.1 F.2.1 hd rfl (kk arr H locs ha hw hS)
theorem am_W_bipush {n : Int} (hn : (Int8.ofInt n).toInt32 = Int32.ofInt n) (F : am_Fx y d p R s m args meth c) (hd : decode (am_b y) pc = .ok (.bipush n, 2))
    (kk : am_At p l e R s m args below meth c Q fm D A h1 h (pc + 2) ls ((0, n) :: st) ad cA tys) : am_At p l e R s m args below meth c Q fm D A h1 h pc ls st ad cA tys := by
  intro arr H locs ha hw hS
  exact lv_bipush F.1 F.2.1 hd hn (kk arr H locs ha hw hS)
theorem am_W_sipush {n : Int} (hn : (Int16.ofInt n).toInt32 = Int32.ofInt n) (F : am_Fx y d p R s m args meth c) (hd : decode (am_b y) pc = .ok (.sipush n, 3))
    (kk : am_At p l e R s m args below meth c Q fm D A h1 h (pc + 3) ls ((0, n) :: st) ad cA tys) : am_At p l e R s m args below meth c Q fm D A h1 h pc ls st ad cA tys := by
  intro arr H locs ha hw hS
  exact lv_sipush F.1 F.2.1 hd hn (kk arr H locs ha hw hS)
theorem am_W_lconst {n : Fin 2} (F : am_Fx y d p R s m args meth c) (hd : decode (am_b y) pc = .ok (.lconst n, 1))
    (kk : am_At p l e R s m args below meth c Q fm D A h1 h (pc + 1) ls ((1, (n.val : Int)) :: st) ad cA tys) : am_At p l e R s m args below meth c Q fm D A h1 h pc ls st ad cA tys := by
  intro arr H locs ha hw hS
  exact lv_lconst F.1 F.2.1 hd (v := Int64.ofInt (n.val : Int)) (by rw [Int64.ofInt_eq_ofNat]) (kk arr H locs ha hw hS)
theorem am_W_null  (F : am_Fx y d p R s m args meth c) (hd : decode (am_b y) pc = .ok (.aconst_null, 1))
    (kk : am_At p l e R s m args below meth c Q fm D A h1 h (pc + 1) ls ((2, -1) :: st) ad cA tys) : am_At p l e R s m args below meth c Q fm D A h1 h pc ls st ad cA tys := by
  intro arr H locs ha hw hS
  exact lv_null F.1 F.2.1 hd (kk arr H locs ha hw hS)
theorem am_W_ldc {x : Nat} {v : Int} (hx : (am_ow y, x, v) ∈ am_ki) (F : am_Fx y d p R s m args meth c) (hd : decode (am_b y) pc = .ok (.ldc x, 2))
    (kk : am_At p l e R s m args below meth c Q fm D A h1 h (pc + 2) ls ((0, v) :: st) ad cA tys) : am_At p l e R s m args below meth c Q fm D A h1 h pc ls st ad cA tys := by
  intro arr H locs ha hw hS
  exact lv_ldc F.1 F.2.1 F.2.2.2.1 (F.2.2.2.2.1 _ (am_ki_ok _ hx)) hd (kk arr H locs ha hw hS)
theorem am_W_ldcw {x : Nat} {v : Int} (hx : (am_ow y, x, v) ∈ am_ki) (F : am_Fx y d p R s m args meth c) (hd : decode (am_b y) pc = .ok (.ldc_w x, 3))
    (kk : am_At p l e R s m args below meth c Q fm D A h1 h (pc + 3) ls ((0, v) :: st) ad cA tys) : am_At p l e R s m args below meth c Q fm D A h1 h pc ls st ad cA tys := by
  intro arr H locs ha hw hS
  exact lv_ldcw F.1 F.2.1 F.2.2.2.1 (F.2.2.2.2.1 _ (am_ki_ok _ hx)) hd (kk arr H locs ha hw hS)
theorem am_W_ldc2 {x : Nat} {v : Int} (hx : (am_ow y, x, v) ∈ am_kj) (F : am_Fx y d p R s m args meth c) (hd : decode (am_b y) pc = .ok (.ldc2_w x, 3))
    (kk : am_At p l e R s m args below meth c Q fm D A h1 h (pc + 3) ls ((1, v) :: st) ad cA tys) : am_At p l e R s m args below meth c Q fm D A h1 h pc ls st ad cA tys := by
  intro arr H locs ha hw hS
  exact lv_ldc2 F.1 F.2.1 F.2.2.2.1 (F.2.2.2.2.1 _ (am_kj_ok _ hx)) hd (kk arr H locs ha hw hS)
theorem am_W_ldcS {L : Int} {xs : Int → Int} (C : am_Cs L xs ad fm A s s.heap) {x k : Nat} (hk : k < 96) (h1' : (am_sre k).1 = am_ow y) (h2' : (am_sre k).2.1 = x) (F : am_Fx y d p R s m args meth c) (hd : decode (am_b y) pc = .ok (.ldc x, 2))
    (kk : am_At p l e R s m args below meth c Q fm D A h1 h (pc + 2) ls ((2, -10 - 2 * (k : Int)) :: st) ad cA tys) : am_At p l e R s m args below meth c Q fm D A h1 h pc ls st ad cA tys := by
  intro arr H locs ha hw hS
  have hz := (C.2.1 k hk).1
  rw [h1', h2'] at hz
  refine va_ldcS F.1 F.2.1 F.2.2.2.1 hz hd ?_
  have k1 := kk arr H locs ha hw hS
  rwa [List.map_cons, am_vl_r ad fm (by omega) (by omega)] at k1
theorem am_W_ldcwS {L : Int} {xs : Int → Int} (C : am_Cs L xs ad fm A s s.heap) {x k : Nat} (hk : k < 96) (h1' : (am_sre k).1 = am_ow y) (h2' : (am_sre k).2.1 = x) (F : am_Fx y d p R s m args meth c) (hd : decode (am_b y) pc = .ok (.ldc_w x, 3))
    (kk : am_At p l e R s m args below meth c Q fm D A h1 h (pc + 3) ls ((2, -10 - 2 * (k : Int)) :: st) ad cA tys) : am_At p l e R s m args below meth c Q fm D A h1 h pc ls st ad cA tys := by
  intro arr H locs ha hw hS
  have hz := (C.2.1 k hk).1
  rw [h1', h2'] at hz
  have k1 := kk arr H locs ha hw hS
  rw [List.map_cons, am_vl_r ad fm (by omega) (by omega)] at k1
  intro T hT X
  obtain ⟨t, a1, b1⟩ := k1 T hT X
  exact ⟨t, Stand.ldcStringW X F.1 F.2.2.2.1 hz.1 hz.2 (g := F0 m pc arr (st.map (am_vl ad fm))) rfl (by rw [F.2.1]; exact hd) t a1, b1⟩
theorem am_W_iload {k : Nat} {x : Int} (hx : ls[k]? = some (0, x)) (F : am_Fx y d p R s m args meth c) (hd : decode (am_b y) pc = .ok (.iload k, 2))
    (kk : am_At p l e R s m args below meth c Q fm D A h1 h (pc + 2) ls ((0, x) :: st) ad cA tys) : am_At p l e R s m args below meth c Q fm D A h1 h pc ls st ad cA tys := by
  intro arr H locs ha hw hS
  exact lv_iload F.1 F.2.1 hd (ha.2.2 k _ hx (by simp)) (kk arr H locs ha hw hS)
theorem am_W_iload_n {k : Fin 4} {x : Int} (hx : ls[k.val]? = some (0, x)) (F : am_Fx y d p R s m args meth c) (hd : decode (am_b y) pc = .ok (.iload_n k, 1))
    (kk : am_At p l e R s m args below meth c Q fm D A h1 h (pc + 1) ls ((0, x) :: st) ad cA tys) : am_At p l e R s m args below meth c Q fm D A h1 h pc ls st ad cA tys := by
  intro arr H locs ha hw hS
  exact lv_iload_n F.1 F.2.1 hd rfl (ha.2.2 k.val _ hx (by simp)) (kk arr H locs ha hw hS)
theorem am_W_lload {k : Nat} {x : Int} (hx : ls[k]? = some (1, x)) (F : am_Fx y d p R s m args meth c) (hd : decode (am_b y) pc = .ok (.lload k, 2))
    (kk : am_At p l e R s m args below meth c Q fm D A h1 h (pc + 2) ls ((1, x) :: st) ad cA tys) : am_At p l e R s m args below meth c Q fm D A h1 h pc ls st ad cA tys := by
  intro arr H locs ha hw hS
  exact lv_lload F.1 F.2.1 hd (ha.2.2 k _ hx (by simp)) (kk arr H locs ha hw hS)
theorem am_W_lload_n {k : Fin 4} {x : Int} (hx : ls[k.val]? = some (1, x)) (F : am_Fx y d p R s m args meth c) (hd : decode (am_b y) pc = .ok (.lload_n k, 1))
    (kk : am_At p l e R s m args below meth c Q fm D A h1 h (pc + 1) ls ((1, x) :: st) ad cA tys) : am_At p l e R s m args below meth c Q fm D A h1 h pc ls st ad cA tys := by
  intro arr H locs ha hw hS
  exact lv_lload_n F.1 F.2.1 hd rfl (ha.2.2 k.val _ hx (by simp)) (kk arr H locs ha hw hS)
theorem am_W_aload (hf : am_nfm fm) {k : Nat} {x : Int} (hx : ls[k]? = some (2, x)) (F : am_Fx y d p R s m args meth c) (hd : decode (am_b y) pc = .ok (.aload k, 2))
    (kk : am_At p l e R s m args below meth c Q fm D A h1 h (pc + 2) ls ((2, x) :: st) ad cA tys) : am_At p l e R s m args below meth c Q fm D A h1 h pc ls st ad cA tys := by
  intro arr H locs ha hw hS
  have k1 := kk arr H locs ha hw hS
  have hv := ha.2.2 k _ hx (by simp)
  rw [List.map_cons, am_vl_2] at k1
  rw [am_vl_2] at hv
  rcases am_rf_or hf ad x with e1 | ⟨a, e1⟩
  · rw [e1] at k1 hv
    exact lv_aloadN F.1 F.2.1 hd hv k1
  · rw [e1] at k1 hv
    exact lv_aload F.1 F.2.1 hd hv k1
theorem am_W_aload_n (hf : am_nfm fm) {k : Fin 4} {x : Int} (hx : ls[k.val]? = some (2, x)) (F : am_Fx y d p R s m args meth c) (hd : decode (am_b y) pc = .ok (.aload_n k, 1))
    (kk : am_At p l e R s m args below meth c Q fm D A h1 h (pc + 1) ls ((2, x) :: st) ad cA tys) : am_At p l e R s m args below meth c Q fm D A h1 h pc ls st ad cA tys := by
  intro arr H locs ha hw hS
  have k1 := kk arr H locs ha hw hS
  have hv := ha.2.2 k.val _ hx (by simp)
  rw [List.map_cons, am_vl_2] at k1
  rw [am_vl_2] at hv
  rcases am_rf_or hf ad x with e1 | ⟨a, e1⟩
  · rw [e1] at k1 hv
    exact lv_aload_nN F.1 F.2.1 hd rfl hv k1
  · rw [e1] at k1 hv
    exact lv_aload_n F.1 F.2.1 hd rfl hv k1
theorem am_W_istore (hf : am_nfm fm) {k : Nat} {x : Int} (hk : k < ls.length) (F : am_Fx y d p R s m args meth c) (hd : decode (am_b y) pc = .ok (.istore k, 2))
    (kk : am_At p l e R s m args below meth c Q fm D A h1 h (pc + 2) (am_st1 ls k (0, x)) st ad cA tys) : am_At p l e R s m args below meth c Q fm D A h1 h pc ls ((0, x) :: st) ad cA tys := by
  intro arr H locs ha hw hS
  exact lv_istore F.1 F.2.1 hd ha.lv hk rfl (fun arr' h' => kk arr' H locs (am_has_st1 hf hk h') hw hS)
theorem am_W_istore_n (hf : am_nfm fm) {k : Fin 4} {x : Int} (hk : k.val < ls.length) (F : am_Fx y d p R s m args meth c) (hd : decode (am_b y) pc = .ok (.istore_n k, 1))
    (kk : am_At p l e R s m args below meth c Q fm D A h1 h (pc + 1) (am_st1 ls k.val (0, x)) st ad cA tys) : am_At p l e R s m args below meth c Q fm D A h1 h pc ls ((0, x) :: st) ad cA tys := by
  intro arr H locs ha hw hS
  exact lv_istore_n F.1 F.2.1 hd rfl ha.lv hk rfl (fun arr' h' => kk arr' H locs (am_has_st1 hf hk h') hw hS)
theorem am_W_lstore (hf : am_nfm fm) {k : Nat} {x : Int} (hk : k + 1 < ls.length) (F : am_Fx y d p R s m args meth c) (hd : decode (am_b y) pc = .ok (.lstore k, 2))
    (kk : am_At p l e R s m args below meth c Q fm D A h1 h (pc + 2) (am_st2 ls k (1, x)) st ad cA tys) : am_At p l e R s m args below meth c Q fm D A h1 h pc ls ((1, x) :: st) ad cA tys := by
  intro arr H locs ha hw hS
  exact lv_lstore F.1 F.2.1 hd ha.lv hk rfl (fun arr' h' => kk arr' H locs (am_has_st2 hf hk h') hw hS)
theorem am_W_lstore_n (hf : am_nfm fm) {k : Fin 4} {x : Int} (hk : k.val + 1 < ls.length) (F : am_Fx y d p R s m args meth c) (hd : decode (am_b y) pc = .ok (.lstore_n k, 1))
    (kk : am_At p l e R s m args below meth c Q fm D A h1 h (pc + 1) (am_st2 ls k.val (1, x)) st ad cA tys) : am_At p l e R s m args below meth c Q fm D A h1 h pc ls ((1, x) :: st) ad cA tys := by
  intro arr H locs ha hw hS
  exact lv_lstore_n F.1 F.2.1 hd rfl ha.lv hk rfl (fun arr' h' => kk arr' H locs (am_has_st2 hf hk h') hw hS)
theorem am_W_astore (hf : am_nfm fm) {k : Nat} {x : Int} (hk : k < ls.length) (F : am_Fx y d p R s m args meth c) (hd : decode (am_b y) pc = .ok (.astore k, 2))
    (kk : am_At p l e R s m args below meth c Q fm D A h1 h (pc + 2) (am_st1 ls k (2, x)) st ad cA tys) : am_At p l e R s m args below meth c Q fm D A h1 h pc ls ((2, x) :: st) ad cA tys := by
  intro arr H locs ha hw hS
  have g : ∀ arr' : Array Slot, lv_has arr' ls.length ((k, am_rf ad fm x) :: (am_lv ad fm 0 ls).filter (fun q => !(q.1 == k) && !(q.1 + 1 == k && q.2.category == 2))) → W p l e R s m args below meth c H locs (am_n h - am_n h1).toNat (am_m h - am_m h1).toNat Q (F0 m (pc + 2) arr' (st.map (am_vl ad fm))) := fun arr' h' => kk arr' H locs (am_has_st1 hf hk h') hw hS
  show W p l e R s m args below meth c H locs _ _ Q (F0 m pc arr (am_rf ad fm x :: st.map (am_vl ad fm)))
  rcases am_rf_or hf ad x with e1 | ⟨a, e1⟩
  · rw [e1] at g ⊢
    exact lv_astoreN F.1 F.2.1 hd ha.lv hk rfl g
  · rw [e1] at g ⊢
    exact lv_astore F.1 F.2.1 hd ha.lv hk rfl g
theorem am_W_astore_n (hf : am_nfm fm) {k : Fin 4} {x : Int} (hk : k.val < ls.length) (F : am_Fx y d p R s m args meth c) (hd : decode (am_b y) pc = .ok (.astore_n k, 1))
    (kk : am_At p l e R s m args below meth c Q fm D A h1 h (pc + 1) (am_st1 ls k.val (2, x)) st ad cA tys) : am_At p l e R s m args below meth c Q fm D A h1 h pc ls ((2, x) :: st) ad cA tys := by
  intro arr H locs ha hw hS
  have g : ∀ arr' : Array Slot, lv_has arr' ls.length ((k.val, am_rf ad fm x) :: (am_lv ad fm 0 ls).filter (fun q => !(q.1 == k.val) && !(q.1 + 1 == k.val && q.2.category == 2))) → W p l e R s m args below meth c H locs (am_n h - am_n h1).toNat (am_m h - am_m h1).toNat Q (F0 m (pc + 1) arr' (st.map (am_vl ad fm))) := fun arr' h' => kk arr' H locs (am_has_st1 hf hk h') hw hS
  show W p l e R s m args below meth c H locs _ _ Q (F0 m pc arr (am_rf ad fm x :: st.map (am_vl ad fm)))
  rcases am_rf_or hf ad x with e1 | ⟨a, e1⟩
  · rw [e1] at g ⊢
    exact lv_astore_nN F.1 F.2.1 hd rfl ha.lv hk rfl g
  · rw [e1] at g ⊢
    exact lv_astore_n F.1 F.2.1 hd rfl ha.lv hk rfl g
theorem am_W_iinc (hf : am_nfm fm) {k : Nat} {n x : Int} (hx : ls[k]? = some (0, x)) (F : am_Fx y d p R s m args meth c) (hd : decode (am_b y) pc = .ok (.iinc k n, 3))
    (kk : am_At p l e R s m args below meth c Q fm D A h1 h (pc + 3) (am_st1 ls k (0, am_w (x + n))) st ad cA tys) : am_At p l e R s m args below meth c Q fm D A h1 h pc ls st ad cA tys := by
  intro arr H locs ha hw hS
  have hk : k < ls.length := (List.getElem?_eq_some_iff.mp hx).1
  have hm : (k, Value.int (Int32.ofInt x)) ∈ am_lv ad fm 0 ls := (am_lv_mem ls 0 _).mpr ⟨k, (0, x), hx, by simp, by simp [am_vl_0]⟩
  obtain ⟨q, hq⟩ := List.getElem?_of_mem hm
  exact lv_iinc F.1 F.2.1 hd ha.lv hq (v := Int32.ofInt (am_w (x + n))) (by rw [am_w_of, Int32.ofInt_add]) hk rfl (fun arr' h' => kk arr' H locs (am_has_st1 hf hk h') hw hS)
theorem am_W_iadd {a b : Int}  (F : am_Fx y d p R s m args meth c) (hd : decode (am_b y) pc = .ok (.iadd, 1))
    (kk : am_At p l e R s m args below meth c Q fm D A h1 h (pc + 1) ls ((0, am_w (a + b)) :: st) ad cA tys) : am_At p l e R s m args below meth c Q fm D A h1 h pc ls ((0, b) :: (0, a) :: st) ad cA tys := by
  intro arr H locs ha hw hS
  have k1 := kk arr H locs ha hw hS
  rw [List.map_cons, am_vl_0, am_w_of, Int32.ofInt_add] at k1
  exact lv_iadd F.1 F.2.1 hd k1
theorem am_W_isub {a b : Int}  (F : am_Fx y d p R s m args meth c) (hd : decode (am_b y) pc = .ok (.isub, 1))
    (kk : am_At p l e R s m args below meth c Q fm D A h1 h (pc + 1) ls ((0, am_w (a - b)) :: st) ad cA tys) : am_At p l e R s m args below meth c Q fm D A h1 h pc ls ((0, b) :: (0, a) :: st) ad cA tys := by
  intro arr H locs ha hw hS
  have k1 := kk arr H locs ha hw hS
  rw [List.map_cons, am_vl_0, am_w_of, Int32.ofInt_sub] at k1
  exact lv_isub F.1 F.2.1 hd k1
theorem am_W_imul {a b : Int}  (F : am_Fx y d p R s m args meth c) (hd : decode (am_b y) pc = .ok (.imul, 1))
    (kk : am_At p l e R s m args below meth c Q fm D A h1 h (pc + 1) ls ((0, am_w (a * b)) :: st) ad cA tys) : am_At p l e R s m args below meth c Q fm D A h1 h pc ls ((0, b) :: (0, a) :: st) ad cA tys := by
  intro arr H locs ha hw hS
  have k1 := kk arr H locs ha hw hS
  rw [List.map_cons, am_vl_0, am_w_of, Int32.ofInt_mul] at k1
  exact lv_imul F.1 F.2.1 hd k1
theorem am_W_idiv {a b : Int} (hb : ¬ Int32.ofInt b = 0)  (F : am_Fx y d p R s m args meth c) (hd : decode (am_b y) pc = .ok (.idiv, 1))
    (kk : am_At p l e R s m args below meth c Q fm D A h1 h (pc + 1) ls ((0, (Int32.ofInt a / Int32.ofInt b).toInt) :: st) ad cA tys) : am_At p l e R s m args below meth c Q fm D A h1 h pc ls ((0, b) :: (0, a) :: st) ad cA tys := by
  intro arr H locs ha hw hS
  have k1 := kk arr H locs ha hw hS
  rw [List.map_cons, am_vl_0, Int32.ofInt_toInt] at k1
  exact lv_idiv F.1 F.2.1 hd hb k1
theorem am_W_iand {a b : Int}  (F : am_Fx y d p R s m args meth c) (hd : decode (am_b y) pc = .ok (.iand, 1))
    (kk : am_At p l e R s m args below meth c Q fm D A h1 h (pc + 1) ls ((0, am_and a b) :: st) ad cA tys) : am_At p l e R s m args below meth c Q fm D A h1 h pc ls ((0, b) :: (0, a) :: st) ad cA tys := by
  intro arr H locs ha hw hS
  have k1 := kk arr H locs ha hw hS
  rw [List.map_cons, am_vl_0, am_and, Int32.ofInt_toInt] at k1
  exact lv_iand F.1 F.2.1 hd k1
theorem am_W_ior {a b : Int}  (F : am_Fx y d p R s m args meth c) (hd : decode (am_b y) pc = .ok (.ior, 1))
    (kk : am_At p l e R s m args below meth c Q fm D A h1 h (pc + 1) ls ((0, am_or a b) :: st) ad cA tys) : am_At p l e R s m args below meth c Q fm D A h1 h pc ls ((0, b) :: (0, a) :: st) ad cA tys := by
  intro arr H locs ha hw hS
  have k1 := kk arr H locs ha hw hS
  rw [List.map_cons, am_vl_0, am_or, Int32.ofInt_toInt] at k1
  exact lv_ior F.1 F.2.1 hd k1
theorem am_W_ishl {a b : Int}  (F : am_Fx y d p R s m args meth c) (hd : decode (am_b y) pc = .ok (.ishl, 1))
    (kk : am_At p l e R s m args below meth c Q fm D A h1 h (pc + 1) ls ((0, am_shl a b) :: st) ad cA tys) : am_At p l e R s m args below meth c Q fm D A h1 h pc ls ((0, b) :: (0, a) :: st) ad cA tys := by
  intro arr H locs ha hw hS
  have k1 := kk arr H locs ha hw hS
  rw [List.map_cons, am_vl_0, am_shl, Int32.ofInt_toInt] at k1
  exact lv_ishl F.1 F.2.1 hd k1
theorem am_W_ishr {a b : Int}  (F : am_Fx y d p R s m args meth c) (hd : decode (am_b y) pc = .ok (.ishr, 1))
    (kk : am_At p l e R s m args below meth c Q fm D A h1 h (pc + 1) ls ((0, am_shr a b) :: st) ad cA tys) : am_At p l e R s m args below meth c Q fm D A h1 h pc ls ((0, b) :: (0, a) :: st) ad cA tys := by
  intro arr H locs ha hw hS
  have k1 := kk arr H locs ha hw hS
  rw [List.map_cons, am_vl_0, am_shr, Int32.ofInt_toInt] at k1
  exact lv_ishr F.1 F.2.1 hd k1
theorem am_W_ladd {a b : Int}  (F : am_Fx y d p R s m args meth c) (hd : decode (am_b y) pc = .ok (.ladd, 1))
    (kk : am_At p l e R s m args below meth c Q fm D A h1 h (pc + 1) ls ((1, am_x (a + b)) :: st) ad cA tys) : am_At p l e R s m args below meth c Q fm D A h1 h pc ls ((1, b) :: (1, a) :: st) ad cA tys := by
  intro arr H locs ha hw hS
  have k1 := kk arr H locs ha hw hS
  rw [List.map_cons, am_vl_1, am_x_of, Int64.ofInt_add] at k1
  exact lv_ladd F.1 F.2.1 hd k1
theorem am_W_lsub {a b : Int}  (F : am_Fx y d p R s m args meth c) (hd : decode (am_b y) pc = .ok (.lsub, 1))
    (kk : am_At p l e R s m args below meth c Q fm D A h1 h (pc + 1) ls ((1, am_x (a - b)) :: st) ad cA tys) : am_At p l e R s m args below meth c Q fm D A h1 h pc ls ((1, b) :: (1, a) :: st) ad cA tys := by
  intro arr H locs ha hw hS
  have k1 := kk arr H locs ha hw hS
  rw [List.map_cons, am_vl_1, am_x_of, Int64.ofInt_sub] at k1
  exact lv_lsub F.1 F.2.1 hd k1
theorem am_W_lmul {a b : Int}  (F : am_Fx y d p R s m args meth c) (hd : decode (am_b y) pc = .ok (.lmul, 1))
    (kk : am_At p l e R s m args below meth c Q fm D A h1 h (pc + 1) ls ((1, am_x (a * b)) :: st) ad cA tys) : am_At p l e R s m args below meth c Q fm D A h1 h pc ls ((1, b) :: (1, a) :: st) ad cA tys := by
  intro arr H locs ha hw hS
  have k1 := kk arr H locs ha hw hS
  rw [List.map_cons, am_vl_1, am_x_of, Int64.ofInt_mul] at k1
  exact lv_lmul F.1 F.2.1 hd k1
theorem am_W_ldiv {a b : Int} (hb : ¬ Int64.ofInt b = 0)  (F : am_Fx y d p R s m args meth c) (hd : decode (am_b y) pc = .ok (.ldiv, 1))
    (kk : am_At p l e R s m args below meth c Q fm D A h1 h (pc + 1) ls ((1, (Int64.ofInt a / Int64.ofInt b).toInt) :: st) ad cA tys) : am_At p l e R s m args below meth c Q fm D A h1 h pc ls ((1, b) :: (1, a) :: st) ad cA tys := by
  intro arr H locs ha hw hS
  have k1 := kk arr H locs ha hw hS
  rw [List.map_cons, am_vl_1, Int64.ofInt_toInt] at k1
  exact lv_ldiv F.1 F.2.1 hd hb k1
theorem am_W_lrem {a b : Int} (hb : ¬ Int64.ofInt b = 0)  (F : am_Fx y d p R s m args meth c) (hd : decode (am_b y) pc = .ok (.lrem, 1))
    (kk : am_At p l e R s m args below meth c Q fm D A h1 h (pc + 1) ls ((1, (Int64.ofInt a - Int64.ofInt a / Int64.ofInt b * Int64.ofInt b).toInt) :: st) ad cA tys) : am_At p l e R s m args below meth c Q fm D A h1 h pc ls ((1, b) :: (1, a) :: st) ad cA tys := by
  intro arr H locs ha hw hS
  have k1 := kk arr H locs ha hw hS
  rw [List.map_cons, am_vl_1, Int64.ofInt_toInt] at k1
  exact lv_lrem F.1 F.2.1 hd hb k1
theorem am_W_land {a b : Int}  (F : am_Fx y d p R s m args meth c) (hd : decode (am_b y) pc = .ok (.land, 1))
    (kk : am_At p l e R s m args below meth c Q fm D A h1 h (pc + 1) ls ((1, am_land a b) :: st) ad cA tys) : am_At p l e R s m args below meth c Q fm D A h1 h pc ls ((1, b) :: (1, a) :: st) ad cA tys := by
  intro arr H locs ha hw hS
  have k1 := kk arr H locs ha hw hS
  rw [List.map_cons, am_vl_1, am_land, Int64.ofInt_toInt] at k1
  exact lv_land F.1 F.2.1 hd k1
theorem am_W_lor {a b : Int}  (F : am_Fx y d p R s m args meth c) (hd : decode (am_b y) pc = .ok (.lor, 1))
    (kk : am_At p l e R s m args below meth c Q fm D A h1 h (pc + 1) ls ((1, am_lor a b) :: st) ad cA tys) : am_At p l e R s m args below meth c Q fm D A h1 h pc ls ((1, b) :: (1, a) :: st) ad cA tys := by
  intro arr H locs ha hw hS
  have k1 := kk arr H locs ha hw hS
  rw [List.map_cons, am_vl_1, am_lor, Int64.ofInt_toInt] at k1
  exact lv_lor F.1 F.2.1 hd k1
theorem am_W_lxor {a b : Int}  (F : am_Fx y d p R s m args meth c) (hd : decode (am_b y) pc = .ok (.lxor, 1))
    (kk : am_At p l e R s m args below meth c Q fm D A h1 h (pc + 1) ls ((1, am_lxor a b) :: st) ad cA tys) : am_At p l e R s m args below meth c Q fm D A h1 h pc ls ((1, b) :: (1, a) :: st) ad cA tys := by
  intro arr H locs ha hw hS
  have k1 := kk arr H locs ha hw hS
  rw [List.map_cons, am_vl_1, am_lxor, Int64.ofInt_toInt] at k1
  exact lv_lxor F.1 F.2.1 hd k1
theorem am_W_ineg {a : Int}  (F : am_Fx y d p R s m args meth c) (hd : decode (am_b y) pc = .ok (.ineg, 1))
    (kk : am_At p l e R s m args below meth c Q fm D A h1 h (pc + 1) ls ((0, am_w (-a)) :: st) ad cA tys) : am_At p l e R s m args below meth c Q fm D A h1 h pc ls ((0, a) :: st) ad cA tys := by
  intro arr H locs ha hw hS
  have k1 := kk arr H locs ha hw hS
  rw [List.map_cons, am_vl_0, am_w_of, Int32.ofInt_neg] at k1
  exact lv_ineg F.1 F.2.1 hd k1
theorem am_W_lneg {a : Int}  (F : am_Fx y d p R s m args meth c) (hd : decode (am_b y) pc = .ok (.lneg, 1))
    (kk : am_At p l e R s m args below meth c Q fm D A h1 h (pc + 1) ls ((1, am_x (-a)) :: st) ad cA tys) : am_At p l e R s m args below meth c Q fm D A h1 h pc ls ((1, a) :: st) ad cA tys := by
  intro arr H locs ha hw hS
  have k1 := kk arr H locs ha hw hS
  rw [List.map_cons, am_vl_1, am_x_of, Int64.ofInt_neg] at k1
  exact lv_lneg F.1 F.2.1 hd k1
theorem am_W_i2l {a : Int} (hr : am_r32 a) (F : am_Fx y d p R s m args meth c) (hd : decode (am_b y) pc = .ok (.i2l, 1))
    (kk : am_At p l e R s m args below meth c Q fm D A h1 h (pc + 1) ls ((1, a) :: st) ad cA tys) : am_At p l e R s m args below meth c Q fm D A h1 h pc ls ((0, a) :: st) ad cA tys := by
  intro arr H locs ha hw hS
  have k1 := kk arr H locs ha hw hS
  rw [List.map_cons, am_vl_1] at k1
  exact lv_i2l F.1 F.2.1 hd (Int32.toInt64_ofInt hr.1 hr.2) k1
theorem am_W_l2i {a : Int}  (F : am_Fx y d p R s m args meth c) (hd : decode (am_b y) pc = .ok (.l2i, 1))
    (kk : am_At p l e R s m args below meth c Q fm D A h1 h (pc + 1) ls ((0, am_w a) :: st) ad cA tys) : am_At p l e R s m args below meth c Q fm D A h1 h pc ls ((1, a) :: st) ad cA tys := by
  intro arr H locs ha hw hS
  have k1 := kk arr H locs ha hw hS
  rw [List.map_cons, am_vl_0, am_w_of] at k1
  exact lv_l2i F.1 F.2.1 hd (by rw [Int64.toInt32_ofInt]) k1
theorem am_W_i2b {a : Int}  (F : am_Fx y d p R s m args meth c) (hd : decode (am_b y) pc = .ok (.i2b, 1))
    (kk : am_At p l e R s m args below meth c Q fm D A h1 h (pc + 1) ls ((0, am_i2b a) :: st) ad cA tys) : am_At p l e R s m args below meth c Q fm D A h1 h pc ls ((0, a) :: st) ad cA tys := by
  intro arr H locs ha hw hS
  have k1 := kk arr H locs ha hw hS
  rw [List.map_cons, am_vl_0, am_i2b, Int32.ofInt_toInt] at k1
  exact lv_i2b F.1 F.2.1 hd rfl k1
theorem am_W_i2c {a : Int}  (F : am_Fx y d p R s m args meth c) (hd : decode (am_b y) pc = .ok (.i2c, 1))
    (kk : am_At p l e R s m args below meth c Q fm D A h1 h (pc + 1) ls ((0, am_i2c a) :: st) ad cA tys) : am_At p l e R s m args below meth c Q fm D A h1 h pc ls ((0, a) :: st) ad cA tys := by
  intro arr H locs ha hw hS
  have k1 := kk arr H locs ha hw hS
  rw [List.map_cons, am_vl_0, am_i2c, Int32.ofInt_toInt] at k1
  exact lv_i2c F.1 F.2.1 hd rfl k1
theorem am_W_lshl {a b : Int} (F : am_Fx y d p R s m args meth c) (hd : decode (am_b y) pc = .ok (.lshl, 1))
    (kk : am_At p l e R s m args below meth c Q fm D A h1 h (pc + 1) ls ((1, am_lshl a b) :: st) ad cA tys) : am_At p l e R s m args below meth c Q fm D A h1 h pc ls ((0, b) :: (1, a) :: st) ad cA tys := by
  intro arr H locs ha hw hS
  have k1 := kk arr H locs ha hw hS
  rw [List.map_cons, am_vl_1, am_lshl, Int64.ofInt_toInt] at k1
  exact lv_lshl F.1 F.2.1 hd rfl k1
theorem am_W_lcmp {a b : Int} (h1' : am_r64 a) (h2' : am_r64 b) (F : am_Fx y d p R s m args meth c) (hd : decode (am_b y) pc = .ok (.lcmp, 1))
    (kk : am_At p l e R s m args below meth c Q fm D A h1 h (pc + 1) ls ((0, am_lcmp a b) :: st) ad cA tys) : am_At p l e R s m args below meth c Q fm D A h1 h pc ls ((1, b) :: (1, a) :: st) ad cA tys := by
  intro arr H locs ha hw hS
  have k1 := kk arr H locs ha hw hS
  rw [List.map_cons, am_vl_0] at k1
  refine W.lcmp F.1 F.2.1 hd ?_
  have e1 : lg_cmp (Int64.ofInt a) (Int64.ofInt b) = Int32.ofInt (am_lcmp a b) := by
    unfold lg_cmp am_lcmp
    simp only [am_lt64 h1' h2', am_lt64 h2' h1', am_inj64 h1' h2']
    repeat' split
    all_goals first | rfl | omega
  rw [e1]
  exact k1
theorem am_W_dup (hf : am_nfm fm) {v : am_V} (hv : v.1 = 0 ∨ v.1 = 2) (F : am_Fx y d p R s m args meth c) (hd : decode (am_b y) pc = .ok (.dup, 1))
    (kk : am_At p l e R s m args below meth c Q fm D A h1 h (pc + 1) ls (v :: v :: st) ad cA tys) : am_At p l e R s m args below meth c Q fm D A h1 h pc ls (v :: st) ad cA tys := by
  intro arr H locs ha hw hS
  exact lv_dup F.1 F.2.1 hd (by rw [am_cat_vl hf]; unfold am_cat; rw [if_neg (by omega)]) (kk arr H locs ha hw hS)
theorem am_W_dup2 (hf : am_nfm fm) {v w : am_V} (hv : v.1 = 0 ∨ v.1 = 2) (hw' : w.1 = 0 ∨ w.1 = 2) (F : am_Fx y d p R s m args meth c) (hd : decode (am_b y) pc = .ok (.dup2, 1))
    (kk : am_At p l e R s m args below meth c Q fm D A h1 h (pc + 1) ls (v :: w :: v :: w :: st) ad cA tys) : am_At p l e R s m args below meth c Q fm D A h1 h pc ls (v :: w :: st) ad cA tys := by
  intro arr H locs ha hw hS
  exact lv_dup2_11 F.1 F.2.1 hd (by rw [am_cat_vl hf]; unfold am_cat; rw [if_neg (by omega)]) (by rw [am_cat_vl hf]; unfold am_cat; rw [if_neg (by omega)]) (kk arr H locs ha hw hS)
theorem am_W_pop (hf : am_nfm fm) {v : am_V} (hv : v.1 = 0 ∨ v.1 = 2) (F : am_Fx y d p R s m args meth c) (hd : decode (am_b y) pc = .ok (.pop, 1))
    (kk : am_At p l e R s m args below meth c Q fm D A h1 h (pc + 1) ls st ad cA tys) : am_At p l e R s m args below meth c Q fm D A h1 h pc ls (v :: st) ad cA tys := by
  intro arr H locs ha hw hS
  exact lv_pop F.1 F.2.1 hd (by rw [am_cat_vl hf]; unfold am_cat; rw [if_neg (by omega)]) (kk arr H locs ha hw hS)
theorem am_W_pop2 (hf : am_nfm fm) {v : am_V} (hv : v.1 = 1) (F : am_Fx y d p R s m args meth c) (hd : decode (am_b y) pc = .ok (.pop2, 1))
    (kk : am_At p l e R s m args below meth c Q fm D A h1 h (pc + 1) ls st ad cA tys) : am_At p l e R s m args below meth c Q fm D A h1 h pc ls (v :: st) ad cA tys := by
  intro arr H locs ha hw hS
  exact lv_pop2_2 F.1 F.2.1 hd (by rw [am_cat_vl hf]; unfold am_cat; rw [if_pos hv]) (kk arr H locs ha hw hS)
theorem am_W_gets0 {L : Int} {xs : Int → Int} (C : am_Cs L xs ad fm A s s.heap) {x : Nat} (hx : (am_ow y, x, 101, 0) ∈ am_fCl) (F : am_Fx y d p R s m args meth c) (hd : decode (am_b y) pc = .ok (.getstatic x, 3))
    (kk : am_At p l e R s m args below meth c Q fm D A h1 h (pc + 3) ls ((0, 1) :: st) ad cA tys) : am_At p l e R s m args below meth c Q fm D A h1 h pc ls st ad cA tys := by
  intro arr H locs ha hw hS
  exact va_gets F.1 F.2.1 (C.2.2.2.1) hS F.2.2.2.1 (F.2.2.2.2.1 _ (am_fC _ hx)) (fun _ h => h) hd (kk arr H locs ha hw hS)
theorem am_W_gets1 {L : Int} {xs : Int → Int} (C : am_Cs L xs ad fm A s s.heap) {x : Nat} (hx : (am_ow y, x, 101, 1) ∈ am_fCl) (F : am_Fx y d p R s m args meth c) (hd : decode (am_b y) pc = .ok (.getstatic x, 3))
    (kk : am_At p l e R s m args below meth c Q fm D A h1 h (pc + 3) ls ((2, -3) :: st) ad cA tys) : am_At p l e R s m args below meth c Q fm D A h1 h pc ls st ad cA tys := by
  intro arr H locs ha hw hS
  exact va_gets F.1 F.2.1 (C.2.2.2.2.1) hS F.2.2.2.1 (F.2.2.2.2.1 _ (am_fC _ hx)) (fun _ h => h) hd (kk arr H locs ha hw hS)
end
