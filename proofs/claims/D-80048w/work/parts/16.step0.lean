set_option maxRecDepth 100000
theorem am_dec_sp {y pc : Nat} {i : Instr} (h : am_dec y pc i = true) : decode (am_b y) pc = .ok (i, am_len i) := by
  unfold am_dec at h
  split at h
  · rename_i i' n hq
    simp only [Bool.and_eq_true, decide_eq_true_eq] at h
    rw [hq, h.1, h.2]
  · cases h
theorem am_Cs.ex {L : Int} {xs : Int → Int} {ad ad' : Int → Nat} {fm : Value} {A : Nat → Prop} {U : State} {H : Heap} {n : Int} (C : am_Cs L xs ad fm A U H) (hx : am_ex n ad ad') (h0 : 0 ≤ n) : am_Cs L xs ad' fm A U H := by
  have e : ∀ a, a < 0 → ad' a = ad a := fun a ha => hx a (by omega)
  refine ⟨C.1, fun k hk => ?_, ?_, C.2.2.2⟩
  · rw [e _ (by omega), e _ (by omega)]
    exact C.2.1 k hk
  · rw [e _ (by omega)]
    exact C.2.2.1
section
variable {p : Program} {l : Launch} {e : Env} {R : Room} {s : State} {m : MethodId} {args : Array Value} {below : List Frame} {meth : Method} {c : Code} {Q : State → Prop} {fm : Value} {D : va_G} {A : Nat → Prop} {h1 h h' : am_H}
variable {y d pc nx : Nat} {i : Instr} {r : List Int} {ls st ls' st' : List am_V} {ad : Int → Nat} {cA : Int → ClassId} {tys : List (ClassId × FieldType)} {L : Int} {xs : Int → Int}
theorem am_step0 (hL : 0 ≤ L) (hL2 : L ≤ 1000000) (C : am_Cs L xs ad fm A s s.heap) (F : am_Fx y d p R s m args meth c) (hA : ∀ q, s.heap.size ≤ q → A q) (hok : am_okI y i r pc (some nx) = true) (hh : am_hok L xs h) (hl : am_lok (am_n h) ls) (hs : am_lok (am_n h) st) (E : am_st i r ls st h = some (ls', st', h'))
    (hm1 : am_n h1 ≤ am_n h) (hm2 : am_m h1 ≤ am_m h) (hrc : (am_n h' - am_n h1).toNat ≤ R.cells) (hrs : (am_m h' - am_m h1).toNat ≤ R.slots)
    (kk : ∀ (ad' : Int → Nat) (cA' : Int → ClassId) (tys' : List (ClassId × FieldType)), am_ex (am_n h) ad ad' → am_At p l e R s m args below meth c Q fm D A h1 h' nx ls' st' ad' cA' tys') : am_At p l e R s m args below meth c Q fm D A h1 h pc ls st ad cA tys := by
  have k0 := kk ad cA tys am_ex.rf
  cases i
  case iconst n =>
    simp only [am_okI, Bool.and_eq_true, decide_eq_true_eq] at hok
    cases E
    cases hok.1.2
    exact am_W_iconst F (am_dec_sp hok.1.1) k0
  case bipush n =>
    simp only [am_okI, Bool.and_eq_true, decide_eq_true_eq] at hok
    cases E
    cases hok.1.1.2
    exact am_W_bipush hok.2 F (am_dec_sp hok.1.1.1) k0
  case sipush n =>
    simp only [am_okI, Bool.and_eq_true, decide_eq_true_eq] at hok
    cases E
    cases hok.1.1.2
    exact am_W_sipush hok.2 F (am_dec_sp hok.1.1.1) k0
  case lconst n =>
    simp only [am_okI] at hok
    simp only [Bool.and_eq_true, decide_eq_true_eq] at hok
    cases E
    cases hok.2
    exact am_W_lconst F (am_dec_sp hok.1) k0
  case aconst_null =>
    simp only [am_okI] at hok
    simp only [Bool.and_eq_true, decide_eq_true_eq] at hok
    cases E
    cases hok.2
    exact am_W_null F (am_dec_sp hok.1) k0
  case ldc x =>
    simp only [am_st] at E
    simp only [am_okI] at hok
    split at E
    · simp only [Bool.and_eq_true, decide_eq_true_eq] at hok
      cases E
      cases hok.1.2
      exact am_W_ldc hok.2.1 F (am_dec_sp hok.1.1) k0
    · rename_i q
      simp only [Bool.and_eq_true, decide_eq_true_eq] at hok
      cases E
      cases hok.1.2
      have e1 : (q.toNat : Int) = q := Int.toNat_of_nonneg hok.2.1.1.1
      rw [← e1] at k0
      exact am_W_ldcS C (k := q.toNat) (by omega) hok.2.1.2 hok.2.2 F (am_dec_sp hok.1.1) k0
    · cases E
  case ldc_w x =>
    simp only [am_st] at E
    simp only [am_okI] at hok
    split at E
    · simp only [Bool.and_eq_true, decide_eq_true_eq] at hok
      cases E
      cases hok.1.2
      exact am_W_ldcw hok.2.1 F (am_dec_sp hok.1.1) k0
    · rename_i q
      simp only [Bool.and_eq_true, decide_eq_true_eq] at hok
      cases E
      cases hok.1.2
      have e1 : (q.toNat : Int) = q := Int.toNat_of_nonneg hok.2.1.1.1
      rw [← e1] at k0
      exact am_W_ldcwS C (k := q.toNat) (by omega) hok.2.1.2 hok.2.2 F (am_dec_sp hok.1.1) k0
    · cases E
  case ldc2_w x =>
    simp only [am_st] at E
    simp only [am_okI] at hok
    split at E
    · simp only [Bool.and_eq_true, decide_eq_true_eq] at hok
      cases E
      cases hok.1.2
      exact am_W_ldc2 hok.2.1 F (am_dec_sp hok.1.1) k0
    · cases E
  case iload_n k =>
    simp only [am_okI] at hok
    simp only [Bool.and_eq_true, decide_eq_true_eq] at hok
    cases hok.2
    obtain ⟨q, g1, g2⟩ := Option.map_eq_some_iff.mp E
    obtain ⟨x, g3, rfl⟩ := am_ld_sp g1
    cases g2
    exact am_W_iload_n g3 F (am_dec_sp hok.1) k0
  case iload k =>
    simp only [am_okI] at hok
    simp only [Bool.and_eq_true, decide_eq_true_eq] at hok
    cases hok.2
    obtain ⟨q, g1, g2⟩ := Option.map_eq_some_iff.mp E
    obtain ⟨x, g3, rfl⟩ := am_ld_sp g1
    cases g2
    exact am_W_iload g3 F (am_dec_sp hok.1) k0
  case lload_n k =>
    simp only [am_okI] at hok
    simp only [Bool.and_eq_true, decide_eq_true_eq] at hok
    cases hok.2
    obtain ⟨q, g1, g2⟩ := Option.map_eq_some_iff.mp E
    obtain ⟨x, g3, rfl⟩ := am_ld_sp g1
    cases g2
    exact am_W_lload_n g3 F (am_dec_sp hok.1) k0
  case lload k =>
    simp only [am_okI] at hok
    simp only [Bool.and_eq_true, decide_eq_true_eq] at hok
    cases hok.2
    obtain ⟨q, g1, g2⟩ := Option.map_eq_some_iff.mp E
    obtain ⟨x, g3, rfl⟩ := am_ld_sp g1
    cases g2
    exact am_W_lload g3 F (am_dec_sp hok.1) k0
  case aload_n k =>
    simp only [am_okI] at hok
    simp only [Bool.and_eq_true, decide_eq_true_eq] at hok
    cases hok.2
    obtain ⟨q, g1, g2⟩ := Option.map_eq_some_iff.mp E
    obtain ⟨x, g3, rfl⟩ := am_ld_sp g1
    cases g2
    exact am_W_aload_n C.1 g3 F (am_dec_sp hok.1) k0
  case aload k =>
    simp only [am_okI] at hok
    simp only [Bool.and_eq_true, decide_eq_true_eq] at hok
    cases hok.2
    obtain ⟨q, g1, g2⟩ := Option.map_eq_some_iff.mp E
    obtain ⟨x, g3, rfl⟩ := am_ld_sp g1
    cases g2
    exact am_W_aload C.1 g3 F (am_dec_sp hok.1) k0
  case istore_n k =>
    simp only [am_okI] at hok
    simp only [Bool.and_eq_true, decide_eq_true_eq] at hok
    cases hok.2
    obtain ⟨q, g1, g2⟩ := Option.map_eq_some_iff.mp E
    obtain ⟨x, r', rfl, g3, g4⟩ := am_sto_sp g1
    cases g2
    rcases g4 with ⟨g5, _, _⟩ | ⟨_, g5, g4⟩
    · cases g5
    · rw [g4, g3] at k0
      exact am_W_istore_n C.1 g5 F (am_dec_sp hok.1) k0
  case istore k =>
    simp only [am_okI] at hok
    simp only [Bool.and_eq_true, decide_eq_true_eq] at hok
    cases hok.2
    obtain ⟨q, g1, g2⟩ := Option.map_eq_some_iff.mp E
    obtain ⟨x, r', rfl, g3, g4⟩ := am_sto_sp g1
    cases g2
    rcases g4 with ⟨g5, _, _⟩ | ⟨_, g5, g4⟩
    · cases g5
    · rw [g4, g3] at k0
      exact am_W_istore C.1 g5 F (am_dec_sp hok.1) k0
  case lstore_n k =>
    simp only [am_okI] at hok
    simp only [Bool.and_eq_true, decide_eq_true_eq] at hok
    cases hok.2
    obtain ⟨q, g1, g2⟩ := Option.map_eq_some_iff.mp E
    obtain ⟨x, r', rfl, g3, g4⟩ := am_sto_sp g1
    cases g2
    rcases g4 with ⟨_, g5, g4⟩ | ⟨g5, _, _⟩
    · rw [g4, g3] at k0
      exact am_W_lstore_n C.1 g5 F (am_dec_sp hok.1) k0
    · exact absurd rfl g5
  case lstore k =>
    simp only [am_okI] at hok
    simp only [Bool.and_eq_true, decide_eq_true_eq] at hok
    cases hok.2
    obtain ⟨q, g1, g2⟩ := Option.map_eq_some_iff.mp E
    obtain ⟨x, r', rfl, g3, g4⟩ := am_sto_sp g1
    cases g2
    rcases g4 with ⟨_, g5, g4⟩ | ⟨g5, _, _⟩
    · rw [g4, g3] at k0
      exact am_W_lstore C.1 g5 F (am_dec_sp hok.1) k0
    · exact absurd rfl g5
  case astore_n k =>
    simp only [am_okI] at hok
    simp only [Bool.and_eq_true, decide_eq_true_eq] at hok
    cases hok.2
    obtain ⟨q, g1, g2⟩ := Option.map_eq_some_iff.mp E
    obtain ⟨x, r', rfl, g3, g4⟩ := am_sto_sp g1
    cases g2
    rcases g4 with ⟨g5, _, _⟩ | ⟨_, g5, g4⟩
    · cases g5
    · rw [g4, g3] at k0
      exact am_W_astore_n C.1 g5 F (am_dec_sp hok.1) k0
  case astore k =>
    simp only [am_okI] at hok
    simp only [Bool.and_eq_true, decide_eq_true_eq] at hok
    cases hok.2
    obtain ⟨q, g1, g2⟩ := Option.map_eq_some_iff.mp E
    obtain ⟨x, r', rfl, g3, g4⟩ := am_sto_sp g1
    cases g2
    rcases g4 with ⟨g5, _, _⟩ | ⟨_, g5, g4⟩
    · cases g5
    · rw [g4, g3] at k0
      exact am_W_astore C.1 g5 F (am_dec_sp hok.1) k0
  case iinc k n =>
    simp only [am_st] at E
    simp only [am_okI, Bool.and_eq_true, decide_eq_true_eq] at hok
    split at E
    · rename_i x hx
      cases E
      cases hok.1.2
      exact am_W_iinc C.1 hx F (am_dec_sp hok.1.1) k0
    · cases E
  case iadd =>
    simp only [am_okI] at hok
    simp only [Bool.and_eq_true, decide_eq_true_eq] at hok
    cases hok.2
    obtain ⟨q, g1, g2⟩ := Option.map_eq_some_iff.mp E
    obtain ⟨a, b, q', x, rfl, g3, rfl⟩ := am_b32_sp g1
    cases g2
    cases g3
    exact am_W_iadd F (am_dec_sp hok.1) k0
  case isub =>
    simp only [am_okI] at hok
    simp only [Bool.and_eq_true, decide_eq_true_eq] at hok
    cases hok.2
    obtain ⟨q, g1, g2⟩ := Option.map_eq_some_iff.mp E
    obtain ⟨a, b, q', x, rfl, g3, rfl⟩ := am_b32_sp g1
    cases g2
    cases g3
    exact am_W_isub F (am_dec_sp hok.1) k0
  case imul =>
    simp only [am_okI] at hok
    simp only [Bool.and_eq_true, decide_eq_true_eq] at hok
    cases hok.2
    obtain ⟨q, g1, g2⟩ := Option.map_eq_some_iff.mp E
    obtain ⟨a, b, q', x, rfl, g3, rfl⟩ := am_b32_sp g1
    cases g2
    cases g3
    exact am_W_imul F (am_dec_sp hok.1) k0
  case iand =>
    simp only [am_okI] at hok
    simp only [Bool.and_eq_true, decide_eq_true_eq] at hok
    cases hok.2
    obtain ⟨q, g1, g2⟩ := Option.map_eq_some_iff.mp E
    obtain ⟨a, b, q', x, rfl, g3, rfl⟩ := am_b32_sp g1
    cases g2
    cases g3
    exact am_W_iand F (am_dec_sp hok.1) k0
  case ior =>
    simp only [am_okI] at hok
    simp only [Bool.and_eq_true, decide_eq_true_eq] at hok
    cases hok.2
    obtain ⟨q, g1, g2⟩ := Option.map_eq_some_iff.mp E
    obtain ⟨a, b, q', x, rfl, g3, rfl⟩ := am_b32_sp g1
    cases g2
    cases g3
    exact am_W_ior F (am_dec_sp hok.1) k0
  case ishl =>
    simp only [am_okI] at hok
    simp only [Bool.and_eq_true, decide_eq_true_eq] at hok
    cases hok.2
    obtain ⟨q, g1, g2⟩ := Option.map_eq_some_iff.mp E
    obtain ⟨a, b, q', x, rfl, g3, rfl⟩ := am_b32_sp g1
    cases g2
    cases g3
    exact am_W_ishl F (am_dec_sp hok.1) k0
  case ishr =>
    simp only [am_okI] at hok
    simp only [Bool.and_eq_true, decide_eq_true_eq] at hok
    cases hok.2
    obtain ⟨q, g1, g2⟩ := Option.map_eq_some_iff.mp E
    obtain ⟨a, b, q', x, rfl, g3, rfl⟩ := am_b32_sp g1
    cases g2
    cases g3
    exact am_W_ishr F (am_dec_sp hok.1) k0
  case ladd =>
    simp only [am_okI] at hok
    simp only [Bool.and_eq_true, decide_eq_true_eq] at hok
    cases hok.2
    obtain ⟨q, g1, g2⟩ := Option.map_eq_some_iff.mp E
    obtain ⟨a, b, q', x, rfl, g3, rfl⟩ := am_b64_sp g1
    cases g2
    cases g3
    exact am_W_ladd F (am_dec_sp hok.1) k0
  case lsub =>
    simp only [am_okI] at hok
    simp only [Bool.and_eq_true, decide_eq_true_eq] at hok
    cases hok.2
    obtain ⟨q, g1, g2⟩ := Option.map_eq_some_iff.mp E
    obtain ⟨a, b, q', x, rfl, g3, rfl⟩ := am_b64_sp g1
    cases g2
    cases g3
    exact am_W_lsub F (am_dec_sp hok.1) k0
  case lmul =>
    simp only [am_okI] at hok
    simp only [Bool.and_eq_true, decide_eq_true_eq] at hok
    cases hok.2
    obtain ⟨q, g1, g2⟩ := Option.map_eq_some_iff.mp E
    obtain ⟨a, b, q', x, rfl, g3, rfl⟩ := am_b64_sp g1
    cases g2
    cases g3
    exact am_W_lmul F (am_dec_sp hok.1) k0
  case land =>
    simp only [am_okI] at hok
    simp only [Bool.and_eq_true, decide_eq_true_eq] at hok
    cases hok.2
    obtain ⟨q, g1, g2⟩ := Option.map_eq_some_iff.mp E
    obtain ⟨a, b, q', x, rfl, g3, rfl⟩ := am_b64_sp g1
    cases g2
    cases g3
    exact am_W_land F (am_dec_sp hok.1) k0
  case lor =>
    simp only [am_okI] at hok
    simp only [Bool.and_eq_true, decide_eq_true_eq] at hok
    cases hok.2
    obtain ⟨q, g1, g2⟩ := Option.map_eq_some_iff.mp E
    obtain ⟨a, b, q', x, rfl, g3, rfl⟩ := am_b64_sp g1
    cases g2
    cases g3
    exact am_W_lor F (am_dec_sp hok.1) k0
  case lxor =>
    simp only [am_okI] at hok
    simp only [Bool.and_eq_true, decide_eq_true_eq] at hok
    cases hok.2
    obtain ⟨q, g1, g2⟩ := Option.map_eq_some_iff.mp E
    obtain ⟨a, b, q', x, rfl, g3, rfl⟩ := am_b64_sp g1
    cases g2
    cases g3
    exact am_W_lxor F (am_dec_sp hok.1) k0
  case idiv =>
    simp only [am_okI] at hok
    simp only [Bool.and_eq_true, decide_eq_true_eq] at hok
    cases hok.2
    obtain ⟨q, g1, g2⟩ := Option.map_eq_some_iff.mp E
    obtain ⟨a, b, q', x, rfl, g3, rfl⟩ := am_b32_sp g1
    cases g2
    unfold am_idiv at g3
    split at g3
    · cases g3
    · rename_i hb
      cases g3
      refine am_W_idiv (fun e1 => hb ?_) F (am_dec_sp hok.1) k0
      rw [show (0 : Int32) = Int32.ofInt 0 from rfl, am_inj32 ((am_lok_t hs).1.1 rfl) am_z32] at e1
      exact e1
  case ldiv =>
    simp only [am_okI] at hok
    simp only [Bool.and_eq_true, decide_eq_true_eq] at hok
    cases hok.2
    obtain ⟨q, g1, g2⟩ := Option.map_eq_some_iff.mp E
    obtain ⟨a, b, q', x, rfl, g3, rfl⟩ := am_b64_sp g1
    cases g2
    unfold am_ldiv at g3
    split at g3
    · cases g3
    · rename_i hb
      cases g3
      refine am_W_ldiv (fun e1 => hb ?_) F (am_dec_sp hok.1) k0
      rw [show (0 : Int64) = Int64.ofInt 0 from rfl, am_inj64 ((am_lok_t hs).1.2.1 rfl) am_z64] at e1
      exact e1
  case lrem =>
    simp only [am_okI] at hok
    simp only [Bool.and_eq_true, decide_eq_true_eq] at hok
    cases hok.2
    obtain ⟨q, g1, g2⟩ := Option.map_eq_some_iff.mp E
    obtain ⟨a, b, q', x, rfl, g3, rfl⟩ := am_b64_sp g1
    cases g2
    unfold am_lrem at g3
    split at g3
    · cases g3
    · rename_i hb
      cases g3
      refine am_W_lrem (fun e1 => hb ?_) F (am_dec_sp hok.1) k0
      rw [show (0 : Int64) = Int64.ofInt 0 from rfl, am_inj64 ((am_lok_t hs).1.2.1 rfl) am_z64] at e1
      exact e1
  case ineg =>
    simp only [am_okI] at hok
    simp only [Bool.and_eq_true, decide_eq_true_eq] at hok
    cases hok.2
    simp only [am_st] at E
    split at E
    · cases E
      exact am_W_ineg F (am_dec_sp hok.1) k0
    · cases E
  case lneg =>
    simp only [am_okI] at hok
    simp only [Bool.and_eq_true, decide_eq_true_eq] at hok
    cases hok.2
    simp only [am_st] at E
    split at E
    · cases E
      exact am_W_lneg F (am_dec_sp hok.1) k0
    · cases E
  case l2i =>
    simp only [am_okI] at hok
    simp only [Bool.and_eq_true, decide_eq_true_eq] at hok
    cases hok.2
    simp only [am_st] at E
    split at E
    · cases E
      exact am_W_l2i F (am_dec_sp hok.1) k0
    · cases E
  case i2b =>
    simp only [am_okI] at hok
    simp only [Bool.and_eq_true, decide_eq_true_eq] at hok
    cases hok.2
    simp only [am_st] at E
    split at E
    · cases E
      exact am_W_i2b F (am_dec_sp hok.1) k0
    · cases E
  case i2c =>
    simp only [am_okI] at hok
    simp only [Bool.and_eq_true, decide_eq_true_eq] at hok
    cases hok.2
    simp only [am_st] at E
    split at E
    · cases E
      exact am_W_i2c F (am_dec_sp hok.1) k0
    · cases E
  case lshl =>
    simp only [am_okI] at hok
    simp only [Bool.and_eq_true, decide_eq_true_eq] at hok
    cases hok.2
    simp only [am_st] at E
    split at E
    · cases E
      exact am_W_lshl F (am_dec_sp hok.1) k0
    · cases E
  case i2l =>
    simp only [am_okI] at hok
    simp only [Bool.and_eq_true, decide_eq_true_eq] at hok
    cases hok.2
    simp only [am_st] at E
    split at E
    · cases E
      exact am_W_i2l ((am_lok_t hs).1.1 rfl) F (am_dec_sp hok.1) k0
    · cases E
  case lcmp =>
    simp only [am_okI] at hok
    simp only [Bool.and_eq_true, decide_eq_true_eq] at hok
    cases hok.2
    simp only [am_st] at E
    split at E
    · cases E
      exact am_W_lcmp ((am_lok_t (am_lok_t hs).2).1.2.1 rfl) ((am_lok_t hs).1.2.1 rfl) F (am_dec_sp hok.1) k0
    · cases E
  case dup =>
    simp only [am_okI] at hok
    simp only [Bool.and_eq_true, decide_eq_true_eq] at hok
    cases hok.2
    simp only [am_st] at E
    split at E
    · split at E
      · rename_i cv
        cases E
        exact am_W_dup C.1 cv F (am_dec_sp hok.1) k0
      · cases E
    · cases E
  case pop =>
    simp only [am_okI] at hok
    simp only [Bool.and_eq_true, decide_eq_true_eq] at hok
    cases hok.2
    simp only [am_st] at E
    split at E
    · split at E
      · rename_i cv
        cases E
        exact am_W_pop C.1 cv F (am_dec_sp hok.1) k0
      · cases E
    · cases E
  case pop2 =>
    simp only [am_okI] at hok
    simp only [Bool.and_eq_true, decide_eq_true_eq] at hok
    cases hok.2
    simp only [am_st] at E
    split at E
    · split at E
      · rename_i cv
        cases E
        exact am_W_pop2 C.1 cv F (am_dec_sp hok.1) k0
      · cases E
    · cases E
  case dup2 =>
    simp only [am_okI] at hok
    simp only [Bool.and_eq_true, decide_eq_true_eq] at hok
    cases hok.2
    simp only [am_st] at E
    split at E
    · split at E
      · rename_i cv
        cases E
        exact am_W_dup2 C.1 cv.1 cv.2 F (am_dec_sp hok.1) k0
      · cases E
    · cases E
  case getfield x =>
    simp only [am_st] at E
    simp only [am_okI] at hok
    split at E
    · rename_i ci k a q
      simp only [Bool.and_eq_true, decide_eq_true_eq] at hok
      cases hok.1.1.1.2
      split at E
      · rename_i c1
        rw [if_pos c1] at hok
        simp only [Bool.and_eq_true, decide_eq_true_eq] at hok
        split at E
        · rename_i c2
          refine am_W_gets C hh hok.2.1 hok.1.2 hok.2.2 c2 F (am_dec_sp hok.1.1.1.1) ?_
          split at E
          · rename_i c3
            cases E
            rw [if_pos c3]
            exact k0
          · rename_i c3
            cases E
            rw [if_neg c3]
            exact k0
        · cases E
      · rename_i c1
        rw [if_neg c1] at hok
        simp only [Bool.and_eq_true, Bool.or_eq_true, decide_eq_true_eq] at hok
        split at E
        · rename_i c2
          cases E
          exact am_W_getf C hh hok.1.1.2 hok.2.1.1 hok.1.2 hok.2.1.2 hok.2.2 c2 F (am_dec_sp hok.1.1.1.1) k0
        · cases E
    · cases E
  case putfield x =>
    simp only [am_st] at E
    simp only [am_okI] at hok
    split at E
    · rename_i ci k t v a q
      simp only [Bool.and_eq_true, decide_eq_true_eq] at hok
      cases hok.1.1.1.1.1.2
      split at E
      · rename_i cv
        cases E
        refine am_W_putf C hh hok.1.1.1.1.2 hok.1.1.2 hok.1.1.1.2 hok.1.2 ?_ cv.1 cv.2.1 cv.2.2.1 cv.2.2.2.1 F (am_dec_sp hok.1.1.1.1.1.1) k0
        have hq := hok.2
        split at hq
        · rename_i c1
          simp only [Bool.and_eq_true, decide_eq_true_eq] at hq
          rw [if_pos c1]
          exact ⟨hq.1.1, hq.1.2, hq.2⟩
        · rename_i c1
          simp only [Bool.or_eq_true, decide_eq_true_eq] at hq
          rw [if_neg c1]
          exact hq
      · cases E
    · cases E
  case getstatic x =>
    simp only [am_st] at E
    simp only [am_okI] at hok
    split at E
    · simp only [Bool.and_eq_true, decide_eq_true_eq] at hok
      cases E
      cases hok.1.1.2
      exact am_W_gets0 C hok.2 F (am_dec_sp hok.1.1.1) k0
    · simp only [Bool.and_eq_true, decide_eq_true_eq] at hok
      cases E
      cases hok.1.1.2
      exact am_W_gets1 C hok.2 F (am_dec_sp hok.1.1.1) k0
    · cases E
  case iaload =>
    simp only [am_okI] at hok
    simp only [Bool.and_eq_true, decide_eq_true_eq] at hok
    cases hok.2
    obtain ⟨q, g1, g2⟩ := Option.map_eq_some_iff.mp E
    obtain ⟨i, a, r', rfl, g3, g4, g5, rfl⟩ := am_ald_sp g1
    simp only [decide_eq_true_eq] at g3
    cases g2
    exact am_W_iald hL2 C hh g3 g4 g5 F (am_dec_sp hok.1) k0
  case baload =>
    simp only [am_okI] at hok
    simp only [Bool.and_eq_true, decide_eq_true_eq] at hok
    cases hok.2
    obtain ⟨q, g1, g2⟩ := Option.map_eq_some_iff.mp E
    obtain ⟨i, a, r', rfl, g3, g4, g5, rfl⟩ := am_ald_sp g1
    simp only [decide_eq_true_eq] at g3
    cases g2
    exact am_W_bald C hh g3 g4 g5 F (am_dec_sp hok.1) k0
  case laload =>
    simp only [am_okI] at hok
    simp only [Bool.and_eq_true, decide_eq_true_eq] at hok
    cases hok.2
    obtain ⟨q, g1, g2⟩ := Option.map_eq_some_iff.mp E
    obtain ⟨i, a, r', rfl, g3, g4, g5, rfl⟩ := am_ald_sp g1
    simp only [decide_eq_true_eq] at g3
    cases g2
    exact am_W_lald hh g3 g4 g5 F (am_dec_sp hok.1) k0
  case aaload =>
    simp only [am_okI] at hok
    simp only [Bool.and_eq_true, decide_eq_true_eq] at hok
    cases hok.2
    obtain ⟨q, g1, g2⟩ := Option.map_eq_some_iff.mp E
    obtain ⟨i, a, r', rfl, g3, g4, g5, rfl⟩ := am_ald_sp g1
    simp only [decide_eq_true_eq] at g3
    cases g2
    exact am_W_aald hh g3.1 g3.2 g4 g5 F (am_dec_sp hok.1) k0
  case iastore =>
    simp only [am_okI] at hok
    simp only [Bool.and_eq_true, decide_eq_true_eq] at hok
    cases hok.2
    obtain ⟨q, g1, g2⟩ := Option.map_eq_some_iff.mp E
    obtain ⟨v, i, a, x, g3, g4, g5, g6, g7, g8, g9⟩ := am_ast_sp g1
    simp only [decide_eq_true_eq] at g4
    cases g2
    rw [g3]
    rw [g9] at k0
    unfold am_fit at g8
    rw [if_neg (by omega), if_neg (by omega), if_pos (by omega)] at g8
    cases g8
    exact am_W_iast hh g5 g4 g6 g7 F (am_dec_sp hok.1) k0
  case lastore =>
    simp only [am_okI] at hok
    simp only [Bool.and_eq_true, decide_eq_true_eq] at hok
    cases hok.2
    obtain ⟨q, g1, g2⟩ := Option.map_eq_some_iff.mp E
    obtain ⟨v, i, a, x, g3, g4, g5, g6, g7, g8, g9⟩ := am_ast_sp g1
    simp only [decide_eq_true_eq] at g4
    cases g2
    rw [g3]
    rw [g9] at k0
    unfold am_fit at g8
    rw [if_neg (by omega), if_neg (by omega), if_pos (by omega)] at g8
    cases g8
    exact am_W_last hh g5 g4 g6 g7 F (am_dec_sp hok.1) k0
  case bastore =>
    simp only [am_okI] at hok
    simp only [Bool.and_eq_true, decide_eq_true_eq] at hok
    cases hok.2
    obtain ⟨q, g1, g2⟩ := Option.map_eq_some_iff.mp E
    obtain ⟨v, i, a, x, g3, g4, g5, g6, g7, g8, g9⟩ := am_ast_sp g1
    simp only [decide_eq_true_eq] at g4
    cases g2
    rw [g3]
    rw [g9] at k0
    unfold am_fit at g8
    rcases g4 with g4 | g4
    · rw [if_pos g4] at g8
      cases g8
      exact am_W_bast hh g5 g4 g6 g7 F (am_dec_sp hok.1) k0
    · rw [if_neg (by omega), if_pos g4] at g8
      split at g8
      · rename_i cv
        cases g8
        exact am_W_zast hh g5 g4 cv g6 g7 F (am_dec_sp hok.1) k0
      · cases g8
  case aastore =>
    simp only [am_okI] at hok
    simp only [Bool.and_eq_true, decide_eq_true_eq] at hok
    cases hok.2
    obtain ⟨q, g1, g2⟩ := Option.map_eq_some_iff.mp E
    obtain ⟨v, i, a, x, g3, g4, g5, g6, g7, g8, g9⟩ := am_ast_sp g1
    simp only [decide_eq_true_eq] at g4
    cases g2
    rw [g3]
    rw [g9] at k0
    unfold am_fit at g8
    rw [if_neg (by omega), if_neg (by omega), if_neg (by omega)] at g8
    split at g8
    · rename_i cv
      cases g8
      exact am_W_aast hh g5 g4.1 cv g6 g7 F (am_dec_sp hok.1) k0
    · cases g8
  case arraylength =>
    simp only [am_okI] at hok
    simp only [Bool.and_eq_true, decide_eq_true_eq] at hok
    cases hok.2
    simp only [am_st] at E
    split at E
    · split at E
      · rename_i cv
        cases E
        exact am_W_alen hL C hh cv.1 cv.2 F (am_dec_sp hok.1) k0
      · cases E
    · cases E
  case newarray t =>
    simp only [am_st] at E
    simp only [am_okI] at hok
    split at E
    · simp only [Bool.and_eq_true, decide_eq_true_eq] at hok
      cases hok.1.2
      split at E
      · rename_i cv
        cases E
        exact am_W_newa hh hl (am_lok_t hs).2 hA hok.2 cv.1 cv.2 hm1 hm2 hrc hrs F (am_dec_sp hok.1.1) kk
      · cases E
    · cases E
  case anewarray x =>
    simp only [am_st] at E
    simp only [am_okI] at hok
    split at E
    · simp only [Bool.and_eq_true, decide_eq_true_eq] at hok
      cases hok.1.1.1.2
      split at E
      · rename_i cv
        cases E
        exact am_W_anew C hh hl (am_lok_t hs).2 hA hok.1.1.2 hok.1.2 hok.2 cv.1 cv.2 hm1 hm2 hrc hrs F (am_dec_sp hok.1.1.1.1) kk
      · cases E
    · cases E
  case new x =>
    simp only [am_st] at E
    simp only [am_okI] at hok
    split at E
    · simp only [Bool.and_eq_true, decide_eq_true_eq] at hok
      cases hok.1.1.1.2
      cases E
      exact am_W_new hh hl hs hA hok.1.1.2 hok.1.2 hok.2 hm1 hm2 hrc hrs F (am_dec_sp hok.1.1.1.1) kk
    · cases E
  all_goals (simp only [am_st] at E; cases E)
end
