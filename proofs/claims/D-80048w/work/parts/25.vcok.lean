set_option maxRecDepth 100000
theorem lm_wp.ct {d y : Nat} {i : Instr} {pc : Nat} {l : List am_I} {ls st : List Int} {h : lm_H} {kd y' n : Int} {Q : Int → lm_H → Prop} (hk : am_kd i = 3) (h6 : kd ≠ 6) (h7 : kd ≠ 7) (hp : ¬ (289 ≤ y' ∧ y' ≤ 300)) (hv : kd = 1 ∨ 0 ≤ h_l h ((st.take n.toNat).reverse.headD (-9)))
    (k : lm_wp d y'.toNat (am_blk y'.toNat 0) (lm_ent y'.toNat (st.take n.toNat).reverse) [] h (fun v h' => lm_wp (d + 1) y l ls (lm_push y'.toNat v (st.drop n.toNat)) h' Q)) : lm_wp (d + 1) y ((i, [kd, y', n], pc) :: l) ls st h Q := by
  obtain ⟨f, v, h2, hr, g, v3, h3, hr3, q⟩ := k
  refine ⟨max f g + 1, v3, h3, ?_, q⟩
  unfold lm_run
  dsimp only
  rw [hk]
  show (if kd = 6 then _ else _) = _
  rw [if_neg h6, if_neg h7, if_neg hp, if_pos hv, lm_more hr (Nat.le_max_left f g)]
  exact lm_more hr3 (Nat.le_max_right f g)
theorem lm_wp.cp {d y : Nat} {i : Instr} {pc : Nat} {l : List am_I} {ls st : List Int} {h : lm_H} {kd y' n v : Int} {Q : Int → lm_H → Prop} (hk : am_kd i = 3) (h6 : kd ≠ 6) (h7 : kd ≠ 7) (hp : 289 ≤ y' ∧ y' ≤ 300) (hv : lm_pr y'.toNat (st.take n.toNat).reverse = some v) (k : lm_wp (d + 1) y l ls (v :: st.drop n.toNat) h Q) : lm_wp (d + 1) y ((i, [kd, y', n], pc) :: l) ls st h Q := by
  obtain ⟨g, v3, h3, hr3, q⟩ := k
  refine ⟨g + 1, v3, h3, ?_, q⟩
  unfold lm_run
  dsimp only
  rw [hk]
  show (if kd = 6 then _ else _) = _
  rw [if_neg h6, if_neg h7, if_pos hp, hv]
  exact hr3
theorem vc_i_ok {d y : Nat} {i : Instr} {r : List Int} {pc : Nat} {l : List am_I} {ls st : List Int} {h : lm_H} {Q : Int → lm_H → Prop} {k : List Int → lm_H → Prop} (hk : am_kd i = 3) (hv : vc_i d r st h k) (kk : ∀ st' h', k st' h' → lm_wp d y l ls st' h' Q) : lm_wp d y ((i, r, pc) :: l) ls st h Q := by
  unfold vc_i at hv
  split at hv
  · rename_i d' kd y' n
    split at hv
    · split at hv
      · rename_i a q
        obtain ⟨g, v3, h3, hr3, q3⟩ := kk _ _ hv.2
        refine ⟨g + 1, v3, h3, ?_, q3⟩
        unfold lm_run
        dsimp only
        rw [hk]
        show (if (6 : Int) = 6 then (if 0 ≤ h_l h a then _ else _) else _) = _
        rw [if_pos rfl, if_pos hv.1]
        exact hr3
      · cases hv
    · split at hv
      · rename_i n' dp t sp s q
        obtain ⟨g, v3, h3, hr3, q3⟩ := kk _ _ (hv.2.2.2.2.2 _ rfl)
        refine ⟨g + 1, v3, h3, ?_, q3⟩
        have e : lm_cp (n' :: dp :: t :: sp :: s :: q) h = some (q, h_c h s sp t dp n') := if_pos ⟨hv.1, hv.2.1, hv.2.2.1, hv.2.2.2.1, hv.2.2.2.2.1⟩
        unfold lm_run
        dsimp only
        rw [hk]
        show (if (7 : Int) = 6 then _ else if (7 : Int) = 7 then (match lm_cp (n' :: dp :: t :: sp :: s :: q) h with | some (q, h') => _ | none => _) else _) = _
        rw [if_neg (by decide), if_pos rfl, e]
        exact hr3
      · cases hv
    · rename_i h6 h7
      have h6' : kd ≠ 6 := h6
      have h7' : kd ≠ 7 := h7
      split at hv
      · split at hv
        · rename_i s q
          refine lm_wp.cp (v := st_len s) hk h6' h7' (by decide) ?_ (kk _ _ hv.2)
          show (if (292 : Int).toNat = 292 ∧ s ≤ -10 ∧ -200 ≤ s ∧ s % 2 = 0 then some (st_len s) else none) = _
          rw [if_pos ⟨rfl, hv.1⟩]
        · cases hv
      · split at hv
        · rename_i x s q
          refine lm_wp.cp (v := st_at s x) hk h6' h7' (by decide) ?_ (kk _ _ hv.2.2.2)
          show (if s ≤ -10 ∧ -200 ≤ s ∧ s % 2 = 0 then (if (295 : Int).toNat = 295 ∧ 0 ≤ x ∧ x < st_len s then some (st_at s x) else _) else none) = _
          rw [if_pos (show s ≤ -10 ∧ -200 ≤ s ∧ s % 2 = 0 from hv.1), if_pos ⟨rfl, hv.2.1, hv.2.2.1⟩]
        · cases hv
      · split at hv
        · rename_i x s q
          refine lm_wp.cp (v := st_idx s x) hk h6' h7' (by decide) ?_ (kk _ _ hv.2.2.2)
          show (if s ≤ -10 ∧ -200 ≤ s ∧ s % 2 = 0 then (if (289 : Int).toNat = 295 ∧ 0 ≤ x ∧ x < st_len s then some (st_at s x) else if (289 : Int).toNat = 289 ∧ 0 ≤ x ∧ x ≤ 65535 then some (st_idx s x) else none) else none) = _
          rw [if_pos (show s ≤ -10 ∧ -200 ≤ s ∧ s % 2 = 0 from hv.1), if_neg (fun h => absurd h.1 (by decide)), if_pos ⟨rfl, hv.2.1, hv.2.2.1⟩]
        · cases hv
      · split at hv
        · cases hv
        · rename_i hp
          have hp' := of_decide_eq_false hp
          split at hv
          · exact lm_wp.ct hk h6' h7' hp' (Or.inl rfl) (hv.mono (fun v h' hq => kk _ _ hq))
          · exact lm_wp.ct hk h6' h7' hp' (Or.inr hv.1) (hv.2.mono (fun v h' hq => kk _ _ hq))
  · cases hv
theorem vc_j_ok {cut : List Nat} {a b : Nat → Prop} {k : Nat} {P : Prop} (h : vc_j cut a b k) (ha : a k → P) (hb : b k → P) : P := by
  unfold vc_j at h
  split at h
  · exact ha h
  · exact hb h
theorem vc_t_ok {f : Int → Prop} {x : Int} {bs : List Int} : ∀ {k : Int}, vc_t f x k bs → ∀ j : Nat, x = k + j → ∀ b, bs[j]? = some b → f b := by
  induction bs with
  | nil => intro k _ j _ b hb; simp at hb
  | cons c bs ih =>
    intro k h j hj b hb
    cases j with
    | zero => simp at hb; subst hb; exact h.1 (by omega)
    | succ j => exact ih h.2 j (by omega) b (by simpa using hb)
theorem vc_ok {y d : Nat} {cut : List Nat} : ∀ (n : Nat) {l : List am_I} {ls st : List Int} {h : lm_H} {Q : Int → lm_H → Prop}, vc y d cut n l ls st h Q → lm_wp d y l ls st h Q := by
  intro n
  induction n with
  | zero => intro l ls st h Q k; exact k
  | succ n ih =>
    intro l ls st h Q k
    cases l with
    | nil => cases k
    | cons c l =>
      obtain ⟨i, r, pc⟩ := c
      cases i
      case iconst c =>
        exact lm_wp.st rfl rfl (ih k)
      case bipush c =>
        exact lm_wp.st rfl rfl (ih k)
      case sipush c =>
        exact lm_wp.st rfl rfl (ih k)
      case lconst c =>
        exact lm_wp.st rfl rfl (ih k)
      case aconst_null =>
        exact lm_wp.st rfl rfl (ih k)
      case ldc x =>
        simp only [vc] at k
        split at k
        · exact lm_wp.st rfl rfl (ih k)
        · exact lm_wp.st rfl rfl (ih k)
        · cases k
      case ldc_w x =>
        simp only [vc] at k
        split at k
        · exact lm_wp.st rfl rfl (ih k)
        · exact lm_wp.st rfl rfl (ih k)
        · cases k
      case ldc2_w x =>
        simp only [vc] at k
        split at k
        · exact lm_wp.st rfl rfl (ih k)
        · cases k
      case iload_n k0 =>
        simp only [vc] at k
        split at k
        · rename_i x e
          refine lm_wp.st rfl ?_ (ih k)
          show (lm_ld k0.val ls st).map _ = _
          unfold lm_ld
          rw [e]
          rfl
        · cases k
      case iload k0 =>
        simp only [vc] at k
        split at k
        · rename_i x e
          refine lm_wp.st rfl ?_ (ih k)
          show (lm_ld k0 ls st).map _ = _
          unfold lm_ld
          rw [e]
          rfl
        · cases k
      case lload_n k0 =>
        simp only [vc] at k
        split at k
        · rename_i x e
          refine lm_wp.st rfl ?_ (ih k)
          show (lm_ld k0.val ls st).map _ = _
          unfold lm_ld
          rw [e]
          rfl
        · cases k
      case lload k0 =>
        simp only [vc] at k
        split at k
        · rename_i x e
          refine lm_wp.st rfl ?_ (ih k)
          show (lm_ld k0 ls st).map _ = _
          unfold lm_ld
          rw [e]
          rfl
        · cases k
      case aload_n k0 =>
        simp only [vc] at k
        split at k
        · rename_i x e
          refine lm_wp.st rfl ?_ (ih k)
          show (lm_ld k0.val ls st).map _ = _
          unfold lm_ld
          rw [e]
          rfl
        · cases k
      case aload k0 =>
        simp only [vc] at k
        split at k
        · rename_i x e
          refine lm_wp.st rfl ?_ (ih k)
          show (lm_ld k0 ls st).map _ = _
          unfold lm_ld
          rw [e]
          rfl
        · cases k
      case istore_n k0 =>
        simp only [vc] at k
        split at k
        · exact lm_wp.st rfl rfl (ih k)
        · cases k
      case istore k0 =>
        simp only [vc] at k
        split at k
        · exact lm_wp.st rfl rfl (ih k)
        · cases k
      case lstore_n k0 =>
        simp only [vc] at k
        split at k
        · exact lm_wp.st rfl rfl (ih k)
        · cases k
      case lstore k0 =>
        simp only [vc] at k
        split at k
        · exact lm_wp.st rfl rfl (ih k)
        · cases k
      case astore_n k0 =>
        simp only [vc] at k
        split at k
        · exact lm_wp.st rfl rfl (ih k)
        · cases k
      case astore k0 =>
        simp only [vc] at k
        split at k
        · exact lm_wp.st rfl rfl (ih k)
        · cases k
      case iinc k0 c =>
        simp only [vc] at k
        split at k
        · rename_i x e
          refine lm_wp.st rfl ?_ (ih k)
          show (match ls[k0]? with | some x => some (ls.set k0 (am_w (x + c)), st, h) | none => none) = _
          rw [e]
        · cases k
      case iadd =>
        simp only [vc] at k
        split at k
        · exact lm_wp.st rfl rfl (ih k)
        · cases k
      case isub =>
        simp only [vc] at k
        split at k
        · exact lm_wp.st rfl rfl (ih k)
        · cases k
      case imul =>
        simp only [vc] at k
        split at k
        · exact lm_wp.st rfl rfl (ih k)
        · cases k
      case idiv =>
        simp only [vc] at k
        split at k
        · rename_i b a q
          refine lm_wp.st rfl ?_ (ih k.2)
          show Option.map _ (Option.map _ (am_idiv a b)) = _
          unfold am_idiv
          rw [if_neg k.1]
          rfl
        · cases k
      case iand =>
        simp only [vc] at k
        split at k
        · exact lm_wp.st rfl rfl (ih k)
        · cases k
      case ior =>
        simp only [vc] at k
        split at k
        · exact lm_wp.st rfl rfl (ih k)
        · cases k
      case ishl =>
        simp only [vc] at k
        split at k
        · exact lm_wp.st rfl rfl (ih k)
        · cases k
      case ishr =>
        simp only [vc] at k
        split at k
        · exact lm_wp.st rfl rfl (ih k)
        · cases k
      case ladd =>
        simp only [vc] at k
        split at k
        · exact lm_wp.st rfl rfl (ih k)
        · cases k
      case lsub =>
        simp only [vc] at k
        split at k
        · exact lm_wp.st rfl rfl (ih k)
        · cases k
      case lmul =>
        simp only [vc] at k
        split at k
        · exact lm_wp.st rfl rfl (ih k)
        · cases k
      case ldiv =>
        simp only [vc] at k
        split at k
        · rename_i b a q
          refine lm_wp.st rfl ?_ (ih k.2)
          show Option.map _ (Option.map _ (am_ldiv a b)) = _
          unfold am_ldiv
          rw [if_neg k.1]
          rfl
        · cases k
      case lrem =>
        simp only [vc] at k
        split at k
        · rename_i b a q
          refine lm_wp.st rfl ?_ (ih k.2)
          show Option.map _ (Option.map _ (am_lrem a b)) = _
          unfold am_lrem
          rw [if_neg k.1]
          rfl
        · cases k
      case land =>
        simp only [vc] at k
        split at k
        · exact lm_wp.st rfl rfl (ih k)
        · cases k
      case lor =>
        simp only [vc] at k
        split at k
        · exact lm_wp.st rfl rfl (ih k)
        · cases k
      case lxor =>
        simp only [vc] at k
        split at k
        · exact lm_wp.st rfl rfl (ih k)
        · cases k
      case lshl =>
        simp only [vc] at k
        split at k
        · exact lm_wp.st rfl rfl (ih k)
        · cases k
      case lcmp =>
        simp only [vc] at k
        split at k
        · exact lm_wp.st rfl rfl (ih k)
        · cases k
      case ineg =>
        simp only [vc] at k
        split at k
        · exact lm_wp.st rfl rfl (ih k)
        · cases k
      case lneg =>
        simp only [vc] at k
        split at k
        · exact lm_wp.st rfl rfl (ih k)
        · cases k
      case i2l =>
        simp only [vc] at k
        split at k
        · exact lm_wp.st rfl rfl (ih k)
        · cases k
      case l2i =>
        simp only [vc] at k
        split at k
        · exact lm_wp.st rfl rfl (ih k)
        · cases k
      case i2b =>
        simp only [vc] at k
        split at k
        · exact lm_wp.st rfl rfl (ih k)
        · cases k
      case i2c =>
        simp only [vc] at k
        split at k
        · exact lm_wp.st rfl rfl (ih k)
        · cases k
      case dup =>
        simp only [vc] at k
        split at k
        · exact lm_wp.st rfl rfl (ih k)
        · cases k
      case dup2 =>
        simp only [vc] at k
        split at k
        · exact lm_wp.st rfl rfl (ih k)
        · cases k
      case pop =>
        simp only [vc] at k
        split at k
        · exact lm_wp.st rfl rfl (ih k)
        · cases k
      case pop2 =>
        simp only [vc] at k
        split at k
        · exact lm_wp.st rfl rfl (ih k)
        · cases k
      case getfield x =>
        simp only [vc] at k
        split at k
        · rename_i k0 a q
          exact lm_wp.st rfl (if_pos k.1) (ih k.2)
        · cases k
      case putfield x =>
        simp only [vc] at k
        split at k
        · rename_i k0 v a q
          exact lm_wp.st rfl (if_pos k.1) (ih (k.2 _ rfl))
        · cases k
      case iaload =>
        simp only [vc] at k
        split at k
        · rename_i x a q
          have e : lm_ald (x :: a :: q) h = some (h_v h a x :: q) := if_pos ⟨k.1, k.2.1⟩
          refine lm_wp.st rfl ?_ (ih k.2.2)
          show Option.map _ (lm_ald (x :: a :: q) h) = _
          rw [e]
          rfl
        · cases k
      case baload =>
        simp only [vc] at k
        split at k
        · rename_i x a q
          have e : lm_ald (x :: a :: q) h = some (h_v h a x :: q) := if_pos ⟨k.1, k.2.1⟩
          refine lm_wp.st rfl ?_ (ih k.2.2)
          show Option.map _ (lm_ald (x :: a :: q) h) = _
          rw [e]
          rfl
        · cases k
      case laload =>
        simp only [vc] at k
        split at k
        · rename_i x a q
          have e : lm_ald (x :: a :: q) h = some (h_v h a x :: q) := if_pos ⟨k.1, k.2.1⟩
          refine lm_wp.st rfl ?_ (ih k.2.2)
          show Option.map _ (lm_ald (x :: a :: q) h) = _
          rw [e]
          rfl
        · cases k
      case aaload =>
        simp only [vc] at k
        split at k
        · rename_i x a q
          have e : lm_ald (x :: a :: q) h = some (h_v h a x :: q) := if_pos ⟨k.1, k.2.1⟩
          refine lm_wp.st rfl ?_ (ih k.2.2)
          show Option.map _ (lm_ald (x :: a :: q) h) = _
          rw [e]
          rfl
        · cases k
      case iastore =>
        simp only [vc] at k
        split at k
        · rename_i v x a q
          have e : lm_ast (fun v => v) (v :: x :: a :: q) h = some (q, h_s h a x ((fun v => v) v)) := if_pos ⟨k.1, k.2.1⟩
          refine lm_wp.st rfl ?_ (ih (k.2.2 _ rfl))
          show Option.map _ (lm_ast (fun v => v) (v :: x :: a :: q) h) = _
          rw [e]
          rfl
        · cases k
      case bastore =>
        simp only [vc] at k
        split at k
        · rename_i v x a q
          have e : lm_ast am_i2b (v :: x :: a :: q) h = some (q, h_s h a x (am_i2b v)) := if_pos ⟨k.1, k.2.1⟩
          refine lm_wp.st rfl ?_ (ih (k.2.2 _ rfl))
          show Option.map _ (lm_ast am_i2b (v :: x :: a :: q) h) = _
          rw [e]
          rfl
        · cases k
      case lastore =>
        simp only [vc] at k
        split at k
        · rename_i v x a q
          have e : lm_ast (fun v => v) (v :: x :: a :: q) h = some (q, h_s h a x ((fun v => v) v)) := if_pos ⟨k.1, k.2.1⟩
          refine lm_wp.st rfl ?_ (ih (k.2.2 _ rfl))
          show Option.map _ (lm_ast (fun v => v) (v :: x :: a :: q) h) = _
          rw [e]
          rfl
        · cases k
      case aastore =>
        simp only [vc] at k
        split at k
        · rename_i v x a q
          have e : lm_ast (fun v => v) (v :: x :: a :: q) h = some (q, h_s h a x ((fun v => v) v)) := if_pos ⟨k.1, k.2.1⟩
          refine lm_wp.st rfl ?_ (ih (k.2.2 _ rfl))
          show Option.map _ (lm_ast (fun v => v) (v :: x :: a :: q) h) = _
          rw [e]
          rfl
        · cases k
      case arraylength =>
        simp only [vc] at k
        split at k
        · rename_i a q
          exact lm_wp.st rfl (if_pos k.1) (ih k.2)
        · cases k
      case newarray x =>
        simp only [vc] at k
        split at k
        · rename_i a q
          exact lm_wp.st rfl (if_pos ⟨k.1, k.2.1⟩) (ih (k.2.2 _ rfl))
        · cases k
      case anewarray x =>
        simp only [vc] at k
        split at k
        · rename_i a q
          exact lm_wp.st rfl (if_pos ⟨k.1, k.2.1⟩) (ih (k.2.2 _ rfl))
        · cases k
      case new x =>
        simp only [vc] at k
        split at k
        · exact lm_wp.st rfl rfl (ih (k _ rfl))
        · cases k
      case nop =>
        simp only [vc] at k
        split at k
        · exact vc_j_ok k (fun w => lm_wp.jm rfl rfl w) (fun w => lm_wp.jm rfl rfl (ih w))
        · cases k
      case goto x =>
        simp only [vc] at k
        split at k
        · exact vc_j_ok k (fun w => lm_wp.jm rfl rfl w) (fun w => lm_wp.jm rfl rfl (ih w))
        · cases k
      case ifCond c x =>
        simp only [vc] at k
        split at k
        · rename_i b x0 q
          by_cases w : am_cmp c x0 0 = true
          · have e : (some ((if am_cmp c x0 0 then some b else none), q) : Option (Option Int × List Int)) = some (some b, q) := by rw [if_pos w]
            exact vc_j_ok (k.1 ((vc_c_iff c x0 0).mpr w)) (fun w => lm_wp.jm rfl e w) (fun w => lm_wp.jm rfl e (ih w))
          · have e : (some ((if am_cmp c x0 0 then some b else none), q) : Option (Option Int × List Int)) = some (none, q) := by rw [if_neg w]
            exact lm_wp.go rfl e (ih (k.2 (fun w2 => w ((vc_c_iff c x0 0).mp w2))))
        · cases k
      case if_icmp c x =>
        simp only [vc] at k
        split at k
        · rename_i b z x0 q
          by_cases w : am_cmp c x0 z = true
          · have e : (some ((if am_cmp c x0 z then some b else none), q) : Option (Option Int × List Int)) = some (some b, q) := by rw [if_pos w]
            exact vc_j_ok (k.1 ((vc_c_iff c x0 z).mpr w)) (fun w => lm_wp.jm rfl e w) (fun w => lm_wp.jm rfl e (ih w))
          · have e : (some ((if am_cmp c x0 z then some b else none), q) : Option (Option Int × List Int)) = some (none, q) := by rw [if_neg w]
            exact lm_wp.go rfl e (ih (k.2 (fun w2 => w ((vc_c_iff c x0 z).mp w2))))
        · cases k
      case ifnull x =>
        simp only [vc] at k
        split at k
        · rename_i b a q
          by_cases w : a = -1
          · have e : (some ((if a = -1 then some b else none), q) : Option (Option Int × List Int)) = some (some b, q) := by rw [if_pos w]
            exact vc_j_ok (k.1 w) (fun w => lm_wp.jm rfl e w) (fun w => lm_wp.jm rfl e (ih w))
          · have e : (some ((if a = -1 then some b else none), q) : Option (Option Int × List Int)) = some (none, q) := by rw [if_neg w]
            exact lm_wp.go rfl e (ih (k.2 w))
        · cases k
      case ifnonnull x =>
        simp only [vc] at k
        split at k
        · rename_i b a q
          by_cases w : a = -1
          · have e : (some ((if a = -1 then none else some b), q) : Option (Option Int × List Int)) = some (none, q) := by rw [if_pos w]
            exact lm_wp.go rfl e (ih (k.2 w))
          · have e : (some ((if a = -1 then none else some b), q) : Option (Option Int × List Int)) = some (some b, q) := by rw [if_neg w]
            exact vc_j_ok (k.1 w) (fun w => lm_wp.jm rfl e w) (fun w => lm_wp.jm rfl e (ih w))
        · cases k
      case tableswitch df lo hi os =>
        simp only [vc] at k
        split at k
        · rename_i b bs x q
          split at k
          · rename_i hd
            have hd' := of_decide_eq_true hd
            by_cases w : x < lo ∨ hi < x
            · have e : (some ((if x < lo ∨ hi < x then some b else bs[(x - lo).toNat]?), q) : Option (Option Int × List Int)) = some (some b, q) := by rw [if_pos w]
              exact vc_j_ok (k.1 w) (fun w => lm_wp.jm rfl e w) (fun w => lm_wp.jm rfl e (ih w))
            · have hlt : (x - lo).toNat < bs.length := by omega
              have hb : bs[(x - lo).toNat]? = some bs[(x - lo).toNat] := List.getElem?_eq_getElem hlt
              have e : (some ((if x < lo ∨ hi < x then some b else bs[(x - lo).toNat]?), q) : Option (Option Int × List Int)) = some (some bs[(x - lo).toNat], q) := by rw [if_neg w, hb]
              exact vc_j_ok (vc_t_ok k.2 (x - lo).toNat (by omega) _ hb) (fun w => lm_wp.jm rfl e w) (fun w => lm_wp.jm rfl e (ih w))
          · cases k
        · cases k
      case return_ =>
        simp only [vc] at k
        split at k
        · exact lm_wp.rt rfl rfl k
        · cases k
      case ireturn =>
        simp only [vc] at k
        split at k
        · exact lm_wp.rt rfl rfl k
        · cases k
      case lreturn =>
        simp only [vc] at k
        split at k
        · exact lm_wp.rt rfl rfl k
        · cases k
      case areturn =>
        simp only [vc] at k
        split at k
        · exact lm_wp.rt rfl rfl k
        · cases k
      case invokevirtual x =>
        simp only [vc] at k
        exact vc_i_ok rfl k (fun st' h' w => ih w)
      case invokestatic x =>
        simp only [vc] at k
        exact vc_i_ok rfl k (fun st' h' w => ih w)
      case invokespecial x =>
        simp only [vc] at k
        exact vc_i_ok rfl k (fun st' h' w => ih w)
      all_goals (simp only [vc] at k)
