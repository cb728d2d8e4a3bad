set_option maxRecDepth 100000
/-- calls in the component's world -/
def vk_i (y pc d : Nat) (r st : List Int) (c : cs_S) (k : List Int → cs_S → Prop) : Prop := match d, r with
  | d' + 1, [kd, y', n] => match kd with
    | 6 => match st with
      | a :: q => 1000 ≤ c_r c a ∧ k q c
      | _ => False
    | 7 => match st with
      | n :: dp :: t :: sp :: s :: q => (match decide (cs_ro y pc / 1000 = 0) with
        | true => (match decide (cs_ro y pc % 1000 ≠ 0) with
          | true => c_r c s ≠ 0 ∧ c_r c s < 1000 ∧ c_r c t = cs_ro y pc % 1000 ∧ 0 ≤ n ∧ 0 ≤ sp ∧ 0 ≤ dp ∧ sp + n ≤ c_l c s ∧ dp + n ≤ c_l c t ∧ ∀ c1, c1 = c_c c (c_r c s) s sp (cs_ro y pc % 1000) t dp n → k q c1
          | false => False)
        | false => (match decide (cs_ro y pc % 1000 ≠ 0 ∧ cs_ro y pc / 1000 < 1000) with
          | true => c_r c s = cs_ro y pc / 1000 ∧ c_r c t = cs_ro y pc % 1000 ∧ 0 ≤ n ∧ 0 ≤ sp ∧ 0 ≤ dp ∧ sp + n ≤ c_l c s ∧ dp + n ≤ c_l c t ∧ ∀ c1, c1 = c_c c (cs_ro y pc / 1000) s sp (cs_ro y pc % 1000) t dp n → k q c1
          | false => False))
      | _ => False
    | _ => match y' with
      | 292 => match n, st with
        | 1, x :: q => st_is x ∧ k (st_len x :: q) c
        | _, _ => False
      | 295 => match n, st with
        | 2, i :: x :: q => st_is x ∧ 0 ≤ i ∧ i < st_len x ∧ k (st_at x i :: q) c
        | _, _ => False
      | 289 => match n, st with
        | 2, z :: x :: q => st_is x ∧ 0 ≤ z ∧ z ≤ 65535 ∧ k (st_idx x z :: q) c
        | _, _ => False
      | _ => match decide (289 ≤ y' ∧ y' ≤ 300) with
        | true => False
        | false => match kd with
          | 1 => cw d' y'.toNat (am_blk y'.toNat 0) (lm_ent y'.toNat (st.take n.toNat).reverse) [] c (fun v c' => k (lm_push y'.toNat v (st.drop n.toNat)) c')
          | _ => c_r c ((st.take n.toNat).reverse.headD (-9)) = 1000 + am_ow y'.toNat ∧ cw d' y'.toNat (am_blk y'.toNat 0) (lm_ent y'.toNat (st.take n.toNat).reverse) [] c (fun v c' => k (lm_push y'.toNat v (st.drop n.toNat)) c')
  | _, _ => False
def vk (y d : Nat) (cut : List Nat) : Nat → List am_I → List Int → List Int → cs_S → (Int → cs_S → Prop) → Prop
  | 0, l, ls, st, c, Q => cw d y l ls st c Q
  | n + 1, l, ls, st, c, Q => match l with
    | [] => False
    | (i, r, pc) :: l' => match i with
      | .iconst z => vk y d cut n l' ls (z :: st) c Q
      | .bipush z => vk y d cut n l' ls (z :: st) c Q
      | .sipush z => vk y d cut n l' ls (z :: st) c Q
      | .lconst z => vk y d cut n l' ls ((z.val : Int) :: st) c Q
      | .ldc _ => match r with
        | [0, z] => vk y d cut n l' ls (z :: st) c Q
        | [2, z] => vk y d cut n l' ls ((-10 - 2 * z) :: st) c Q
        | _ => False
      | .ldc_w _ => match r with
        | [0, z] => vk y d cut n l' ls (z :: st) c Q
        | [2, z] => vk y d cut n l' ls ((-10 - 2 * z) :: st) c Q
        | _ => False
      | .ldc2_w _ => match r with
        | [z] => vk y d cut n l' ls (z :: st) c Q
        | _ => False
      | .aconst_null => vk y d cut n l' ls (-1 :: st) c Q
      | .iload_n k => match ls[k.val]? with
        | some x => vk y d cut n l' ls (x :: st) c Q
        | none => False
      | .iload k => match ls[k]? with
        | some x => vk y d cut n l' ls (x :: st) c Q
        | none => False
      | .lload_n k => match ls[k.val]? with
        | some x => vk y d cut n l' ls (x :: st) c Q
        | none => False
      | .lload k => match ls[k]? with
        | some x => vk y d cut n l' ls (x :: st) c Q
        | none => False
      | .aload_n k => match ls[k.val]? with
        | some x => vk y d cut n l' ls (x :: st) c Q
        | none => False
      | .aload k => match ls[k]? with
        | some x => vk y d cut n l' ls (x :: st) c Q
        | none => False
      | .istore_n k => match st with
        | x :: q => vk y d cut n l' (ls.set k.val x) q c Q
        | [] => False
      | .istore k => match st with
        | x :: q => vk y d cut n l' (ls.set k x) q c Q
        | [] => False
      | .lstore_n k => match st with
        | x :: q => vk y d cut n l' (ls.set k.val x) q c Q
        | [] => False
      | .lstore k => match st with
        | x :: q => vk y d cut n l' (ls.set k x) q c Q
        | [] => False
      | .astore_n k => match st with
        | x :: q => vk y d cut n l' (ls.set k.val x) q c Q
        | [] => False
      | .astore k => match st with
        | x :: q => vk y d cut n l' (ls.set k x) q c Q
        | [] => False
      | .iinc k z => match ls[k]? with
        | some x => vk y d cut n l' (ls.set k (am_w (x + z))) st c Q
        | none => False
      | .iadd => match st with
        | b :: a :: q => vk y d cut n l' ls (am_w (a + b) :: q) c Q
        | _ => False
      | .isub => match st with
        | b :: a :: q => vk y d cut n l' ls (am_w (a - b) :: q) c Q
        | _ => False
      | .imul => match st with
        | b :: a :: q => vk y d cut n l' ls (am_w (a * b) :: q) c Q
        | _ => False
      | .idiv => match st with
        | b :: a :: q => b ≠ 0 ∧ vk y d cut n l' ls (am_idv a b :: q) c Q
        | _ => False
      | .iand => match st with
        | b :: a :: q => vk y d cut n l' ls (am_and a b :: q) c Q
        | _ => False
      | .ior => match st with
        | b :: a :: q => vk y d cut n l' ls (am_or a b :: q) c Q
        | _ => False
      | .ishl => match st with
        | b :: a :: q => vk y d cut n l' ls (am_shl a b :: q) c Q
        | _ => False
      | .ishr => match st with
        | b :: a :: q => vk y d cut n l' ls (am_shr a b :: q) c Q
        | _ => False
      | .ladd => match st with
        | b :: a :: q => vk y d cut n l' ls (am_x (a + b) :: q) c Q
        | _ => False
      | .lsub => match st with
        | b :: a :: q => vk y d cut n l' ls (am_x (a - b) :: q) c Q
        | _ => False
      | .lmul => match st with
        | b :: a :: q => vk y d cut n l' ls (am_x (a * b) :: q) c Q
        | _ => False
      | .ldiv => match st with
        | b :: a :: q => b ≠ 0 ∧ vk y d cut n l' ls (am_ldv a b :: q) c Q
        | _ => False
      | .lrem => match st with
        | b :: a :: q => b ≠ 0 ∧ vk y d cut n l' ls (am_lrm a b :: q) c Q
        | _ => False
      | .land => match st with
        | b :: a :: q => vk y d cut n l' ls (am_land a b :: q) c Q
        | _ => False
      | .lor => match st with
        | b :: a :: q => vk y d cut n l' ls (am_lor a b :: q) c Q
        | _ => False
      | .lxor => match st with
        | b :: a :: q => vk y d cut n l' ls (am_lxor a b :: q) c Q
        | _ => False
      | .lshl => match st with
        | b :: a :: q => vk y d cut n l' ls (am_lshl a b :: q) c Q
        | _ => False
      | .lcmp => match st with
        | b :: a :: q => vk y d cut n l' ls (am_lcmp a b :: q) c Q
        | _ => False
      | .ineg => match st with
        | a :: q => vk y d cut n l' ls (am_w (-a) :: q) c Q
        | _ => False
      | .lneg => match st with
        | a :: q => vk y d cut n l' ls (am_x (-a) :: q) c Q
        | _ => False
      | .i2l => match st with
        | a :: q => vk y d cut n l' ls (a :: q) c Q
        | _ => False
      | .l2i => match st with
        | a :: q => vk y d cut n l' ls (am_w a :: q) c Q
        | _ => False
      | .i2b => match st with
        | a :: q => vk y d cut n l' ls (am_i2b a :: q) c Q
        | _ => False
      | .i2c => match st with
        | a :: q => vk y d cut n l' ls (am_i2c a :: q) c Q
        | _ => False
      | .dup => match st with
        | v :: q => vk y d cut n l' ls (v :: v :: q) c Q
        | _ => False
      | .dup2 => match st with
        | v :: w :: q => vk y d cut n l' ls (v :: w :: v :: w :: q) c Q
        | _ => False
      | .pop => match st with
        | _ :: q => vk y d cut n l' ls q c Q
        | _ => False
      | .pop2 => match st with
        | _ :: q => vk y d cut n l' ls q c Q
        | _ => False
      | .getfield _ => match r, st with
        | [ci, k], a :: q => (match decide (0 ≤ k) with
          | true => c_r c a = 1000 + ci.toNat ∧ vk y d cut n l' ls (c_v c (40 * ci.toNat + k.toNat) a 0 :: q) c Q
          | false => False)
        | _, _ => False
      | .putfield _ => match r, st with
        | [ci, k], v :: a :: q => (match decide (0 ≤ k) with
          | true => c_r c a = 1000 + ci.toNat ∧ ∀ c1, c1 = c_u c (40 * ci.toNat + k.toNat) a 0 v → vk y d cut n l' ls q c1 Q
          | false => False)
        | _, _ => False
      | .iaload => match st with
        | i :: a :: q => (match decide (cs_ro y pc ≠ 0 ∧ cs_ro y pc < 1000) with
          | true => c_r c a = cs_ro y pc ∧ 0 ≤ i ∧ i < c_l c a ∧ vk y d cut n l' ls (c_v c (cs_ro y pc) a i :: q) c Q
          | false => False)
        | _ => False
      | .baload => match st with
        | i :: a :: q => (match decide (cs_ro y pc ≠ 0 ∧ cs_ro y pc < 1000) with
          | true => c_r c a = cs_ro y pc ∧ 0 ≤ i ∧ i < c_l c a ∧ vk y d cut n l' ls (c_v c (cs_ro y pc) a i :: q) c Q
          | false => False)
        | _ => False
      | .laload => match st with
        | i :: a :: q => (match decide (cs_ro y pc ≠ 0 ∧ cs_ro y pc < 1000) with
          | true => c_r c a = cs_ro y pc ∧ 0 ≤ i ∧ i < c_l c a ∧ vk y d cut n l' ls (c_v c (cs_ro y pc) a i :: q) c Q
          | false => False)
        | _ => False
      | .aaload => match st with
        | i :: a :: q => (match decide (cs_ro y pc ≠ 0 ∧ cs_ro y pc < 1000) with
          | true => c_r c a = cs_ro y pc ∧ 0 ≤ i ∧ i < c_l c a ∧ vk y d cut n l' ls (c_v c (cs_ro y pc) a i :: q) c Q
          | false => False)
        | _ => False
      | .iastore => match st with
        | v :: i :: a :: q => (match decide (cs_ro y pc ≠ 0 ∧ cs_ro y pc < 1000) with
          | true => c_r c a = cs_ro y pc ∧ 0 ≤ i ∧ i < c_l c a ∧ ∀ c1, c1 = c_u c (cs_ro y pc) a i v → vk y d cut n l' ls q c1 Q
          | false => False)
        | _ => False
      | .bastore => match st with
        | v :: i :: a :: q => (match decide (cs_ro y pc ≠ 0 ∧ cs_ro y pc < 1000) with
          | true => c_r c a = cs_ro y pc ∧ 0 ≤ i ∧ i < c_l c a ∧ ∀ c1, c1 = c_u c (cs_ro y pc) a i (am_i2b v) → vk y d cut n l' ls q c1 Q
          | false => False)
        | _ => False
      | .lastore => match st with
        | v :: i :: a :: q => (match decide (cs_ro y pc ≠ 0 ∧ cs_ro y pc < 1000) with
          | true => c_r c a = cs_ro y pc ∧ 0 ≤ i ∧ i < c_l c a ∧ ∀ c1, c1 = c_u c (cs_ro y pc) a i v → vk y d cut n l' ls q c1 Q
          | false => False)
        | _ => False
      | .aastore => match st with
        | v :: i :: a :: q => (match decide (cs_ro y pc ≠ 0 ∧ cs_ro y pc < 1000) with
          | true => c_r c a = cs_ro y pc ∧ 0 ≤ i ∧ i < c_l c a ∧ ∀ c1, c1 = c_u c (cs_ro y pc) a i v → vk y d cut n l' ls q c1 Q
          | false => False)
        | _ => False
      | .arraylength => match st with
        | a :: q => (match decide (cs_ro y pc ≠ 0 ∧ cs_ro y pc < 1000) with
          | true => c_r c a = cs_ro y pc ∧ 0 ≤ c_l c a ∧ vk y d cut n l' ls (c_l c a :: q) c Q
          | false => False)
        | _ => False
      | .newarray _ => match st with
        | k :: q => (match decide (cs_ro y pc ≠ 0 ∧ cs_ro y pc < 1000) with
          | true => 0 ≤ k ∧ k ≤ 1000000 ∧ 0 ≤ c_n c ∧ ∀ c1, c1 = c_a c (cs_ro y pc) k 0 → vk y d cut n l' ls (c_n c :: q) c1 Q
          | false => False)
        | _ => False
      | .anewarray _ => match st with
        | k :: q => (match decide (cs_ro y pc ≠ 0 ∧ cs_ro y pc < 1000) with
          | true => 0 ≤ k ∧ k ≤ 1000000 ∧ 0 ≤ c_n c ∧ ∀ c1, c1 = c_a c (cs_ro y pc) k (-1) → vk y d cut n l' ls (c_n c :: q) c1 Q
          | false => False)
        | _ => False
      | .new _ => match r with
        | [ci] => 0 ≤ c_n c ∧ ∀ c1, c1 = c_o c ci.toNat → vk y d cut n l' ls (c_n c :: st) c1 Q
        | _ => False
      | .nop => match r with
        | [b] => vc_j cut (fun b => cw d y (am_blk y b) ls st c Q) (fun b => vk y d cut n (am_blk y b) ls st c Q) b.toNat
        | _ => False
      | .goto _ => match r with
        | [b] => vc_j cut (fun b => cw d y (am_blk y b) ls st c Q) (fun b => vk y d cut n (am_blk y b) ls st c Q) b.toNat
        | _ => False
      | .ifCond cd _ => match r, st with
        | [b], x :: q => (vc_c cd x 0 → vc_j cut (fun b => cw d y (am_blk y b) ls q c Q) (fun b => vk y d cut n (am_blk y b) ls q c Q) b.toNat) ∧ (¬ vc_c cd x 0 → vk y d cut n l' ls q c Q)
        | _, _ => False
      | .if_icmp cd _ => match r, st with
        | [b], z :: x :: q => (vc_c cd x z → vc_j cut (fun b => cw d y (am_blk y b) ls q c Q) (fun b => vk y d cut n (am_blk y b) ls q c Q) b.toNat) ∧ (¬ vc_c cd x z → vk y d cut n l' ls q c Q)
        | _, _ => False
      | .ifnull _ => match r, st with
        | [b], a :: q => (a = -1 → vc_j cut (fun b => cw d y (am_blk y b) ls q c Q) (fun b => vk y d cut n (am_blk y b) ls q c Q) b.toNat) ∧ (a ≠ -1 → vk y d cut n l' ls q c Q)
        | _, _ => False
      | .ifnonnull _ => match r, st with
        | [b], a :: q => (a ≠ -1 → vc_j cut (fun b => cw d y (am_blk y b) ls q c Q) (fun b => vk y d cut n (am_blk y b) ls q c Q) b.toNat) ∧ (a = -1 → vk y d cut n l' ls q c Q)
        | _, _ => False
      | .tableswitch _ lo hi _ => match r, st with
        | b :: bs, x :: q => (match decide (hi - lo < bs.length) with
          | true => (x < lo ∨ hi < x → vc_j cut (fun b => cw d y (am_blk y b) ls q c Q) (fun b => vk y d cut n (am_blk y b) ls q c Q) b.toNat) ∧ vc_t (fun b => vc_j cut (fun b => cw d y (am_blk y b) ls q c Q) (fun b => vk y d cut n (am_blk y b) ls q c Q) b.toNat) x lo bs
          | false => False)
        | _, _ => False
      | .return_ => match st with
        | [] => Q 0 c
        | _ => False
      | .ireturn => match st with
        | [x] => Q x c
        | _ => False
      | .lreturn => match st with
        | [x] => Q x c
        | _ => False
      | .areturn => match st with
        | [x] => Q x c
        | _ => False
      | .invokevirtual _ => vk_i y pc d r st c (fun st' c' => vk y d cut n l' ls st' c' Q)
      | .invokestatic _ => vk_i y pc d r st c (fun st' c' => vk y d cut n l' ls st' c' Q)
      | .invokespecial _ => vk_i y pc d r st c (fun st' c' => vk y d cut n l' ls st' c' Q)
      | _ => False
theorem cs_lo {c : cs_S} {a : Int} {ci : Nat} (h : c_r c a = 1000 + ci) : 0 ≤ h_l (cs_h c) a := by rw [cs_len_o h]; omega
theorem vk_i_ok {y pc d : Nat} {r st : List Int} {c : cs_S} {k : List Int → cs_S → Prop} {k' : List Int → lm_H → Prop} (hv : vk_i y pc d r st c k) (kk : ∀ st' c', k st' c' → k' st' (cs_h c')) : vc_i d r st (cs_h c) k' := by
  unfold vk_i at hv
  unfold vc_i
  split at hv
  · rename_i d' kd y' n
    split at hv
    · split at hv
      · rename_i a q
        refine ⟨?_, kk _ _ hv.2⟩
        exact cs_lo (ci := c_r c a - 1000) (by omega)
      · cases hv
    · split at hv
      · rename_i n' dp t sp s q
        split at hv
        · split at hv
          · rename_i e
            have e := of_decide_eq_true e
            obtain ⟨a1, a2, a3, a4, a5, a6, a7, a8, a9⟩ := hv
            dsimp only
            rw [cs_len_a rfl a1 a2, cs_len_a a3 e (Nat.mod_lt _ (by decide)), cs_cpy rfl a2 a3 (Nat.mod_lt _ (by decide))]
            exact ⟨a4, a5, a6, a7, a8, fun h1 eh => by subst eh; exact kk _ _ (a9 _ rfl)⟩
          · cases hv
        · rename_i e0
          have e0 := of_decide_eq_false e0
          split at hv
          · rename_i e
            obtain ⟨e, e2⟩ := of_decide_eq_true e
            obtain ⟨a1, a3, a4, a5, a6, a7, a8, a9⟩ := hv
            dsimp only
            rw [cs_len_a a1 e0 e2, cs_len_a a3 e (Nat.mod_lt _ (by decide)), cs_cpy a1 e2 a3 (Nat.mod_lt _ (by decide))]
            exact ⟨a4, a5, a6, a7, a8, fun h1 eh => by subst eh; exact kk _ _ (a9 _ rfl)⟩
          · cases hv
      · cases hv
    · rename_i h6 h7
      dsimp only
      split
      · exact absurd rfl h6
      · exact absurd rfl h7
      · split at hv
        · split at hv
          · exact ⟨hv.1, kk _ _ hv.2⟩
          · cases hv
        · split at hv
          · exact ⟨hv.1, hv.2.1, hv.2.2.1, kk _ _ hv.2.2.2⟩
          · cases hv
        · split at hv
          · exact ⟨hv.1, hv.2.1, hv.2.2.1, kk _ _ hv.2.2.2⟩
          · cases hv
        · rename_i h1 h2 h3
          split
          · exact absurd rfl h1
          · exact absurd rfl h2
          · exact absurd rfl h3
          · split at hv
            · cases hv
            · rename_i hd
              rw [hd]
              dsimp only
              split at hv
              · exact lm_wp.mono hv (fun v h' w => by obtain ⟨c', e, q⟩ := w; subst e; exact kk _ _ q)
              · rename_i h8
                split
                · exact absurd rfl h8
                · exact ⟨cs_lo hv.1, lm_wp.mono hv.2 (fun v h' w => by obtain ⟨c', e, q⟩ := w; subst e; exact kk _ _ q)⟩
  · cases hv
theorem vc_t_map {f g : Int → Prop} {x : Int} {bs : List Int} (hf : ∀ b, f b → g b) : ∀ {k : Int}, vc_t f x k bs → vc_t g x k bs := by
  induction bs with
  | nil => intro k h; trivial
  | cons b bs ih => intro k h; exact ⟨fun w => hf _ (h.1 w), ih h.2⟩
theorem vk_ok0 {y d : Nat} {cut : List Nat} : ∀ (n : Nat) {l : List am_I} {ls st : List Int} {c : cs_S} {Q : Int → cs_S → Prop}, vk y d cut n l ls st c Q → vc y d cut n l ls st (cs_h c) (cs_q Q) := by
  intro n
  induction n with
  | zero => intro l ls st c Q k; exact k
  | succ n ih =>
    intro l ls st c Q k
    cases l with
    | nil => cases k
    | cons i0 l =>
      obtain ⟨i, r, pc⟩ := i0
      cases i
      case iconst z =>
        exact ih k
      case bipush z =>
        exact ih k
      case sipush z =>
        exact ih k
      case lconst z =>
        exact ih k
      case aconst_null =>
        exact ih k
      case ldc x =>
        simp only [vk] at k
        simp only [vc]
        split at k
        · exact ih k
        · exact ih k
        · cases k
      case ldc_w x =>
        simp only [vk] at k
        simp only [vc]
        split at k
        · exact ih k
        · exact ih k
        · cases k
      case ldc2_w x =>
        simp only [vk] at k
        simp only [vc]
        split at k
        · exact ih k
        · cases k
      case iload_n k0 =>
        simp only [vk] at k
        simp only [vc]
        split at k
        · rename_i e
          rw [e]
          exact ih k
        · cases k
      case iload k0 =>
        simp only [vk] at k
        simp only [vc]
        split at k
        · rename_i e
          rw [e]
          exact ih k
        · cases k
      case lload_n k0 =>
        simp only [vk] at k
        simp only [vc]
        split at k
        · rename_i e
          rw [e]
          exact ih k
        · cases k
      case lload k0 =>
        simp only [vk] at k
        simp only [vc]
        split at k
        · rename_i e
          rw [e]
          exact ih k
        · cases k
      case aload_n k0 =>
        simp only [vk] at k
        simp only [vc]
        split at k
        · rename_i e
          rw [e]
          exact ih k
        · cases k
      case aload k0 =>
        simp only [vk] at k
        simp only [vc]
        split at k
        · rename_i e
          rw [e]
          exact ih k
        · cases k
      case istore_n k0 =>
        simp only [vk] at k
        simp only [vc]
        split at k
        · exact ih k
        · cases k
      case istore k0 =>
        simp only [vk] at k
        simp only [vc]
        split at k
        · exact ih k
        · cases k
      case lstore_n k0 =>
        simp only [vk] at k
        simp only [vc]
        split at k
        · exact ih k
        · cases k
      case lstore k0 =>
        simp only [vk] at k
        simp only [vc]
        split at k
        · exact ih k
        · cases k
      case astore_n k0 =>
        simp only [vk] at k
        simp only [vc]
        split at k
        · exact ih k
        · cases k
      case astore k0 =>
        simp only [vk] at k
        simp only [vc]
        split at k
        · exact ih k
        · cases k
      case iinc k0 z =>
        simp only [vk] at k
        simp only [vc]
        split at k
        · rename_i e
          rw [e]
          exact ih k
        · cases k
      case iadd =>
        simp only [vk] at k
        simp only [vc]
        split at k
        · exact ih k
        · cases k
      case isub =>
        simp only [vk] at k
        simp only [vc]
        split at k
        · exact ih k
        · cases k
      case imul =>
        simp only [vk] at k
        simp only [vc]
        split at k
        · exact ih k
        · cases k
      case idiv =>
        simp only [vk] at k
        simp only [vc]
        split at k
        · exact ⟨k.1, ih k.2⟩
        · cases k
      case iand =>
        simp only [vk] at k
        simp only [vc]
        split at k
        · exact ih k
        · cases k
      case ior =>
        simp only [vk] at k
        simp only [vc]
        split at k
        · exact ih k
        · cases k
      case ishl =>
        simp only [vk] at k
        simp only [vc]
        split at k
        · exact ih k
        · cases k
      case ishr =>
        simp only [vk] at k
        simp only [vc]
        split at k
        · exact ih k
        · cases k
      case ladd =>
        simp only [vk] at k
        simp only [vc]
        split at k
        · exact ih k
        · cases k
      case lsub =>
        simp only [vk] at k
        simp only [vc]
        split at k
        · exact ih k
        · cases k
      case lmul =>
        simp only [vk] at k
        simp only [vc]
        split at k
        · exact ih k
        · cases k
      case ldiv =>
        simp only [vk] at k
        simp only [vc]
        split at k
        · exact ⟨k.1, ih k.2⟩
        · cases k
      case lrem =>
        simp only [vk] at k
        simp only [vc]
        split at k
        · exact ⟨k.1, ih k.2⟩
        · cases k
      case land =>
        simp only [vk] at k
        simp only [vc]
        split at k
        · exact ih k
        · cases k
      case lor =>
        simp only [vk] at k
        simp only [vc]
        split at k
        · exact ih k
        · cases k
      case lxor =>
        simp only [vk] at k
        simp only [vc]
        split at k
        · exact ih k
        · cases k
      case lshl =>
        simp only [vk] at k
        simp only [vc]
        split at k
        · exact ih k
        · cases k
      case lcmp =>
        simp only [vk] at k
        simp only [vc]
        split at k
        · exact ih k
        · cases k
      case ineg =>
        simp only [vk] at k
        simp only [vc]
        split at k
        · exact ih k
        · cases k
      case lneg =>
        simp only [vk] at k
        simp only [vc]
        split at k
        · exact ih k
        · cases k
      case i2l =>
        simp only [vk] at k
        simp only [vc]
        split at k
        · exact ih k
        · cases k
      case l2i =>
        simp only [vk] at k
        simp only [vc]
        split at k
        · exact ih k
        · cases k
      case i2b =>
        simp only [vk] at k
        simp only [vc]
        split at k
        · exact ih k
        · cases k
      case i2c =>
        simp only [vk] at k
        simp only [vc]
        split at k
        · exact ih k
        · cases k
      case dup =>
        simp only [vk] at k
        simp only [vc]
        split at k
        · exact ih k
        · cases k
      case dup2 =>
        simp only [vk] at k
        simp only [vc]
        split at k
        · exact ih k
        · cases k
      case pop =>
        simp only [vk] at k
        simp only [vc]
        split at k
        · exact ih k
        · cases k
      case pop2 =>
        simp only [vk] at k
        simp only [vc]
        split at k
        · exact ih k
        · cases k
      case getfield x =>
        simp only [vk] at k
        simp only [vc]
        split at k
        · rename_i ci k0 a0 q
          split at k
          · rename_i e
            have e := of_decide_eq_true e
            dsimp only
            refine ⟨cs_lo k.1, ?_⟩
            have e2 := cs_val_o k.1 k0.toNat
            rw [Int.toNat_of_nonneg e] at e2
            rw [e2]
            exact ih k.2
          · cases k
        · cases k
      case putfield x =>
        simp only [vk] at k
        simp only [vc]
        split at k
        · rename_i ci k0 v a0 q
          split at k
          · rename_i e
            have e := of_decide_eq_true e
            dsimp only
            refine ⟨cs_lo k.1, fun h1 eh => ?_⟩
            have e2 := cs_put k.1 k0.toNat v
            rw [Int.toNat_of_nonneg e] at e2
            rw [e2] at eh
            subst eh
            exact ih (k.2 _ rfl)
          · cases k
        · cases k
      case iaload =>
        simp only [vk] at k
        simp only [vc]
        split at k
        · rename_i x a0 q
          split at k
          · rename_i e
            obtain ⟨e1, e2⟩ := of_decide_eq_true e
            dsimp only
            rw [cs_len_a k.1 e1 e2, cs_val_a k.1 e2]
            exact ⟨k.2.1, k.2.2.1, ih k.2.2.2⟩
          · cases k
        · cases k
      case baload =>
        simp only [vk] at k
        simp only [vc]
        split at k
        · rename_i x a0 q
          split at k
          · rename_i e
            obtain ⟨e1, e2⟩ := of_decide_eq_true e
            dsimp only
            rw [cs_len_a k.1 e1 e2, cs_val_a k.1 e2]
            exact ⟨k.2.1, k.2.2.1, ih k.2.2.2⟩
          · cases k
        · cases k
      case laload =>
        simp only [vk] at k
        simp only [vc]
        split at k
        · rename_i x a0 q
          split at k
          · rename_i e
            obtain ⟨e1, e2⟩ := of_decide_eq_true e
            dsimp only
            rw [cs_len_a k.1 e1 e2, cs_val_a k.1 e2]
            exact ⟨k.2.1, k.2.2.1, ih k.2.2.2⟩
          · cases k
        · cases k
      case aaload =>
        simp only [vk] at k
        simp only [vc]
        split at k
        · rename_i x a0 q
          split at k
          · rename_i e
            obtain ⟨e1, e2⟩ := of_decide_eq_true e
            dsimp only
            rw [cs_len_a k.1 e1 e2, cs_val_a k.1 e2]
            exact ⟨k.2.1, k.2.2.1, ih k.2.2.2⟩
          · cases k
        · cases k
      case iastore =>
        simp only [vk] at k
        simp only [vc]
        split at k
        · rename_i v x a0 q
          split at k
          · rename_i e
            obtain ⟨e1, e2⟩ := of_decide_eq_true e
            dsimp only
            rw [cs_len_a k.1 e1 e2]
            refine ⟨k.2.1, k.2.2.1, fun h1 eh => ?_⟩
            rw [cs_sto k.1 e2] at eh
            subst eh
            exact ih (k.2.2.2 _ rfl)
          · cases k
        · cases k
      case bastore =>
        simp only [vk] at k
        simp only [vc]
        split at k
        · rename_i v x a0 q
          split at k
          · rename_i e
            obtain ⟨e1, e2⟩ := of_decide_eq_true e
            dsimp only
            rw [cs_len_a k.1 e1 e2]
            refine ⟨k.2.1, k.2.2.1, fun h1 eh => ?_⟩
            rw [cs_sto k.1 e2] at eh
            subst eh
            exact ih (k.2.2.2 _ rfl)
          · cases k
        · cases k
      case lastore =>
        simp only [vk] at k
        simp only [vc]
        split at k
        · rename_i v x a0 q
          split at k
          · rename_i e
            obtain ⟨e1, e2⟩ := of_decide_eq_true e
            dsimp only
            rw [cs_len_a k.1 e1 e2]
            refine ⟨k.2.1, k.2.2.1, fun h1 eh => ?_⟩
            rw [cs_sto k.1 e2] at eh
            subst eh
            exact ih (k.2.2.2 _ rfl)
          · cases k
        · cases k
      case aastore =>
        simp only [vk] at k
        simp only [vc]
        split at k
        · rename_i v x a0 q
          split at k
          · rename_i e
            obtain ⟨e1, e2⟩ := of_decide_eq_true e
            dsimp only
            rw [cs_len_a k.1 e1 e2]
            refine ⟨k.2.1, k.2.2.1, fun h1 eh => ?_⟩
            rw [cs_sto k.1 e2] at eh
            subst eh
            exact ih (k.2.2.2 _ rfl)
          · cases k
        · cases k
      case arraylength =>
        simp only [vk] at k
        simp only [vc]
        split at k
        · rename_i a0 q
          split at k
          · rename_i e
            obtain ⟨e1, e2⟩ := of_decide_eq_true e
            dsimp only
            rw [cs_len_a k.1 e1 e2]
            exact ⟨k.2.1, ih k.2.2⟩
          · cases k
        · cases k
      case newarray x =>
        simp only [vk] at k
        simp only [vc]
        split at k
        · rename_i k0 q
          split at k
          · rename_i e
            obtain ⟨e1, e2⟩ := of_decide_eq_true e
            dsimp only
            refine ⟨k.1, k.2.1, fun h1 eh => ?_⟩
            rw [cs_arr k.2.2.1 e1 e2] at eh
            subst eh
            exact ih (k.2.2.2 _ rfl)
          · cases k
        · cases k
      case anewarray x =>
        simp only [vk] at k
        simp only [vc]
        split at k
        · rename_i k0 q
          split at k
          · rename_i e
            obtain ⟨e1, e2⟩ := of_decide_eq_true e
            dsimp only
            refine ⟨k.1, k.2.1, fun h1 eh => ?_⟩
            rw [cs_arr k.2.2.1 e1 e2] at eh
            subst eh
            exact ih (k.2.2.2 _ rfl)
          · cases k
        · cases k
      case new x =>
        simp only [vk] at k
        simp only [vc]
        split at k
        · rename_i ci
          dsimp only
          intro h1 eh
          rw [cs_new k.1] at eh
          subst eh
          exact ih (k.2 _ rfl)
        · cases k
      case nop =>
        simp only [vk] at k
        simp only [vc]
        split at k
        · exact vc_j_map k (fun w => w) (fun w => ih w)
        · cases k
      case goto x =>
        simp only [vk] at k
        simp only [vc]
        split at k
        · exact vc_j_map k (fun w => w) (fun w => ih w)
        · cases k
      case ifCond cd x =>
        simp only [vk] at k
        simp only [vc]
        split at k
        · exact ⟨fun w => vc_j_map (k.1 w) (fun w => w) (fun w => ih w), fun w => ih (k.2 w)⟩
        · cases k
      case if_icmp cd x =>
        simp only [vk] at k
        simp only [vc]
        split at k
        · exact ⟨fun w => vc_j_map (k.1 w) (fun w => w) (fun w => ih w), fun w => ih (k.2 w)⟩
        · cases k
      case ifnull x =>
        simp only [vk] at k
        simp only [vc]
        split at k
        · exact ⟨fun w => vc_j_map (k.1 w) (fun w => w) (fun w => ih w), fun w => ih (k.2 w)⟩
        · cases k
      case ifnonnull x =>
        simp only [vk] at k
        simp only [vc]
        split at k
        · exact ⟨fun w => vc_j_map (k.1 w) (fun w => w) (fun w => ih w), fun w => ih (k.2 w)⟩
        · cases k
      case tableswitch df lo hi os =>
        simp only [vk] at k
        simp only [vc]
        split at k
        · rename_i b bs x q
          split at k
          · rename_i hd
            dsimp only
            rw [hd]
            exact ⟨fun w => vc_j_map (k.1 w) (fun w => w) (fun w => ih w), vc_t_map (fun b w => vc_j_map w (fun w => w) (fun w => ih w)) k.2⟩
          · cases k
        · cases k
      case return_ =>
        simp only [vk] at k
        simp only [vc]
        split at k
        · exact ⟨c, rfl, k⟩
        · cases k
      case ireturn =>
        simp only [vk] at k
        simp only [vc]
        split at k
        · exact ⟨c, rfl, k⟩
        · cases k
      case lreturn =>
        simp only [vk] at k
        simp only [vc]
        split at k
        · exact ⟨c, rfl, k⟩
        · cases k
      case areturn =>
        simp only [vk] at k
        simp only [vc]
        split at k
        · exact ⟨c, rfl, k⟩
        · cases k
      case invokevirtual x =>
        simp only [vk] at k
        simp only [vc]
        exact vk_i_ok k (fun st' c' w => ih w)
      case invokestatic x =>
        simp only [vk] at k
        simp only [vc]
        exact vk_i_ok k (fun st' c' w => ih w)
      case invokespecial x =>
        simp only [vk] at k
        simp only [vc]
        exact vk_i_ok k (fun st' c' w => ih w)
      all_goals (simp only [vk] at k)
theorem vk_ok {y d : Nat} {cut : List Nat} (n : Nat) {l : List am_I} {ls st : List Int} {c : cs_S} {Q : Int → cs_S → Prop} (k : vk y d cut n l ls st c Q) : cw d y l ls st c Q := vc_ok n (vk_ok0 n k)
