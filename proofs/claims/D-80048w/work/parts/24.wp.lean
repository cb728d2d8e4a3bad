set_option maxRecDepth 100000
/-! more fuel is no harm -/
theorem am_kd_le (i : Instr) : am_kd i ≤ 3 := by unfold am_kd; split <;> decide
theorem am_kd3 {i : Instr} (h0 : am_kd i = 0 → False) (h1 : am_kd i = 1 → False) (h2 : am_kd i = 2 → False) : am_kd i = 3 := by
  have := am_kd_le i
  have h0' : am_kd i ≠ 0 := h0
  have h1' : am_kd i ≠ 1 := h1
  have h2' : am_kd i ≠ 2 := h2
  omega
theorem lm_more1 : ∀ (f d y : Nat) (l : List am_I) (ls st : List Int) (h : lm_H) (r : Int × lm_H), lm_run f d y l ls st h = some r → lm_run (f + 1) d y l ls st h = some r := by
  intro f
  induction f with
  | zero => intro d y l ls st h r hr; cases hr
  | succ f ih =>
    intro d y l ls st h r hr
    cases l with
    | nil => cases hr
    | cons c l' =>
      obtain ⟨i, r0, pc⟩ := c
      unfold lm_run at hr ⊢
      dsimp only at hr ⊢
      split at hr
      · split at hr
        · exact ih _ _ _ _ _ _ _ hr
        · cases hr
      · split at hr
        · exact ih _ _ _ _ _ _ _ hr
        · exact ih _ _ _ _ _ _ _ hr
        · cases hr
      · exact hr
      · split at hr
        · rename_i d' kd y' n
          split at hr
          · rename_i c0
            rw [if_pos c0]
            split at hr
            · split at hr
              · rename_i c1
                rw [if_pos c1]
                exact ih _ _ _ _ _ _ _ hr
              · cases hr
            · cases hr
          · rename_i c0
            rw [if_neg c0]
            split at hr
            · rename_i c1
              rw [if_pos c1]
              split at hr
              · exact ih _ _ _ _ _ _ _ hr
              · cases hr
            · rename_i c1
              rw [if_neg c1]
              split at hr
              · rename_i c2
                rw [if_pos c2]
                split at hr
                · exact ih _ _ _ _ _ _ _ hr
                · cases hr
              · rename_i c2
                rw [if_neg c2]
                split at hr
                · rename_i c3
                  rw [if_pos c3]
                  split at hr
                  · rename_i e; rw [ih _ _ _ _ _ _ _ e]; exact ih _ _ _ _ _ _ _ hr
                  · cases hr
                · cases hr
        · cases hr
theorem lm_more {f g d y : Nat} {l : List am_I} {ls st : List Int} {h : lm_H} {r : Int × lm_H} (hr : lm_run f d y l ls st h = some r) (hg : f ≤ g) : lm_run g d y l ls st h = some r := by
  obtain ⟨k, rfl⟩ := Nat.le.dest hg
  induction k with
  | zero => exact hr
  | succ k ih => exact lm_more1 _ _ _ _ _ _ _ _ (ih (Nat.le_add_right _ _))
def lm_wp (d y : Nat) (l : List am_I) (ls st : List Int) (h : lm_H) (Q : Int → lm_H → Prop) : Prop := ∃ (f : Nat) (v : Int) (h' : lm_H), lm_run f d y l ls st h = some (v, h') ∧ Q v h'
theorem lm_wp.mono {d y : Nat} {l : List am_I} {ls st : List Int} {h : lm_H} {Q Q' : Int → lm_H → Prop} (k : lm_wp d y l ls st h Q) (hq : ∀ v h', Q v h' → Q' v h') : lm_wp d y l ls st h Q' := by
  obtain ⟨f, v, h', hr, q⟩ := k
  exact ⟨f, v, h', hr, hq v h' q⟩
/-- one run: what holds behind it by two ways holds together; for all of a family -/
theorem lm_wp.all {α : Type} {d y : Nat} {l : List am_I} {ls st : List Int} {h : lm_H} {Q : Int → lm_H → Prop} {Q' : α → Int → lm_H → Prop} (k : lm_wp d y l ls st h Q) (hq : ∀ a, lm_wp d y l ls st h (Q' a)) : lm_wp d y l ls st h (fun v h' => Q v h' ∧ ∀ a, Q' a v h') := by
  obtain ⟨f, v, h', hr, q⟩ := k
  refine ⟨f, v, h', hr, q, fun a => ?_⟩
  obtain ⟨g, v2, h2, hr2, q2⟩ := hq a
  have e1 := lm_more hr (Nat.le_max_left f g)
  have e2 := lm_more hr2 (Nat.le_max_right f g)
  rw [e1] at e2
  cases e2
  exact q2
theorem lm_wp.st {d y : Nat} {i : Instr} {r : List Int} {pc : Nat} {l : List am_I} {ls st ls' st' : List Int} {h h' : lm_H} {Q : Int → lm_H → Prop} (hk : am_kd i = 0) (he : lm_st i r ls st h = some (ls', st', h')) (k : lm_wp d y l ls' st' h' Q) : lm_wp d y ((i, r, pc) :: l) ls st h Q := by
  obtain ⟨f, v, h2, hr, q⟩ := k
  refine ⟨f + 1, v, h2, ?_, q⟩
  unfold lm_run
  dsimp only
  rw [hk]
  try dsimp only
  rw [he]
  exact hr
theorem lm_wp.jm {d y : Nat} {i : Instr} {r : List Int} {pc : Nat} {l : List am_I} {ls st st' : List Int} {h : lm_H} {b : Int} {Q : Int → lm_H → Prop} (hk : am_kd i = 1) (he : lm_br i r st = some (some b, st')) (k : lm_wp d y (am_blk y b.toNat) ls st' h Q) : lm_wp d y ((i, r, pc) :: l) ls st h Q := by
  obtain ⟨f, v, h2, hr, q⟩ := k
  refine ⟨f + 1, v, h2, ?_, q⟩
  unfold lm_run
  dsimp only
  rw [hk]
  try dsimp only
  rw [he]
  exact hr
theorem lm_wp.go {d y : Nat} {i : Instr} {r : List Int} {pc : Nat} {l : List am_I} {ls st st' : List Int} {h : lm_H} {Q : Int → lm_H → Prop} (hk : am_kd i = 1) (he : lm_br i r st = some (none, st')) (k : lm_wp d y l ls st' h Q) : lm_wp d y ((i, r, pc) :: l) ls st h Q := by
  obtain ⟨f, v, h2, hr, q⟩ := k
  refine ⟨f + 1, v, h2, ?_, q⟩
  unfold lm_run
  dsimp only
  rw [hk]
  try dsimp only
  rw [he]
  exact hr
theorem lm_wp.rt {d y : Nat} {i : Instr} {r : List Int} {pc : Nat} {l : List am_I} {ls st : List Int} {h : lm_H} {v : Int} {Q : Int → lm_H → Prop} (hk : am_kd i = 2) (he : lm_ret i st h = some (v, h)) (k : Q v h) : lm_wp d y ((i, r, pc) :: l) ls st h Q := by
  refine ⟨1, v, h, ?_, k⟩
  unfold lm_run
  dsimp only
  rw [hk]
  try dsimp only
  rw [he]
  rfl
/-- conditions -/
def vc_c (c : ClassFile.Cond) (x y : Int) : Prop := match c with
  | .eq => x = y
  | .ne => x ≠ y
  | .lt => x < y
  | .ge => y ≤ x
  | .gt => y < x
  | .le => x ≤ y
theorem vc_c_iff (c : ClassFile.Cond) (x y : Int) : vc_c c x y ↔ am_cmp c x y = true := by
  cases c <;> simp [vc_c, am_cmp]
def vc_j (cut : List Nat) (a b : Nat → Prop) (k : Nat) : Prop := match cut.contains k with
  | true => a k
  | false => b k
def vc_t (f : Int → Prop) (x : Int) : Int → List Int → Prop
  | _, [] => True
  | k, b :: bs => (x = k → f b) ∧ vc_t f x (k + 1) bs
def am_idv (a b : Int) : Int := (Int32.ofInt a / Int32.ofInt b).toInt
def am_ldv (a b : Int) : Int := (Int64.ofInt a / Int64.ofInt b).toInt
def am_lrm (a b : Int) : Int := (Int64.ofInt a - Int64.ofInt a / Int64.ofInt b * Int64.ofInt b).toInt
/-- calls -/
def vc_i (d : Nat) (r st : List Int) (h : lm_H) (k : List Int → lm_H → Prop) : Prop := match d, r with
  | d' + 1, [kd, y', n] => match kd with
    | 6 => match st with
      | a :: q => 0 ≤ h_l h a ∧ k q h
      | _ => False
    | 7 => match st with
      | n :: dp :: t :: sp :: s :: q => 0 ≤ n ∧ 0 ≤ sp ∧ 0 ≤ dp ∧ sp + n ≤ h_l h s ∧ dp + n ≤ h_l h t ∧ ∀ h1, h1 = h_c h s sp t dp n → k q h1
      | _ => False
    | _ => match y' with
      | 292 => match n, st with
        | 1, s :: q => st_is s ∧ k (st_len s :: q) h
        | _, _ => False
      | 295 => match n, st with
        | 2, i :: s :: q => st_is s ∧ 0 ≤ i ∧ i < st_len s ∧ k (st_at s i :: q) h
        | _, _ => False
      | 289 => match n, st with
        | 2, c :: s :: q => st_is s ∧ 0 ≤ c ∧ c ≤ 65535 ∧ k (st_idx s c :: q) h
        | _, _ => False
      | _ => match decide (289 ≤ y' ∧ y' ≤ 300) with
        | true => False
        | false => match kd with
          | 1 => lm_wp d' y'.toNat (am_blk y'.toNat 0) (lm_ent y'.toNat (st.take n.toNat).reverse) [] h (fun v h' => k (lm_push y'.toNat v (st.drop n.toNat)) h')
          | _ => 0 ≤ h_l h ((st.take n.toNat).reverse.headD (-9)) ∧ lm_wp d' y'.toNat (am_blk y'.toNat 0) (lm_ent y'.toNat (st.take n.toNat).reverse) [] h (fun v h' => k (lm_push y'.toNat v (st.drop n.toNat)) h')
  | _, _ => False
/-- the formula of a piece of code: loops and joins are cut at the blocks named -/
def vc (y d : Nat) (cut : List Nat) : Nat → List am_I → List Int → List Int → lm_H → (Int → lm_H → Prop) → Prop
  | 0, l, ls, st, h, Q => lm_wp d y l ls st h Q
  | n + 1, l, ls, st, h, Q => match l with
    | [] => False
    | (i, r, _) :: l' => match i with
      | .iconst c => vc y d cut n l' ls (c :: st) h Q
      | .bipush c => vc y d cut n l' ls (c :: st) h Q
      | .sipush c => vc y d cut n l' ls (c :: st) h Q
      | .lconst c => vc y d cut n l' ls ((c.val : Int) :: st) h Q
      | .ldc _ => match r with
        | [0, c] => vc y d cut n l' ls (c :: st) h Q
        | [2, c] => vc y d cut n l' ls ((-10 - 2 * c) :: st) h Q
        | _ => False
      | .ldc_w _ => match r with
        | [0, c] => vc y d cut n l' ls (c :: st) h Q
        | [2, c] => vc y d cut n l' ls ((-10 - 2 * c) :: st) h Q
        | _ => False
      | .ldc2_w _ => match r with
        | [c] => vc y d cut n l' ls (c :: st) h Q
        | _ => False
      | .aconst_null => vc y d cut n l' ls (-1 :: st) h Q
      | .iload_n k => match ls[k.val]? with
        | some x => vc y d cut n l' ls (x :: st) h Q
        | none => False
      | .iload k => match ls[k]? with
        | some x => vc y d cut n l' ls (x :: st) h Q
        | none => False
      | .lload_n k => match ls[k.val]? with
        | some x => vc y d cut n l' ls (x :: st) h Q
        | none => False
      | .lload k => match ls[k]? with
        | some x => vc y d cut n l' ls (x :: st) h Q
        | none => False
      | .aload_n k => match ls[k.val]? with
        | some x => vc y d cut n l' ls (x :: st) h Q
        | none => False
      | .aload k => match ls[k]? with
        | some x => vc y d cut n l' ls (x :: st) h Q
        | none => False
      | .istore_n k => match st with
        | x :: q => vc y d cut n l' (ls.set k.val x) q h Q
        | [] => False
      | .istore k => match st with
        | x :: q => vc y d cut n l' (ls.set k x) q h Q
        | [] => False
      | .lstore_n k => match st with
        | x :: q => vc y d cut n l' (ls.set k.val x) q h Q
        | [] => False
      | .lstore k => match st with
        | x :: q => vc y d cut n l' (ls.set k x) q h Q
        | [] => False
      | .astore_n k => match st with
        | x :: q => vc y d cut n l' (ls.set k.val x) q h Q
        | [] => False
      | .astore k => match st with
        | x :: q => vc y d cut n l' (ls.set k x) q h Q
        | [] => False
      | .iinc k c => match ls[k]? with
        | some x => vc y d cut n l' (ls.set k (am_w (x + c))) st h Q
        | none => False
      | .iadd => match st with
        | b :: a :: q => vc y d cut n l' ls (am_w (a + b) :: q) h Q
        | _ => False
      | .isub => match st with
        | b :: a :: q => vc y d cut n l' ls (am_w (a - b) :: q) h Q
        | _ => False
      | .imul => match st with
        | b :: a :: q => vc y d cut n l' ls (am_w (a * b) :: q) h Q
        | _ => False
      | .idiv => match st with
        | b :: a :: q => b ≠ 0 ∧ vc y d cut n l' ls (am_idv a b :: q) h Q
        | _ => False
      | .iand => match st with
        | b :: a :: q => vc y d cut n l' ls (am_and a b :: q) h Q
        | _ => False
      | .ior => match st with
        | b :: a :: q => vc y d cut n l' ls (am_or a b :: q) h Q
        | _ => False
      | .ishl => match st with
        | b :: a :: q => vc y d cut n l' ls (am_shl a b :: q) h Q
        | _ => False
      | .ishr => match st with
        | b :: a :: q => vc y d cut n l' ls (am_shr a b :: q) h Q
        | _ => False
      | .ladd => match st with
        | b :: a :: q => vc y d cut n l' ls (am_x (a + b) :: q) h Q
        | _ => False
      | .lsub => match st with
        | b :: a :: q => vc y d cut n l' ls (am_x (a - b) :: q) h Q
        | _ => False
      | .lmul => match st with
        | b :: a :: q => vc y d cut n l' ls (am_x (a * b) :: q) h Q
        | _ => False
      | .ldiv => match st with
        | b :: a :: q => b ≠ 0 ∧ vc y d cut n l' ls (am_ldv a b :: q) h Q
        | _ => False
      | .lrem => match st with
        | b :: a :: q => b ≠ 0 ∧ vc y d cut n l' ls (am_lrm a b :: q) h Q
        | _ => False
      | .land => match st with
        | b :: a :: q => vc y d cut n l' ls (am_land a b :: q) h Q
        | _ => False
      | .lor => match st with
        | b :: a :: q => vc y d cut n l' ls (am_lor a b :: q) h Q
        | _ => False
      | .lxor => match st with
        | b :: a :: q => vc y d cut n l' ls (am_lxor a b :: q) h Q
        | _ => False
      | .lshl => match st with
        | b :: a :: q => vc y d cut n l' ls (am_lshl a b :: q) h Q
        | _ => False
      | .lcmp => match st with
        | b :: a :: q => vc y d cut n l' ls (am_lcmp a b :: q) h Q
        | _ => False
      | .ineg => match st with
        | a :: q => vc y d cut n l' ls (am_w (-a) :: q) h Q
        | _ => False
      | .lneg => match st with
        | a :: q => vc y d cut n l' ls (am_x (-a) :: q) h Q
        | _ => False
      | .i2l => match st with
        | a :: q => vc y d cut n l' ls (a :: q) h Q
        | _ => False
      | .l2i => match st with
        | a :: q => vc y d cut n l' ls (am_w a :: q) h Q
        | _ => False
      | .i2b => match st with
        | a :: q => vc y d cut n l' ls (am_i2b a :: q) h Q
        | _ => False
      | .i2c => match st with
        | a :: q => vc y d cut n l' ls (am_i2c a :: q) h Q
        | _ => False
      | .dup => match st with
        | v :: q => vc y d cut n l' ls (v :: v :: q) h Q
        | _ => False
      | .dup2 => match st with
        | v :: w :: q => vc y d cut n l' ls (v :: w :: v :: w :: q) h Q
        | _ => False
      | .pop => match st with
        | _ :: q => vc y d cut n l' ls q h Q
        | _ => False
      | .pop2 => match st with
        | _ :: q => vc y d cut n l' ls q h Q
        | _ => False
      | .getfield _ => match r, st with
        | [_, k], a :: q => 0 ≤ h_l h a ∧ vc y d cut n l' ls (h_v h a k :: q) h Q
        | _, _ => False
      | .putfield _ => match r, st with
        | [_, k], v :: a :: q => 0 ≤ h_l h a ∧ ∀ h1, h1 = h_s h a k v → vc y d cut n l' ls q h1 Q
        | _, _ => False
      | .iaload => match st with
        | i :: a :: q => 0 ≤ i ∧ i < h_l h a ∧ vc y d cut n l' ls (h_v h a i :: q) h Q
        | _ => False
      | .baload => match st with
        | i :: a :: q => 0 ≤ i ∧ i < h_l h a ∧ vc y d cut n l' ls (h_v h a i :: q) h Q
        | _ => False
      | .laload => match st with
        | i :: a :: q => 0 ≤ i ∧ i < h_l h a ∧ vc y d cut n l' ls (h_v h a i :: q) h Q
        | _ => False
      | .aaload => match st with
        | i :: a :: q => 0 ≤ i ∧ i < h_l h a ∧ vc y d cut n l' ls (h_v h a i :: q) h Q
        | _ => False
      | .iastore => match st with
        | v :: i :: a :: q => 0 ≤ i ∧ i < h_l h a ∧ ∀ h1, h1 = h_s h a i v → vc y d cut n l' ls q h1 Q
        | _ => False
      | .bastore => match st with
        | v :: i :: a :: q => 0 ≤ i ∧ i < h_l h a ∧ ∀ h1, h1 = h_s h a i (am_i2b v) → vc y d cut n l' ls q h1 Q
        | _ => False
      | .lastore => match st with
        | v :: i :: a :: q => 0 ≤ i ∧ i < h_l h a ∧ ∀ h1, h1 = h_s h a i v → vc y d cut n l' ls q h1 Q
        | _ => False
      | .aastore => match st with
        | v :: i :: a :: q => 0 ≤ i ∧ i < h_l h a ∧ ∀ h1, h1 = h_s h a i v → vc y d cut n l' ls q h1 Q
        | _ => False
      | .arraylength => match st with
        | a :: q => 0 ≤ h_l h a ∧ vc y d cut n l' ls (h_l h a :: q) h Q
        | _ => False
      | .newarray _ => match st with
        | k :: q => 0 ≤ k ∧ k ≤ 1000000 ∧ ∀ h1, h1 = h_w h k (fun _ => 0) → vc y d cut n l' ls (h_n h :: q) h1 Q
        | _ => False
      | .anewarray _ => match st with
        | k :: q => 0 ≤ k ∧ k ≤ 1000000 ∧ ∀ h1, h1 = h_w h k (fun _ => -1) → vc y d cut n l' ls (h_n h :: q) h1 Q
        | _ => False
      | .new _ => match r with
        | [ci] => ∀ h1, h1 = h_w h (am_fn ci.toNat) (am_z ci.toNat) → vc y d cut n l' ls (h_n h :: st) h1 Q
        | _ => False
      | .nop => match r with
        | [b] => vc_j cut (fun b => lm_wp d y (am_blk y b) ls st h Q) (fun b => vc y d cut n (am_blk y b) ls st h Q) b.toNat
        | _ => False
      | .goto _ => match r with
        | [b] => vc_j cut (fun b => lm_wp d y (am_blk y b) ls st h Q) (fun b => vc y d cut n (am_blk y b) ls st h Q) b.toNat
        | _ => False
      | .ifCond c _ => match r, st with
        | [b], x :: q => (vc_c c x 0 → vc_j cut (fun b => lm_wp d y (am_blk y b) ls q h Q) (fun b => vc y d cut n (am_blk y b) ls q h Q) b.toNat) ∧ (¬ vc_c c x 0 → vc y d cut n l' ls q h Q)
        | _, _ => False
      | .if_icmp c _ => match r, st with
        | [b], z :: x :: q => (vc_c c x z → vc_j cut (fun b => lm_wp d y (am_blk y b) ls q h Q) (fun b => vc y d cut n (am_blk y b) ls q h Q) b.toNat) ∧ (¬ vc_c c x z → vc y d cut n l' ls q h Q)
        | _, _ => False
      | .ifnull _ => match r, st with
        | [b], a :: q => (a = -1 → vc_j cut (fun b => lm_wp d y (am_blk y b) ls q h Q) (fun b => vc y d cut n (am_blk y b) ls q h Q) b.toNat) ∧ (a ≠ -1 → vc y d cut n l' ls q h Q)
        | _, _ => False
      | .ifnonnull _ => match r, st with
        | [b], a :: q => (a ≠ -1 → vc_j cut (fun b => lm_wp d y (am_blk y b) ls q h Q) (fun b => vc y d cut n (am_blk y b) ls q h Q) b.toNat) ∧ (a = -1 → vc y d cut n l' ls q h Q)
        | _, _ => False
      | .tableswitch _ lo hi _ => match r, st with
        | b :: bs, x :: q => (match decide (hi - lo < bs.length) with
          | true => (x < lo ∨ hi < x → vc_j cut (fun b => lm_wp d y (am_blk y b) ls q h Q) (fun b => vc y d cut n (am_blk y b) ls q h Q) b.toNat) ∧ vc_t (fun b => vc_j cut (fun b => lm_wp d y (am_blk y b) ls q h Q) (fun b => vc y d cut n (am_blk y b) ls q h Q) b.toNat) x lo bs
          | false => False)
        | _, _ => False
      | .return_ => match st with
        | [] => Q 0 h
        | _ => False
      | .ireturn => match st with
        | [x] => Q x h
        | _ => False
      | .lreturn => match st with
        | [x] => Q x h
        | _ => False
      | .areturn => match st with
        | [x] => Q x h
        | _ => False
      | .invokevirtual _ => vc_i d r st h (fun st' h' => vc y d cut n l' ls st' h' Q)
      | .invokestatic _ => vc_i d r st h (fun st' h' => vc y d cut n l' ls st' h' Q)
      | .invokespecial _ => vc_i d r st h (fun st' h' => vc y d cut n l' ls st' h' Q)
      | _ => False
