set_option maxRecDepth 100000
/-! the model's world: a state is what its fields (index 0) and arrays hold -/
abbrev ms_S : Type := Nat → Int → Int
def ms_ads : List (Option Int) := [some 160, none, some 161, none, none, some 162, some 163, some 164, some 165, some 166, none, none, some 167, some 168, some 169, some 170, some 171, some 172, none, none, none, none, none, some 173, some 174, some 175, some 176, some 177, some 178, some 179, some 180, some 181, some 182, some 183, none, some 184, some 185, some 186, some 187, some 188, some 189, some 190, some 191, some 192, some 193, some 194, some 195, some 196, some 197, some 198, some 199, some 200, some 201, some 202, some 203, some 204, some 205, some 206, some 207, none, some 208, some 209, some 210, some 211, some 212, some 213, some 214, some 215, some 216, none, none, none, none, none, none, none, none, none, none, some 217, some 218, none, none, some 219, none, some 220, some 221, none, some 222, some 223, some 224, none, none, none, none, none, none, none, some 225, some 226, none, none, some 227, some 228, none, some 229, some 230, none, some 231, some 232, none, some 233, some 234, some 235, some 236]
def ms_ars : List (Nat × Int) := [(0, 2000), (2, 2000), (5, 6), (6, 48), (7, 48), (8, 192), (9, 192), (12, 4), (13, 4), (14, 2001), (15, 2001), (16, 2001), (17, 2001), (23, 121), (24, 121), (25, 121), (26, 121), (27, 121), (28, 121), (29, 121), (30, 121), (31, 121), (32, 121), (33, 121), (35, 60), (36, 60), (37, 60), (38, 60), (39, 60), (40, 60), (41, 60), (42, 60), (43, 60), (44, 480), (45, 480), (46, 480), (47, 480), (48, 480), (49, 180), (50, 180), (51, 180), (52, 180), (53, 180), (54, 180), (55, 180), (56, 180), (57, 180), (58, 180), (60, 60), (61, 300), (62, 300), (63, 300), (64, 60), (65, 60), (66, 480), (67, 480), (68, 60), (79, 180), (80, 480), (83, 2000), (85, 400000), (86, 400000), (88, 400), (89, 400), (90, 400), (98, 600), (99, 700), (102, 4800), (103, 4800), (105, 4800), (106, 4800), (108, 4800), (109, 4800), (111, 1300), (112, 10400), (113, 10400), (114, 700)]
def ms_ar (a : Int) : Option (Nat × Int) := match decide (160 ≤ a) with
  | true => ms_ars[(a - 160).toNat]?
  | false => none
def ms_f (s : ms_S) (k : Int) : Int := match decide (0 ≤ k) with
  | true => (match ms_ads.getD k.toNat none with
    | some a => a
    | none => s k.toNat 0)
  | false => 0
def ms_u (s : ms_S) (f : Nat) (i v : Int) : ms_S := fun g j => if g = f ∧ j = i then v else s g j
def ms_ln (a : Int) : Int := if a = 159 then 115 else match ms_ar a with
  | some (_, n) => n
  | none => -1
def ms_vl (s : ms_S) (a i : Int) : Int := if a = 159 then ms_f s i else match ms_ar a with
  | some (f, _) => s f i
  | none => 0
def ms_h (n m : Int) (s : ms_S) : lm_H := (n, m, ms_ln, ms_vl s)
def ms_q (n m : Int) (Q : Int → ms_S → Prop) (v : Int) (h : lm_H) : Prop := ∃ s, h = ms_h n m s ∧ Q v s
def mw (d y : Nat) (l : List am_I) (ls st : List Int) (s : ms_S) (Q : Int → ms_S → Prop) : Prop := ∀ n m, lm_wp d y l ls st (ms_h n m s) (ms_q n m Q)
theorem mw.mono {d y : Nat} {l : List am_I} {ls st : List Int} {s : ms_S} {Q Q' : Int → ms_S → Prop} (k : mw d y l ls st s Q) (hq : ∀ v s', Q v s' → Q' v s') : mw d y l ls st s Q' :=
  fun n m => (k n m).mono (fun v h' w => by obtain ⟨s', e, q⟩ := w; exact ⟨s', e, hq v s' q⟩)
theorem ms_u_eq (s : ms_S) (f : Nat) (i v : Int) : ms_u s f i v f i = v := if_pos ⟨rfl, rfl⟩
theorem ms_u_f {s : ms_S} {f g : Nat} (i v j : Int) (h : g ≠ f) : ms_u s f i v g j = s g j := if_neg (fun w => h w.1)
theorem ms_u_i {s : ms_S} {f : Nat} {i j : Int} (v : Int) (h : j ≠ i) : ms_u s f i v f j = s f j := if_neg (fun w => h w.2)
theorem ms_u_if (s : ms_S) (f : Nat) (i v j : Int) : ms_u s f i v f j = if j = i then v else s f j := by
  unfold ms_u
  by_cases c : j = i
  · rw [if_pos ⟨rfl, c⟩, if_pos c]
  · rw [if_neg (fun w => c w.2), if_neg c]
theorem ms_arx : (List.range 77).all (fun j => decide (∃ e ∈ ms_ars[j]?, ms_ads.getD e.1 none = some (160 + (j : Int)) ∧ 0 ≤ e.2)) = true := by decide +kernel
theorem ms_ar_ad {a : Int} {f : Nat} {n : Int} (h : ms_ar a = some (f, n)) : ms_ads.getD f none = some a ∧ 0 ≤ n ∧ a ≠ 159 := by
  unfold ms_ar at h
  split at h
  · rename_i c
    have c := of_decide_eq_true c
    obtain ⟨hlt, -⟩ := List.getElem?_eq_some_iff.mp h
    have h77 : ms_ars.length = 77 := rfl
    have := of_decide_eq_true (List.all_eq_true.mp ms_arx (a - 160).toNat (List.mem_range.mpr (by omega)))
    obtain ⟨e, he, e1, e2⟩ := this
    rw [Option.mem_def, h] at he
    cases he
    refine ⟨?_, e2, by omega⟩
    rw [e1]
    congr 1
    omega
  · cases h
theorem ms_ar_l {a : Int} {f : Nat} {k : Int} (h : ms_ar a = some (f, k)) (n m : Int) (s : ms_S) : h_l (ms_h n m s) a = k := by
  show ms_ln a = k
  unfold ms_ln
  rw [if_neg (ms_ar_ad h).2.2, h]
theorem ms_ar_v {a : Int} {f : Nat} {k : Int} (h : ms_ar a = some (f, k)) (n m : Int) (s : ms_S) (i : Int) : h_v (ms_h n m s) a i = s f i := by
  show ms_vl s a i = _
  unfold ms_vl
  rw [if_neg (ms_ar_ad h).2.2, h]
theorem ms_vl_ar {a : Int} {f : Nat} {k : Int} (h : ms_ar a = some (f, k)) (s : ms_S) (i : Int) : ms_vl s a i = s f i := by
  unfold ms_vl
  rw [if_neg (ms_ar_ad h).2.2, h]
theorem ms_set {a : Int} {f : Nat} {k : Int} (h : ms_ar a = some (f, k)) (n m : Int) (s : ms_S) (i v : Int) : h_s (ms_h n m s) a i v = ms_h n m (ms_u s f i v) := by
  have : (fun b j => if b = a ∧ j = i then v else ms_vl s b j) = ms_vl (ms_u s f i v) := by
    funext b j
    by_cases c : b = a
    · subst c
      rw [ms_vl_ar h, ms_vl_ar h]
      by_cases cj : j = i
      · subst cj
        rw [if_pos ⟨rfl, rfl⟩, ms_u_eq]
      · rw [if_neg (fun w => cj w.2), ms_u_i v cj]
    · rw [if_neg (fun w => c w.1)]
      unfold ms_vl
      split
      · unfold ms_f
        split
        · split
          · rfl
          · rename_i e
            rw [ms_u_f]
            intro ef
            rw [ef, (ms_ar_ad h).1] at e
            cases e
        · rfl
      · split
        · rename_i f' n' e
          rw [ms_u_f]
          intro ef
          subst ef
          have := (ms_ar_ad e).1
          rw [(ms_ar_ad h).1] at this
          cases this
          exact c rfl
        · rfl
  show (n, m, ms_ln, (fun b j => if b = a ∧ j = i then v else ms_vl s b j)) = _
  rw [this]
  rfl
theorem ms_put {k : Int} (hk : ms_ads.getD k.toNat none = none) (h0 : 0 ≤ k) (n m : Int) (s : ms_S) (v : Int) : h_s (ms_h n m s) 159 k v = ms_h n m (ms_u s k.toNat 0 v) := by
  have : (fun b j => if b = 159 ∧ j = k then v else ms_vl s b j) = ms_vl (ms_u s k.toNat 0 v) := by
    funext b j
    by_cases c : b = 159
    · subst c
      unfold ms_vl
      rw [if_pos rfl, if_pos rfl]
      by_cases cj : j = k
      · subst cj
        rw [if_pos ⟨rfl, rfl⟩]
        unfold ms_f
        rw [decide_eq_true h0, hk]
        dsimp only
        rw [ms_u_eq]
      · rw [if_neg (fun w => cj w.2)]
        unfold ms_f
        split
        · rename_i c0
          have c0 := of_decide_eq_true c0
          split
          · rfl
          · rw [ms_u_f]
            omega
        · rfl
    · rw [if_neg (fun w => c w.1)]
      unfold ms_vl
      rw [if_neg c, if_neg c]
      split
      · rename_i f' n' e
        rw [ms_u_f]
        intro ef
        rw [← ef, (ms_ar_ad e).1] at hk
        cases hk
      · rfl
  show (n, m, ms_ln, (fun b j => if b = 159 ∧ j = k then v else ms_vl s b j)) = _
  rw [this]
  rfl
/-- calls in the model's world -/
def vm_i (d : Nat) (r st : List Int) (s : ms_S) (k : List Int → ms_S → Prop) : Prop := match d, r with
  | d' + 1, [kd, y', n] => match kd with
    | 6 => False
    | 7 => False
    | _ => match y' with
      | 292 => match n, st with
        | 1, x :: q => st_is x ∧ k (st_len x :: q) s
        | _, _ => False
      | 295 => match n, st with
        | 2, i :: x :: q => st_is x ∧ 0 ≤ i ∧ i < st_len x ∧ k (st_at x i :: q) s
        | _, _ => False
      | 289 => match n, st with
        | 2, c :: x :: q => st_is x ∧ 0 ≤ c ∧ c ≤ 65535 ∧ k (st_idx x c :: q) s
        | _, _ => False
      | _ => match decide (289 ≤ y' ∧ y' ≤ 300) with
        | true => False
        | false => match kd with
          | 1 => mw d' y'.toNat (am_blk y'.toNat 0) (lm_ent y'.toNat (st.take n.toNat).reverse) [] s (fun v s' => k (lm_push y'.toNat v (st.drop n.toNat)) s')
          | _ => match decide ((st.take n.toNat).reverse.headD (-9) = 159) with
            | true => mw d' y'.toNat (am_blk y'.toNat 0) (lm_ent y'.toNat (st.take n.toNat).reverse) [] s (fun v s' => k (lm_push y'.toNat v (st.drop n.toNat)) s')
            | false => False
  | _, _ => False
def vm (y d : Nat) (cut : List Nat) : Nat → List am_I → List Int → List Int → ms_S → (Int → ms_S → Prop) → Prop
  | 0, l, ls, st, s, Q => mw d y l ls st s Q
  | n + 1, l, ls, st, s, Q => match l with
    | [] => False
    | (i, r, _) :: l' => match i with
      | .iconst c => vm y d cut n l' ls (c :: st) s Q
      | .bipush c => vm y d cut n l' ls (c :: st) s Q
      | .sipush c => vm y d cut n l' ls (c :: st) s Q
      | .lconst c => vm y d cut n l' ls ((c.val : Int) :: st) s Q
      | .ldc _ => match r with
        | [0, c] => vm y d cut n l' ls (c :: st) s Q
        | [2, c] => vm y d cut n l' ls ((-10 - 2 * c) :: st) s Q
        | _ => False
      | .ldc_w _ => match r with
        | [0, c] => vm y d cut n l' ls (c :: st) s Q
        | [2, c] => vm y d cut n l' ls ((-10 - 2 * c) :: st) s Q
        | _ => False
      | .ldc2_w _ => match r with
        | [c] => vm y d cut n l' ls (c :: st) s Q
        | _ => False
      | .aconst_null => vm y d cut n l' ls (-1 :: st) s Q
      | .iload_n k => match ls[k.val]? with
        | some x => vm y d cut n l' ls (x :: st) s Q
        | none => False
      | .iload k => match ls[k]? with
        | some x => vm y d cut n l' ls (x :: st) s Q
        | none => False
      | .lload_n k => match ls[k.val]? with
        | some x => vm y d cut n l' ls (x :: st) s Q
        | none => False
      | .lload k => match ls[k]? with
        | some x => vm y d cut n l' ls (x :: st) s Q
        | none => False
      | .aload_n k => match ls[k.val]? with
        | some x => vm y d cut n l' ls (x :: st) s Q
        | none => False
      | .aload k => match ls[k]? with
        | some x => vm y d cut n l' ls (x :: st) s Q
        | none => False
      | .istore_n k => match st with
        | x :: q => vm y d cut n l' (ls.set k.val x) q s Q
        | [] => False
      | .istore k => match st with
        | x :: q => vm y d cut n l' (ls.set k x) q s Q
        | [] => False
      | .lstore_n k => match st with
        | x :: q => vm y d cut n l' (ls.set k.val x) q s Q
        | [] => False
      | .lstore k => match st with
        | x :: q => vm y d cut n l' (ls.set k x) q s Q
        | [] => False
      | .astore_n k => match st with
        | x :: q => vm y d cut n l' (ls.set k.val x) q s Q
        | [] => False
      | .astore k => match st with
        | x :: q => vm y d cut n l' (ls.set k x) q s Q
        | [] => False
      | .iinc k c => match ls[k]? with
        | some x => vm y d cut n l' (ls.set k (am_w (x + c))) st s Q
        | none => False
      | .iadd => match st with
        | b :: a :: q => vm y d cut n l' ls (am_w (a + b) :: q) s Q
        | _ => False
      | .isub => match st with
        | b :: a :: q => vm y d cut n l' ls (am_w (a - b) :: q) s Q
        | _ => False
      | .imul => match st with
        | b :: a :: q => vm y d cut n l' ls (am_w (a * b) :: q) s Q
        | _ => False
      | .idiv => match st with
        | b :: a :: q => b ≠ 0 ∧ vm y d cut n l' ls (am_idv a b :: q) s Q
        | _ => False
      | .iand => match st with
        | b :: a :: q => vm y d cut n l' ls (am_and a b :: q) s Q
        | _ => False
      | .ior => match st with
        | b :: a :: q => vm y d cut n l' ls (am_or a b :: q) s Q
        | _ => False
      | .ishl => match st with
        | b :: a :: q => vm y d cut n l' ls (am_shl a b :: q) s Q
        | _ => False
      | .ishr => match st with
        | b :: a :: q => vm y d cut n l' ls (am_shr a b :: q) s Q
        | _ => False
      | .ladd => match st with
        | b :: a :: q => vm y d cut n l' ls (am_x (a + b) :: q) s Q
        | _ => False
      | .lsub => match st with
        | b :: a :: q => vm y d cut n l' ls (am_x (a - b) :: q) s Q
        | _ => False
      | .lmul => match st with
        | b :: a :: q => vm y d cut n l' ls (am_x (a * b) :: q) s Q
        | _ => False
      | .ldiv => match st with
        | b :: a :: q => b ≠ 0 ∧ vm y d cut n l' ls (am_ldv a b :: q) s Q
        | _ => False
      | .lrem => match st with
        | b :: a :: q => b ≠ 0 ∧ vm y d cut n l' ls (am_lrm a b :: q) s Q
        | _ => False
      | .land => match st with
        | b :: a :: q => vm y d cut n l' ls (am_land a b :: q) s Q
        | _ => False
      | .lor => match st with
        | b :: a :: q => vm y d cut n l' ls (am_lor a b :: q) s Q
        | _ => False
      | .lxor => match st with
        | b :: a :: q => vm y d cut n l' ls (am_lxor a b :: q) s Q
        | _ => False
      | .lshl => match st with
        | b :: a :: q => vm y d cut n l' ls (am_lshl a b :: q) s Q
        | _ => False
      | .lcmp => match st with
        | b :: a :: q => vm y d cut n l' ls (am_lcmp a b :: q) s Q
        | _ => False
      | .ineg => match st with
        | a :: q => vm y d cut n l' ls (am_w (-a) :: q) s Q
        | _ => False
      | .lneg => match st with
        | a :: q => vm y d cut n l' ls (am_x (-a) :: q) s Q
        | _ => False
      | .i2l => match st with
        | a :: q => vm y d cut n l' ls (a :: q) s Q
        | _ => False
      | .l2i => match st with
        | a :: q => vm y d cut n l' ls (am_w a :: q) s Q
        | _ => False
      | .i2b => match st with
        | a :: q => vm y d cut n l' ls (am_i2b a :: q) s Q
        | _ => False
      | .i2c => match st with
        | a :: q => vm y d cut n l' ls (am_i2c a :: q) s Q
        | _ => False
      | .dup => match st with
        | v :: q => vm y d cut n l' ls (v :: v :: q) s Q
        | _ => False
      | .dup2 => match st with
        | v :: w :: q => vm y d cut n l' ls (v :: w :: v :: w :: q) s Q
        | _ => False
      | .pop => match st with
        | _ :: q => vm y d cut n l' ls q s Q
        | _ => False
      | .pop2 => match st with
        | _ :: q => vm y d cut n l' ls q s Q
        | _ => False
      | .getfield _ => match r, st with
        | [_, k], a :: q => (match decide (a = 159) with
          | true => vm y d cut n l' ls (ms_f s k :: q) s Q
          | false => False)
        | _, _ => False
      | .putfield _ => match r, st with
        | [_, k], v :: a :: q => (match decide (a = 159 ∧ 0 ≤ k ∧ ms_ads.getD k.toNat none = none) with
          | true => ∀ s1, s1 = ms_u s k.toNat 0 v → vm y d cut n l' ls q s1 Q
          | false => False)
        | _, _ => False
      | .iaload => match st with
        | i :: a :: q => (match ms_ar a with
          | some (f, k) => 0 ≤ i ∧ i < k ∧ vm y d cut n l' ls (s f i :: q) s Q
          | none => False)
        | _ => False
      | .baload => match st with
        | i :: a :: q => (match ms_ar a with
          | some (f, k) => 0 ≤ i ∧ i < k ∧ vm y d cut n l' ls (s f i :: q) s Q
          | none => False)
        | _ => False
      | .laload => match st with
        | i :: a :: q => (match ms_ar a with
          | some (f, k) => 0 ≤ i ∧ i < k ∧ vm y d cut n l' ls (s f i :: q) s Q
          | none => False)
        | _ => False
      | .aaload => match st with
        | i :: a :: q => (match ms_ar a with
          | some (f, k) => 0 ≤ i ∧ i < k ∧ vm y d cut n l' ls (s f i :: q) s Q
          | none => False)
        | _ => False
      | .iastore => match st with
        | v :: i :: a :: q => (match ms_ar a with
          | some (f, k) => 0 ≤ i ∧ i < k ∧ ∀ s1, s1 = ms_u s f i v → vm y d cut n l' ls q s1 Q
          | none => False)
        | _ => False
      | .bastore => match st with
        | v :: i :: a :: q => (match ms_ar a with
          | some (f, k) => 0 ≤ i ∧ i < k ∧ ∀ s1, s1 = ms_u s f i (am_i2b v) → vm y d cut n l' ls q s1 Q
          | none => False)
        | _ => False
      | .lastore => match st with
        | v :: i :: a :: q => (match ms_ar a with
          | some (f, k) => 0 ≤ i ∧ i < k ∧ ∀ s1, s1 = ms_u s f i v → vm y d cut n l' ls q s1 Q
          | none => False)
        | _ => False
      | .aastore => match st with
        | v :: i :: a :: q => (match ms_ar a with
          | some (f, k) => 0 ≤ i ∧ i < k ∧ ∀ s1, s1 = ms_u s f i v → vm y d cut n l' ls q s1 Q
          | none => False)
        | _ => False
      | .arraylength => match st with
        | a :: q => (match ms_ar a with
          | some (_, k) => vm y d cut n l' ls (k :: q) s Q
          | none => False)
        | _ => False
      | .nop => match r with
        | [b] => vc_j cut (fun b => mw d y (am_blk y b) ls st s Q) (fun b => vm y d cut n (am_blk y b) ls st s Q) b.toNat
        | _ => False
      | .goto _ => match r with
        | [b] => vc_j cut (fun b => mw d y (am_blk y b) ls st s Q) (fun b => vm y d cut n (am_blk y b) ls st s Q) b.toNat
        | _ => False
      | .ifCond c _ => match r, st with
        | [b], x :: q => (vc_c c x 0 → vc_j cut (fun b => mw d y (am_blk y b) ls q s Q) (fun b => vm y d cut n (am_blk y b) ls q s Q) b.toNat) ∧ (¬ vc_c c x 0 → vm y d cut n l' ls q s Q)
        | _, _ => False
      | .if_icmp c _ => match r, st with
        | [b], z :: x :: q => (vc_c c x z → vc_j cut (fun b => mw d y (am_blk y b) ls q s Q) (fun b => vm y d cut n (am_blk y b) ls q s Q) b.toNat) ∧ (¬ vc_c c x z → vm y d cut n l' ls q s Q)
        | _, _ => False
      | .ifnull _ => match r, st with
        | [b], a :: q => (a = -1 → vc_j cut (fun b => mw d y (am_blk y b) ls q s Q) (fun b => vm y d cut n (am_blk y b) ls q s Q) b.toNat) ∧ (a ≠ -1 → vm y d cut n l' ls q s Q)
        | _, _ => False
      | .ifnonnull _ => match r, st with
        | [b], a :: q => (a ≠ -1 → vc_j cut (fun b => mw d y (am_blk y b) ls q s Q) (fun b => vm y d cut n (am_blk y b) ls q s Q) b.toNat) ∧ (a = -1 → vm y d cut n l' ls q s Q)
        | _, _ => False
      | .return_ => match st with
        | [] => Q 0 s
        | _ => False
      | .ireturn => match st with
        | [x] => Q x s
        | _ => False
      | .lreturn => match st with
        | [x] => Q x s
        | _ => False
      | .areturn => match st with
        | [x] => Q x s
        | _ => False
      | .invokevirtual _ => vm_i d r st s (fun st' s' => vm y d cut n l' ls st' s' Q)
      | .invokestatic _ => vm_i d r st s (fun st' s' => vm y d cut n l' ls st' s' Q)
      | .invokespecial _ => vm_i d r st s (fun st' s' => vm y d cut n l' ls st' s' Q)
      | _ => False
theorem vm_i_ok {d : Nat} {r st : List Int} {s : ms_S} {k : List Int → ms_S → Prop} {a b : Int} {k' : List Int → lm_H → Prop} (hv : vm_i d r st s k) (kk : ∀ st' s', k st' s' → k' st' (ms_h a b s')) : vc_i d r st (ms_h a b s) k' := by
  unfold vm_i at hv
  unfold vc_i
  split at hv
  · rename_i d' kd y' n
    split at hv
    · cases hv
    · cases hv
    · rename_i h6 h7
      dsimp only
      split
      · exact absurd rfl h6
      · exact absurd rfl h7
      · split at hv
        · split at hv
          · exact ⟨hv.1, kk _ _ hv.2⟩
          · cases hv
        · split at hv
          · exact ⟨hv.1, hv.2.1, hv.2.2.1, kk _ _ hv.2.2.2⟩
          · cases hv
        · split at hv
          · exact ⟨hv.1, hv.2.1, hv.2.2.1, kk _ _ hv.2.2.2⟩
          · cases hv
        · rename_i h1 h2 h3
          split
          · exact absurd rfl h1
          · exact absurd rfl h2
          · exact absurd rfl h3
          · split at hv
            · cases hv
            · rename_i hd
              rw [hd]
              dsimp only
              split at hv
              · exact (hv a b).mono (fun v h' w => by obtain ⟨s', e, q⟩ := w; subst e; exact kk _ _ q)
              · rename_i h8
                split
                · exact absurd rfl h8
                · split at hv
                  · rename_i e9
                    have e9 := of_decide_eq_true e9
                    refine ⟨?_, (hv a b).mono (fun v h' w => by obtain ⟨s', e, q⟩ := w; subst e; exact kk _ _ q)⟩
                    rw [e9]
                    exact (by decide : (0 : Int) ≤ 115)
                  · cases hv
  · cases hv
theorem vc_j_map {cut : List Nat} {a b a' b' : Nat → Prop} {k : Nat} (h : vc_j cut a b k) (ha : a k → a' k) (hb : b k → b' k) : vc_j cut a' b' k := by
  unfold vc_j at h ⊢
  split
  · rename_i e; rw [e] at h; exact ha h
  · rename_i e; rw [e] at h; exact hb h
theorem vm_ok0 {y d : Nat} {cut : List Nat} {a b : Int} : ∀ (n : Nat) {l : List am_I} {ls st : List Int} {s : ms_S} {Q : Int → ms_S → Prop}, vm y d cut n l ls st s Q → vc y d cut n l ls st (ms_h a b s) (ms_q a b Q) := by
  intro n
  induction n with
  | zero => intro l ls st s Q k; exact k a b
  | succ n ih =>
    intro l ls st s Q k
    cases l with
    | nil => cases k
    | cons c l =>
      obtain ⟨i, r, pc⟩ := c
      cases i
      case iconst c =>
        exact ih k
      case bipush c =>
        exact ih k
      case sipush c =>
        exact ih k
      case lconst c =>
        exact ih k
      case aconst_null =>
        exact ih k
      case ldc x =>
        simp only [vm] at k
        simp only [vc]
        split at k
        · exact ih k
        · exact ih k
        · cases k
      case ldc_w x =>
        simp only [vm] at k
        simp only [vc]
        split at k
        · exact ih k
        · exact ih k
        · cases k
      case ldc2_w x =>
        simp only [vm] at k
        simp only [vc]
        split at k
        · exact ih k
        · cases k
      case iload_n k0 =>
        simp only [vm] at k
        simp only [vc]
        split at k
        · rename_i e
          rw [e]
          exact ih k
        · cases k
      case iload k0 =>
        simp only [vm] at k
        simp only [vc]
        split at k
        · rename_i e
          rw [e]
          exact ih k
        · cases k
      case lload_n k0 =>
        simp only [vm] at k
        simp only [vc]
        split at k
        · rename_i e
          rw [e]
          exact ih k
        · cases k
      case lload k0 =>
        simp only [vm] at k
        simp only [vc]
        split at k
        · rename_i e
          rw [e]
          exact ih k
        · cases k
      case aload_n k0 =>
        simp only [vm] at k
        simp only [vc]
        split at k
        · rename_i e
          rw [e]
          exact ih k
        · cases k
      case aload k0 =>
        simp only [vm] at k
        simp only [vc]
        split at k
        · rename_i e
          rw [e]
          exact ih k
        · cases k
      case istore_n k0 =>
        simp only [vm] at k
        simp only [vc]
        split at k
        · exact ih k
        · cases k
      case istore k0 =>
        simp only [vm] at k
        simp only [vc]
        split at k
        · exact ih k
        · cases k
      case lstore_n k0 =>
        simp only [vm] at k
        simp only [vc]
        split at k
        · exact ih k
        · cases k
      case lstore k0 =>
        simp only [vm] at k
        simp only [vc]
        split at k
        · exact ih k
        · cases k
      case astore_n k0 =>
        simp only [vm] at k
        simp only [vc]
        split at k
        · exact ih k
        · cases k
      case astore k0 =>
        simp only [vm] at k
        simp only [vc]
        split at k
        · exact ih k
        · cases k
      case iinc k0 c =>
        simp only [vm] at k
        simp only [vc]
        split at k
        · rename_i e
          rw [e]
          exact ih k
        · cases k
      case iadd =>
        simp only [vm] at k
        simp only [vc]
        split at k
        · exact ih k
        · cases k
      case isub =>
        simp only [vm] at k
        simp only [vc]
        split at k
        · exact ih k
        · cases k
      case imul =>
        simp only [vm] at k
        simp only [vc]
        split at k
        · exact ih k
        · cases k
      case idiv =>
        simp only [vm] at k
        simp only [vc]
        split at k
        · exact ⟨k.1, ih k.2⟩
        · cases k
      case iand =>
        simp only [vm] at k
        simp only [vc]
        split at k
        · exact ih k
        · cases k
      case ior =>
        simp only [vm] at k
        simp only [vc]
        split at k
        · exact ih k
        · cases k
      case ishl =>
        simp only [vm] at k
        simp only [vc]
        split at k
        · exact ih k
        · cases k
      case ishr =>
        simp only [vm] at k
        simp only [vc]
        split at k
        · exact ih k
        · cases k
      case ladd =>
        simp only [vm] at k
        simp only [vc]
        split at k
        · exact ih k
        · cases k
      case lsub =>
        simp only [vm] at k
        simp only [vc]
        split at k
        · exact ih k
        · cases k
      case lmul =>
        simp only [vm] at k
        simp only [vc]
        split at k
        · exact ih k
        · cases k
      case ldiv =>
        simp only [vm] at k
        simp only [vc]
        split at k
        · exact ⟨k.1, ih k.2⟩
        · cases k
      case lrem =>
        simp only [vm] at k
        simp only [vc]
        split at k
        · exact ⟨k.1, ih k.2⟩
        · cases k
      case land =>
        simp only [vm] at k
        simp only [vc]
        split at k
        · exact ih k
        · cases k
      case lor =>
        simp only [vm] at k
        simp only [vc]
        split at k
        · exact ih k
        · cases k
      case lxor =>
        simp only [vm] at k
        simp only [vc]
        split at k
        · exact ih k
        · cases k
      case lshl =>
        simp only [vm] at k
        simp only [vc]
        split at k
        · exact ih k
        · cases k
      case lcmp =>
        simp only [vm] at k
        simp only [vc]
        split at k
        · exact ih k
        · cases k
      case ineg =>
        simp only [vm] at k
        simp only [vc]
        split at k
        · exact ih k
        · cases k
      case lneg =>
        simp only [vm] at k
        simp only [vc]
        split at k
        · exact ih k
        · cases k
      case i2l =>
        simp only [vm] at k
        simp only [vc]
        split at k
        · exact ih k
        · cases k
      case l2i =>
        simp only [vm] at k
        simp only [vc]
        split at k
        · exact ih k
        · cases k
      case i2b =>
        simp only [vm] at k
        simp only [vc]
        split at k
        · exact ih k
        · cases k
      case i2c =>
        simp only [vm] at k
        simp only [vc]
        split at k
        · exact ih k
        · cases k
      case dup =>
        simp only [vm] at k
        simp only [vc]
        split at k
        · exact ih k
        · cases k
      case dup2 =>
        simp only [vm] at k
        simp only [vc]
        split at k
        · exact ih k
        · cases k
      case pop =>
        simp only [vm] at k
        simp only [vc]
        split at k
        · exact ih k
        · cases k
      case pop2 =>
        simp only [vm] at k
        simp only [vc]
        split at k
        · exact ih k
        · cases k
      case getfield x =>
        simp only [vm] at k
        simp only [vc]
        split at k
        · rename_i k0 a0 q
          split at k
          · rename_i e
            have e := of_decide_eq_true e
            subst e
            exact ⟨(by decide : (0 : Int) ≤ 115), ih k⟩
          · cases k
        · cases k
      case putfield x =>
        simp only [vm] at k
        simp only [vc]
        split at k
        · rename_i k0 v a0 q
          split at k
          · rename_i e
            obtain ⟨e, e2, e3⟩ := of_decide_eq_true e
            subst e
            refine ⟨(by decide : (0 : Int) ≤ 115), fun h1 eh => ?_⟩
            rw [ms_put e3 e2] at eh
            subst eh
            exact ih (k _ rfl)
          · cases k
        · cases k
      case iaload =>
        simp only [vm] at k
        simp only [vc]
        split at k
        · rename_i x a0 q
          split at k
          · rename_i f k0 e
            dsimp only
            rw [ms_ar_l e, ms_ar_v e]
            exact ⟨k.1, k.2.1, ih k.2.2⟩
          · cases k
        · cases k
      case baload =>
        simp only [vm] at k
        simp only [vc]
        split at k
        · rename_i x a0 q
          split at k
          · rename_i f k0 e
            dsimp only
            rw [ms_ar_l e, ms_ar_v e]
            exact ⟨k.1, k.2.1, ih k.2.2⟩
          · cases k
        · cases k
      case laload =>
        simp only [vm] at k
        simp only [vc]
        split at k
        · rename_i x a0 q
          split at k
          · rename_i f k0 e
            dsimp only
            rw [ms_ar_l e, ms_ar_v e]
            exact ⟨k.1, k.2.1, ih k.2.2⟩
          · cases k
        · cases k
      case aaload =>
        simp only [vm] at k
        simp only [vc]
        split at k
        · rename_i x a0 q
          split at k
          · rename_i f k0 e
            dsimp only
            rw [ms_ar_l e, ms_ar_v e]
            exact ⟨k.1, k.2.1, ih k.2.2⟩
          · cases k
        · cases k
      case iastore =>
        simp only [vm] at k
        simp only [vc]
        split at k
        · rename_i v x a0 q
          split at k
          · rename_i f k0 e
            dsimp only
            rw [ms_ar_l e]
            refine ⟨k.1, k.2.1, fun h1 eh => ?_⟩
            rw [ms_set e] at eh
            subst eh
            exact ih (k.2.2 _ rfl)
          · cases k
        · cases k
      case bastore =>
        simp only [vm] at k
        simp only [vc]
        split at k
        · rename_i v x a0 q
          split at k
          · rename_i f k0 e
            dsimp only
            rw [ms_ar_l e]
            refine ⟨k.1, k.2.1, fun h1 eh => ?_⟩
            rw [ms_set e] at eh
            subst eh
            exact ih (k.2.2 _ rfl)
          · cases k
        · cases k
      case lastore =>
        simp only [vm] at k
        simp only [vc]
        split at k
        · rename_i v x a0 q
          split at k
          · rename_i f k0 e
            dsimp only
            rw [ms_ar_l e]
            refine ⟨k.1, k.2.1, fun h1 eh => ?_⟩
            rw [ms_set e] at eh
            subst eh
            exact ih (k.2.2 _ rfl)
          · cases k
        · cases k
      case aastore =>
        simp only [vm] at k
        simp only [vc]
        split at k
        · rename_i v x a0 q
          split at k
          · rename_i f k0 e
            dsimp only
            rw [ms_ar_l e]
            refine ⟨k.1, k.2.1, fun h1 eh => ?_⟩
            rw [ms_set e] at eh
            subst eh
            exact ih (k.2.2 _ rfl)
          · cases k
        · cases k
      case arraylength =>
        simp only [vm] at k
        simp only [vc]
        split at k
        · rename_i a0 q
          split at k
          · rename_i f k0 e
            dsimp only
            rw [ms_ar_l e]
            exact ⟨(ms_ar_ad e).2.1, ih k⟩
          · cases k
        · cases k
      case nop =>
        simp only [vm] at k
        simp only [vc]
        split at k
        · exact vc_j_map k (fun w => w a b) (fun w => ih w)
        · cases k
      case goto x =>
        simp only [vm] at k
        simp only [vc]
        split at k
        · exact vc_j_map k (fun w => w a b) (fun w => ih w)
        · cases k
      case ifCond c x =>
        simp only [vm] at k
        simp only [vc]
        split at k
        · exact ⟨fun w => vc_j_map (k.1 w) (fun w => w a b) (fun w => ih w), fun w => ih (k.2 w)⟩
        · cases k
      case if_icmp c x =>
        simp only [vm] at k
        simp only [vc]
        split at k
        · exact ⟨fun w => vc_j_map (k.1 w) (fun w => w a b) (fun w => ih w), fun w => ih (k.2 w)⟩
        · cases k
      case ifnull x =>
        simp only [vm] at k
        simp only [vc]
        split at k
        · exact ⟨fun w => vc_j_map (k.1 w) (fun w => w a b) (fun w => ih w), fun w => ih (k.2 w)⟩
        · cases k
      case ifnonnull x =>
        simp only [vm] at k
        simp only [vc]
        split at k
        · exact ⟨fun w => vc_j_map (k.1 w) (fun w => w a b) (fun w => ih w), fun w => ih (k.2 w)⟩
        · cases k
      case return_ =>
        simp only [vm] at k
        simp only [vc]
        split at k
        · exact ⟨s, rfl, k⟩
        · cases k
      case ireturn =>
        simp only [vm] at k
        simp only [vc]
        split at k
        · exact ⟨s, rfl, k⟩
        · cases k
      case lreturn =>
        simp only [vm] at k
        simp only [vc]
        split at k
        · exact ⟨s, rfl, k⟩
        · cases k
      case areturn =>
        simp only [vm] at k
        simp only [vc]
        split at k
        · exact ⟨s, rfl, k⟩
        · cases k
      case invokevirtual x =>
        simp only [vm] at k
        simp only [vc]
        exact vm_i_ok k (fun st' s' w => ih w)
      case invokestatic x =>
        simp only [vm] at k
        simp only [vc]
        exact vm_i_ok k (fun st' s' w => ih w)
      case invokespecial x =>
        simp only [vm] at k
        simp only [vc]
        exact vm_i_ok k (fun st' s' w => ih w)
      all_goals (simp only [vm] at k)
theorem vm_ok {y d : Nat} {cut : List Nat} (n : Nat) {l : List am_I} {ls st : List Int} {s : ms_S} {Q : Int → ms_S → Prop} (k : vm y d cut n l ls st s Q) : mw d y l ls st s Q := fun a b => vc_ok n (vm_ok0 n k)
