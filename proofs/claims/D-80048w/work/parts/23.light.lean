set_option maxRecDepth 100000
/-! The light machine: values are Ints, no tags, no kinds. A heap: cells, slots, lengths (below 0: none such), contents.
A reference is good if its length isn't below 0: null is -1, with length -1. -/
abbrev lm_H : Type := Int × Int × (Int → Int) × (Int → Int → Int)
def h_n (h : lm_H) : Int := h.1
def h_m (h : lm_H) : Int := h.2.1
def h_l (h : lm_H) (a : Int) : Int := h.2.2.1 a
def h_v (h : lm_H) (a i : Int) : Int := h.2.2.2 a i
def h_s (h : lm_H) (a i v : Int) : lm_H := (h.1, h.2.1, h.2.2.1, fun b j => if b = a ∧ j = i then v else h.2.2.2 b j)
def h_w (h : lm_H) (l : Int) (z : Int → Int) : lm_H := (h.1 + 1, h.2.1 + l, fun b => if b = h.1 then l else h.2.2.1 b, fun b j => if b = h.1 then z j else h.2.2.2 b j)
def h_c (h : lm_H) (s sp d dp n : Int) : lm_H := (h.1, h.2.1, h.2.2.1, fun b j => if b = d ∧ dp ≤ j ∧ j < dp + n then h.2.2.2 s (sp + (j - dp)) else h.2.2.2 b j)
/-- Strings -/
def st_is (s : Int) : Prop := s ≤ -10 ∧ -200 ≤ s ∧ s % 2 = 0
def st_len (s : Int) : Int := ((am_str (am_si s)).length : Int)
def st_at (s i : Int) : Int := (am_str (am_si s)).getD i.toNat 0
def st_ix (l : List Int) (c : Int) : Int := match l with
  | [] => -1
  | x :: r => if x = c then 0 else if st_ix r c < 0 then -1 else 1 + st_ix r c
def st_idx (s c : Int) : Int := st_ix (am_str (am_si s)) c
/-- which parameters (the receiver first) are long -/
def lm_pls0 : List (List Bool) := [[false], [false, false, false, false, false, false], [false, false], [false, false], [false, false], [false], [false], [false, true], [false], [false, false, true], [false, false, false, false], [false, false, false], [false, true], [false], [false, false], [false, false, false], [false, false, false], [false, false, false], [false], [false, false, false]]
def lm_pls1 : List (List Bool) := [[false, false, false], [false, false, false], [false, false], [false, false, false, false], [false, false], [false], [false, false], [false], [false, false], [false, false], [false, true, false, false], [false, false], [false, false], [false, false, false, false], [false, false], [false], [false], [false, false], [false], [false, false]]
def lm_pls2 : List (List Bool) := [[false], [false, false], [false, false, false, false, false], [false], [false, false], [false, false], [false], [false], [false], [false], [false], [false, false], [false], [false, false, false], [false], [false], [false], [false], [false], [false]]
def lm_pls3 : List (List Bool) := [[false], [false], [false], [false], [false, false, false, false, false, false], [false], [false], [false], [false], [false], [false, false, false, false, false, false], [false], [false], [false, false], [false, false], [false, false, false, false], [false, false], [false, false], [false, false, false], [false, false, false, false]]
def lm_pls4 : List (List Bool) := [[false, false, false], [false, false, false], [false, false, false, false], [false, false, false, false, false], [false, false, false, false, false], [false, false, false, false], [false, false, false], [false, false], [false, false, false], [false, false, false], [false], [false], [false, true], [false, false, false, false], [false], [false, true, false], [false], [false, false], [false, false], [false]]
def lm_pls5 : List (List Bool) := [[false], [false], [false], [false, false, false], [false, false, false], [false, false], [false], [false], [false, false, false], [false, false, false], [false, false], [false, false], [false, false], [false, false], [false, false], [false, false, false], [false, false], [false, false, false], [false], [false]]
def lm_pls6 : List (List Bool) := [[false], [false, false, false, false, false, false], [false, false, false], [false, false, false, true], [false, false, false], [false, false, false], [false], [false], [false, false], [false], [false], [false, false], [false, false], [false, false, false], [false, false], [false, false], [false], [false, false], [false, false], [false, false]]
def lm_pls7 : List (List Bool) := [[false, false, false], [false], [false], [false, false, false, false, false, false], [false, false], [false, false], [false, false], [false, true], [false, true, false], [false], [false, false, true], [false, false], [false, false], [false, false], [false, false], [false, false], [false, false, false], [false, false], [false, false], [false, false, false, false]]
def lm_pls8 : List (List Bool) := [[false, false, false], [false, false, false, false], [false, false], [false, false], [false, true], [false], [false, false, false], [false, false, false], [false, false], [false, false], [false, false, false, true, true], [false, false, false], [false, false], [false, false, false], [false, false, false, false], [true, false, true, false], [false, false, false], [false, false], [false, false, false, false], [false, false, false, false]]
def lm_pls9 : List (List Bool) := [[false, false, false], [false, false, false, false, false, false], [false, false], [false, false], [false, false, false], [false, false, false], [false, false, false], [false, true], [false], [false], [false], [false], [false], [false, false], [false, false], [false, false, false], [false], [false], [false, false], [false]]
def lm_pls10 : List (List Bool) := [[false, false, false], [false, false], [false, false], [false], [false], [false], [false], [false], [false], [false], [false, false], [false], [false, false, false, false, false, false, false], [false, false], [false, false], [false, false], [false, false], [false, false], [false], [false]]
def lm_pls11 : List (List Bool) := [[false, false, false, false], [false, false], [false, false], [false, false], [false, false, false], [false, false], [false, false, false], [false, false], [false, false], [false, false, false], [false, false, false], [false, false], [false, false], [false, false, false], [false, false, false], [false, false, false], [false, false, false], [false], [false], [false, false]]
def lm_pls12 : List (List Bool) := [[false, false, false], [false, false, false], [false, false, false], [false], [false, false, false], [false, false, false], [false, false, false], [false, false], [false, false, false, false], [false, false], [false], [false], [false, false, false, false], [false, false], [false], [false], [false], [false, false, false], [false, false, false, false], [false, false, true]]
def lm_pls13 : List (List Bool) := [[false, false, false, false], [false, false, false], [false, false, false], [false, false, false, false], [false, true], [false, true], [false, false], [false], [false, false, false, false], [false, false, false], [false, false], [false], [false, false, false], [false, false], [false], [false, false], [false, false, false], [false, false], [false, false], [false]]
def lm_pls14 : List (List Bool) := [[false, false], [false, false, false], [false, false, false, false, true], [false], [false, false], [false], [false], [false, false], [false], [false, false], [false, false, false], [false], [false], [false], [false, false, false], [false, false], [false, false], [false, false, false, false], [false], [false, false, false, false]]
def lm_pls15 : List (List Bool) := [[false, false], [false, false], [false, false], [true, true], [true, true], [true, true], [false, false, false, false], [false, false, false], [true, true], [false]]
def lm_pl (y : Nat) : List Bool := match y / 20 with
  | 0 => lm_pls0.getD (y % 20) []
  | 1 => lm_pls1.getD (y % 20) []
  | 2 => lm_pls2.getD (y % 20) []
  | 3 => lm_pls3.getD (y % 20) []
  | 4 => lm_pls4.getD (y % 20) []
  | 5 => lm_pls5.getD (y % 20) []
  | 6 => lm_pls6.getD (y % 20) []
  | 7 => lm_pls7.getD (y % 20) []
  | 8 => lm_pls8.getD (y % 20) []
  | 9 => lm_pls9.getD (y % 20) []
  | 10 => lm_pls10.getD (y % 20) []
  | 11 => lm_pls11.getD (y % 20) []
  | 12 => lm_pls12.getD (y % 20) []
  | 13 => lm_pls13.getD (y % 20) []
  | 14 => lm_pls14.getD (y % 20) []
  | 15 => lm_pls15.getD (y % 20) []
  | _ => []
def lm_exp : List Bool → List Int → List Int
  | true :: p, x :: l => x :: 0 :: lm_exp p l
  | false :: p, x :: l => x :: lm_exp p l
  | _, _ => []
def lm_ent (y : Nat) (as : List Int) : List Int := lm_exp (lm_pl y) as ++ List.replicate (am_ml y - (lm_exp (lm_pl y) as).length) 0
def lm_push (y : Nat) (v : Int) (st : List Int) : List Int := if am_rt y = 6 then st else v :: st
def lm_b2 (f : Int → Int → Option Int) (st : List Int) : Option (List Int) := match st with
  | b :: a :: r => (f a b).map fun x => x :: r
  | _ => none
def lm_b1 (f : Int → Int) (st : List Int) : Option (List Int) := match st with
  | a :: r => some (f a :: r)
  | _ => none
def lm_ld (k : Nat) (ls st : List Int) : Option (List Int) := match ls[k]? with
  | some x => some (x :: st)
  | none => none
def lm_sto (k : Nat) (ls st : List Int) : Option (List Int × List Int) := match st with
  | x :: r => some (ls.set k x, r)
  | [] => none
def lm_ald (st : List Int) (h : lm_H) : Option (List Int) := match st with
  | i :: a :: r => if 0 ≤ i ∧ i < h_l h a then some (h_v h a i :: r) else none
  | _ => none
def lm_ast (f : Int → Int) (st : List Int) (h : lm_H) : Option (List Int × lm_H) := match st with
  | v :: i :: a :: r => if 0 ≤ i ∧ i < h_l h a then some (r, h_s h a i (f v)) else none
  | _ => none
def lm_st (i : Instr) (r : List Int) (ls st : List Int) (h : lm_H) : Option (List Int × List Int × lm_H) :=
  match i with
  | .iconst c => some (ls, c :: st, h)
  | .bipush c => some (ls, c :: st, h)
  | .sipush c => some (ls, c :: st, h)
  | .lconst c => some (ls, (c.val : Int) :: st, h)
  | .ldc _ => match r with
    | [0, c] => some (ls, c :: st, h)
    | [2, c] => some (ls, (-10 - 2 * c) :: st, h)
    | _ => none
  | .ldc_w _ => match r with
    | [0, c] => some (ls, c :: st, h)
    | [2, c] => some (ls, (-10 - 2 * c) :: st, h)
    | _ => none
  | .ldc2_w _ => match r with
    | [c] => some (ls, c :: st, h)
    | _ => none
  | .aconst_null => some (ls, -1 :: st, h)
  | .iload_n k => (lm_ld k.val ls st).map fun st' => (ls, st', h)
  | .iload k => (lm_ld k ls st).map fun st' => (ls, st', h)
  | .lload_n k => (lm_ld k.val ls st).map fun st' => (ls, st', h)
  | .lload k => (lm_ld k ls st).map fun st' => (ls, st', h)
  | .aload_n k => (lm_ld k.val ls st).map fun st' => (ls, st', h)
  | .aload k => (lm_ld k ls st).map fun st' => (ls, st', h)
  | .istore_n k => (lm_sto k.val ls st).map fun q => (q.1, q.2, h)
  | .istore k => (lm_sto k ls st).map fun q => (q.1, q.2, h)
  | .lstore_n k => (lm_sto k.val ls st).map fun q => (q.1, q.2, h)
  | .lstore k => (lm_sto k ls st).map fun q => (q.1, q.2, h)
  | .astore_n k => (lm_sto k.val ls st).map fun q => (q.1, q.2, h)
  | .astore k => (lm_sto k ls st).map fun q => (q.1, q.2, h)
  | .iinc k c => match ls[k]? with
    | some x => some (ls.set k (am_w (x + c)), st, h)
    | none => none
  | .iadd => (lm_b2 (fun a b => some (am_w (a + b))) st).map fun st' => (ls, st', h)
  | .isub => (lm_b2 (fun a b => some (am_w (a - b))) st).map fun st' => (ls, st', h)
  | .imul => (lm_b2 (fun a b => some (am_w (a * b))) st).map fun st' => (ls, st', h)
  | .idiv => (lm_b2 (am_idiv) st).map fun st' => (ls, st', h)
  | .iand => (lm_b2 (fun a b => some (am_and a b)) st).map fun st' => (ls, st', h)
  | .ior => (lm_b2 (fun a b => some (am_or a b)) st).map fun st' => (ls, st', h)
  | .ishl => (lm_b2 (fun a b => some (am_shl a b)) st).map fun st' => (ls, st', h)
  | .ishr => (lm_b2 (fun a b => some (am_shr a b)) st).map fun st' => (ls, st', h)
  | .ladd => (lm_b2 (fun a b => some (am_x (a + b))) st).map fun st' => (ls, st', h)
  | .lsub => (lm_b2 (fun a b => some (am_x (a - b))) st).map fun st' => (ls, st', h)
  | .lmul => (lm_b2 (fun a b => some (am_x (a * b))) st).map fun st' => (ls, st', h)
  | .ldiv => (lm_b2 (am_ldiv) st).map fun st' => (ls, st', h)
  | .lrem => (lm_b2 (am_lrem) st).map fun st' => (ls, st', h)
  | .land => (lm_b2 (fun a b => some (am_land a b)) st).map fun st' => (ls, st', h)
  | .lor => (lm_b2 (fun a b => some (am_lor a b)) st).map fun st' => (ls, st', h)
  | .lxor => (lm_b2 (fun a b => some (am_lxor a b)) st).map fun st' => (ls, st', h)
  | .lshl => (lm_b2 (fun a b => some (am_lshl a b)) st).map fun st' => (ls, st', h)
  | .lcmp => (lm_b2 (fun a b => some (am_lcmp a b)) st).map fun st' => (ls, st', h)
  | .ineg => (lm_b1 (fun a => am_w (-a)) st).map fun st' => (ls, st', h)
  | .lneg => (lm_b1 (fun a => am_x (-a)) st).map fun st' => (ls, st', h)
  | .i2l => (lm_b1 (fun a => a) st).map fun st' => (ls, st', h)
  | .l2i => (lm_b1 (fun a => am_w a) st).map fun st' => (ls, st', h)
  | .i2b => (lm_b1 (fun a => am_i2b a) st).map fun st' => (ls, st', h)
  | .i2c => (lm_b1 (fun a => am_i2c a) st).map fun st' => (ls, st', h)
  | .dup => match st with
    | v :: q => some (ls, v :: v :: q, h)
    | _ => none
  | .dup2 => match st with
    | v :: w :: q => some (ls, v :: w :: v :: w :: q, h)
    | _ => none
  | .pop => match st with
    | _ :: q => some (ls, q, h)
    | _ => none
  | .pop2 => match st with
    | _ :: q => some (ls, q, h)
    | _ => none
  | .getfield _ => match r, st with
    | [_, k], a :: q => if 0 ≤ h_l h a then some (ls, h_v h a k :: q, h) else none
    | _, _ => none
  | .putfield _ => match r, st with
    | [_, k], v :: a :: q => if 0 ≤ h_l h a then some (ls, q, h_s h a k v) else none
    | _, _ => none
  | .iaload => (lm_ald st h).map fun st' => (ls, st', h)
  | .baload => (lm_ald st h).map fun st' => (ls, st', h)
  | .laload => (lm_ald st h).map fun st' => (ls, st', h)
  | .aaload => (lm_ald st h).map fun st' => (ls, st', h)
  | .iastore => (lm_ast (fun v => v) st h).map fun q => (ls, q.1, q.2)
  | .bastore => (lm_ast am_i2b st h).map fun q => (ls, q.1, q.2)
  | .lastore => (lm_ast (fun v => v) st h).map fun q => (ls, q.1, q.2)
  | .aastore => (lm_ast (fun v => v) st h).map fun q => (ls, q.1, q.2)
  | .arraylength => match st with
    | a :: q => if 0 ≤ h_l h a then some (ls, h_l h a :: q, h) else none
    | _ => none
  | .newarray _ => match st with
    | n :: q => if 0 ≤ n ∧ n ≤ 1000000 then some (ls, h_n h :: q, h_w h n (fun _ => 0)) else none
    | _ => none
  | .anewarray _ => match st with
    | n :: q => if 0 ≤ n ∧ n ≤ 1000000 then some (ls, h_n h :: q, h_w h n (fun _ => -1)) else none
    | _ => none
  | .new _ => match r with
    | [ci] => some (ls, h_n h :: st, h_w h (am_fn ci.toNat) (am_z ci.toNat))
    | _ => none
  | _ => none
def lm_br (i : Instr) (r : List Int) (st : List Int) : Option (Option Int × List Int) :=
  match i, r with
  | .nop, [b] => some (some b, st)
  | .goto _, [b] => some (some b, st)
  | .ifCond c _, [b] => match st with
    | x :: q => some (if am_cmp c x 0 then some b else none, q)
    | _ => none
  | .if_icmp c _, [b] => match st with
    | y :: x :: q => some (if am_cmp c x y then some b else none, q)
    | _ => none
  | .ifnull _, [b] => match st with
    | a :: q => some (if a = -1 then some b else none, q)
    | _ => none
  | .ifnonnull _, [b] => match st with
    | a :: q => some (if a = -1 then none else some b, q)
    | _ => none
  | .tableswitch _ lo hi _, b :: bs => match st with
    | x :: q => some (if x < lo ∨ hi < x then some b else bs[(x - lo).toNat]?, q)
    | _ => none
  | _, _ => none
def lm_ret (i : Instr) (st : List Int) (h : lm_H) : Option (Int × lm_H) :=
  match i, st with
  | .return_, [] => some (0, h)
  | .ireturn, [x] => some (x, h)
  | .lreturn, [x] => some (x, h)
  | .areturn, [x] => some (x, h)
  | _, _ => none
/-- the String's own methods -/
def lm_pr (y : Nat) (as : List Int) : Option Int := match as with
  | [s] => if y = 292 ∧ s ≤ -10 ∧ -200 ≤ s ∧ s % 2 = 0 then some (st_len s) else none
  | [s, i] => if s ≤ -10 ∧ -200 ≤ s ∧ s % 2 = 0 then (if y = 295 ∧ 0 ≤ i ∧ i < st_len s then some (st_at s i) else if y = 289 ∧ 0 ≤ i ∧ i ≤ 65535 then some (st_idx s i) else none) else none
  | _ => none
def lm_cp (st : List Int) (h : lm_H) : Option (List Int × lm_H) := match st with
  | n :: dp :: d :: sp :: s :: q => if 0 ≤ n ∧ 0 ≤ sp ∧ 0 ≤ dp ∧ sp + n ≤ h_l h s ∧ dp + n ≤ h_l h d then some (q, h_c h s sp d dp n) else none
  | _ => none
def lm_run : Nat → Nat → Nat → List am_I → List Int → List Int → lm_H → Option (Int × lm_H)
  | 0, _, _, _, _, _, _ => none
  | f + 1, d, y, l, ls, st, h => match l with
    | [] => none
    | (i, r, _) :: l' => match am_kd i with
      | 0 => match lm_st i r ls st h with
        | some (ls', st', h') => lm_run f d y l' ls' st' h'
        | none => none
      | 1 => match lm_br i r st with
        | some (some b, st') => lm_run f d y (am_blk y b.toNat) ls st' h
        | some (none, st') => lm_run f d y l' ls st' h
        | none => none
      | 2 => lm_ret i st h
      | _ => match d, r with
        | d' + 1, [kd, y', n] =>
          if kd = 6 then match st with
            | a :: q => if 0 ≤ h_l h a then lm_run f (d' + 1) y l' ls q h else none
            | _ => none
          else if kd = 7 then match lm_cp st h with
            | some (q, h') => lm_run f (d' + 1) y l' ls q h'
            | none => none
          else if 289 ≤ y' ∧ y' ≤ 300 then match lm_pr y'.toNat (st.take n.toNat).reverse with
            | some v => lm_run f (d' + 1) y l' ls (v :: st.drop n.toNat) h
            | none => none
          else if kd = 1 ∨ 0 ≤ h_l h ((st.take n.toNat).reverse.headD (-9)) then
            match lm_run f d' y'.toNat (am_blk y'.toNat 0) (lm_ent y'.toNat (st.take n.toNat).reverse) [] h with
            | some (v, h') => lm_run f (d' + 1) y l' ls (lm_push y'.toNat v (st.drop n.toNat)) h'
            | none => none
          else none
        | _, _ => none
