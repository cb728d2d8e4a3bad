/-! The abstract machine. A value: (tag, number), tags 0 int, 1 long, 2 reference, 3 nothing known.
References: -1 null, 0 .. the cells made since the start, -2 the script, -3 a static of the JDK's, -10-2s the String s, -11-2s its bytes.
A heap: how many cells, how many slots, kind, length, contents. Kinds: 0 .. 10 the classes, 16 int[], 17 byte[], 18 boolean[], 19 long[], 20 Row[], 21 Node[], 22 Query[], 23 Select[], 100 String. -/
abbrev am_V : Type := Nat × Int
abbrev am_H : Type := Int × Int × (Int → Int) × (Int → Int) × (Int → Int → Int)
abbrev am_R : Type := Option am_V × am_H
def am_n (h : am_H) : Int := h.1
def am_m (h : am_H) : Int := h.2.1
def am_k (h : am_H) (a : Int) : Int := h.2.2.1 a
def am_l (h : am_H) (a : Int) : Int := h.2.2.2.1 a
def am_v (h : am_H) (a i : Int) : Int := h.2.2.2.2 a i
def am_set (h : am_H) (a i v : Int) : am_H := (h.1, h.2.1, h.2.2.1, h.2.2.2.1, fun b j => if b = a ∧ j = i then v else h.2.2.2.2 b j)
def am_new (h : am_H) (k l : Int) (z : Int → Int) : am_H :=
  (h.1 + 1, h.2.1 + l, fun b => if b = h.1 then k else h.2.2.1 b, fun b => if b = h.1 then l else h.2.2.2.1 b, fun b j => if b = h.1 then z j else h.2.2.2.2 b j)
def am_cpy (h : am_H) (s sp d dp n : Int) : am_H := (h.1, h.2.1, h.2.2.1, h.2.2.2.1, fun b j => if b = d ∧ dp ≤ j ∧ j < dp + n then h.2.2.2.2 s (sp + (j - dp)) else h.2.2.2.2 b j)
def am_w (x : Int) : Int := (Int32.ofInt x).toInt
def am_x (x : Int) : Int := (Int64.ofInt x).toInt
def am_tg (ft : Nat) : Nat := if ft = 4 then 0 else ft
def am_z (ci : Nat) (j : Int) : Int := if am_ft ci j.toNat = 2 then -1 else 0
def am_ec (k : Int) : Int := if k = 20 then 1 else if k = 21 then 10 else if k = 22 then 8 else 9
def am_cat (v : am_V) : Nat := if v.1 = 1 then 2 else 1
def am_cats : List am_V → Nat
  | [] => 0
  | v :: l => am_cat v + am_cats l
/-- loads and stores of locals -/
def am_ld (t k : Nat) (ls st : List am_V) : Option (List am_V) := match ls[k]? with
  | some (t', x) => if t' = t then some ((t, x) :: st) else none
  | none => none
def am_kill (ls : List am_V) (k : Nat) : List am_V := match k with
  | 0 => ls
  | j + 1 => match ls[j]? with
    | some (1, _) => ls.set j (3, 0)
    | _ => ls
def am_st1 (ls : List am_V) (k : Nat) (v : am_V) : List am_V := (am_kill ls k).set k v
def am_st2 (ls : List am_V) (k : Nat) (v : am_V) : List am_V := ((am_kill ls k).set k v).set (k + 1) (3, 0)
def am_sto (t k : Nat) (ls st : List am_V) : Option (List am_V × List am_V) := match st with
  | (t', x) :: r => if t' = t then (if t = 1 then (if k + 1 < ls.length then some (am_st2 ls k (t, x), r) else none) else (if k < ls.length then some (am_st1 ls k (t, x), r) else none)) else none
  | [] => none
def am_b32 (f : Int → Int → Option Int) (st : List am_V) : Option (List am_V) := match st with
  | (0, b) :: (0, a) :: r => (f a b).map fun x => (0, x) :: r
  | _ => none
def am_b64 (f : Int → Int → Option Int) (st : List am_V) : Option (List am_V) := match st with
  | (1, b) :: (1, a) :: r => (f a b).map fun x => (1, x) :: r
  | _ => none
def am_idiv (a b : Int) : Option Int := if b = 0 then none else some (Int32.ofInt a / Int32.ofInt b).toInt
def am_ldiv (a b : Int) : Option Int := if b = 0 then none else some (Int64.ofInt a / Int64.ofInt b).toInt
def am_lrem (a b : Int) : Option Int := if b = 0 then none else some (Int64.ofInt a - Int64.ofInt a / Int64.ofInt b * Int64.ofInt b).toInt
def am_and (a b : Int) : Int := (Int32.ofInt a &&& Int32.ofInt b).toInt
def am_or (a b : Int) : Int := (Int32.ofInt a ||| Int32.ofInt b).toInt
def am_shl (a b : Int) : Int := (Int32.ofInt a <<< (Int32.ofInt b &&& 31)).toInt
def am_shr (a b : Int) : Int := (Int32.ofInt a >>> (Int32.ofInt b &&& 31)).toInt
def am_land (a b : Int) : Int := (Int64.ofInt a &&& Int64.ofInt b).toInt
def am_lor (a b : Int) : Int := (Int64.ofInt a ||| Int64.ofInt b).toInt
def am_lxor (a b : Int) : Int := (Int64.ofInt a ^^^ Int64.ofInt b).toInt
def am_lshl (a b : Int) : Int := (Int64.ofInt a <<< ((Int32.ofInt b).toInt64 &&& 63)).toInt
def am_i2b (a : Int) : Int := (Int32.ofInt a).toInt8.toInt32.toInt
def am_i2c (a : Int) : Int := ((Int32.ofInt a).toUInt32 % 65536).toInt32.toInt
def am_lcmp (a b : Int) : Int := if a < b then -1 else if a = b then 0 else 1
def am_ald (kd : Int → Bool) (t : Nat) (st : List am_V) (h : am_H) : Option (List am_V) := match st with
  | (0, i) :: (2, a) :: r => if kd (am_k h a) = true ∧ 0 ≤ i ∧ i < am_l h a then some ((t, am_v h a i) :: r) else none
  | _ => none
/-- what may be stored in an array of a kind, and what is then there -/
def am_fit (h : am_H) (kd v : Int) : Option Int :=
  if kd = 17 then some (am_i2b v) else if kd = 18 then (if v = 0 ∨ v = 1 then some v else none) else if kd = 16 ∨ kd = 19 then some v else if v = -1 ∨ (0 ≤ v ∧ am_k h v = am_ec kd) then some v else none
def am_ast (kd : Int → Bool) (t : Nat) (st : List am_V) (h : am_H) : Option (List am_V × am_H) := match st with
  | (t', v) :: (0, i) :: (2, a) :: r => if t' = t ∧ kd (am_k h a) = true ∧ 0 ≤ a ∧ 0 ≤ i ∧ i < am_l h a then (am_fit h (am_k h a) v).map fun x => (r, am_set h a i x) else none
  | _ => none
def am_str (s : Nat) : List Int := am_strs.getD s []
/-- the instructions that go on with the next one -/
def am_st (i : Instr) (r : List Int) (ls st : List am_V) (h : am_H) : Option (List am_V × List am_V × am_H) :=
  match i with
  | .iconst c => some (ls, (0, c) :: st, h)
  | .bipush c => some (ls, (0, c) :: st, h)
  | .sipush c => some (ls, (0, c) :: st, h)
  | .lconst c => some (ls, (1, (c.val : Int)) :: st, h)
  | .ldc _ => match r with
    | [0, c] => some (ls, (0, c) :: st, h)
    | [2, c] => some (ls, (2, -10 - 2 * c) :: st, h)
    | _ => none
  | .ldc_w _ => match r with
    | [0, c] => some (ls, (0, c) :: st, h)
    | [2, c] => some (ls, (2, -10 - 2 * c) :: st, h)
    | _ => none
  | .ldc2_w _ => match r with
    | [c] => some (ls, (1, c) :: st, h)
    | _ => none
  | .aconst_null => some (ls, (2, -1) :: st, h)
  | .iload_n k => (am_ld 0 k.val ls st).map fun st' => (ls, st', h)
  | .iload k => (am_ld 0 k ls st).map fun st' => (ls, st', h)
  | .lload_n k => (am_ld 1 k.val ls st).map fun st' => (ls, st', h)
  | .lload k => (am_ld 1 k ls st).map fun st' => (ls, st', h)
  | .aload_n k => (am_ld 2 k.val ls st).map fun st' => (ls, st', h)
  | .aload k => (am_ld 2 k ls st).map fun st' => (ls, st', h)
  | .istore_n k => (am_sto 0 k.val ls st).map fun q => (q.1, q.2, h)
  | .istore k => (am_sto 0 k ls st).map fun q => (q.1, q.2, h)
  | .lstore_n k => (am_sto 1 k.val ls st).map fun q => (q.1, q.2, h)
  | .lstore k => (am_sto 1 k ls st).map fun q => (q.1, q.2, h)
  | .astore_n k => (am_sto 2 k.val ls st).map fun q => (q.1, q.2, h)
  | .astore k => (am_sto 2 k ls st).map fun q => (q.1, q.2, h)
  | .iinc k c => match ls[k]? with
    | some (0, x) => some (am_st1 ls k (0, am_w (x + c)), st, h)
    | _ => none
  | .iadd => (am_b32 (fun a b => some (am_w (a + b))) st).map fun st' => (ls, st', h)
  | .isub => (am_b32 (fun a b => some (am_w (a - b))) st).map fun st' => (ls, st', h)
  | .imul => (am_b32 (fun a b => some (am_w (a * b))) st).map fun st' => (ls, st', h)
  | .idiv => (am_b32 am_idiv st).map fun st' => (ls, st', h)
  | .iand => (am_b32 (fun a b => some (am_and a b)) st).map fun st' => (ls, st', h)
  | .ior => (am_b32 (fun a b => some (am_or a b)) st).map fun st' => (ls, st', h)
  | .ishl => (am_b32 (fun a b => some (am_shl a b)) st).map fun st' => (ls, st', h)
  | .ishr => (am_b32 (fun a b => some (am_shr a b)) st).map fun st' => (ls, st', h)
  | .ineg => match st with
    | (0, a) :: q => some (ls, (0, am_w (-a)) :: q, h)
    | _ => none
  | .ladd => (am_b64 (fun a b => some (am_x (a + b))) st).map fun st' => (ls, st', h)
  | .lsub => (am_b64 (fun a b => some (am_x (a - b))) st).map fun st' => (ls, st', h)
  | .lmul => (am_b64 (fun a b => some (am_x (a * b))) st).map fun st' => (ls, st', h)
  | .ldiv => (am_b64 am_ldiv st).map fun st' => (ls, st', h)
  | .lrem => (am_b64 am_lrem st).map fun st' => (ls, st', h)
  | .land => (am_b64 (fun a b => some (am_land a b)) st).map fun st' => (ls, st', h)
  | .lor => (am_b64 (fun a b => some (am_lor a b)) st).map fun st' => (ls, st', h)
  | .lxor => (am_b64 (fun a b => some (am_lxor a b)) st).map fun st' => (ls, st', h)
  | .lneg => match st with
    | (1, a) :: q => some (ls, (1, am_x (-a)) :: q, h)
    | _ => none
  | .lshl => match st with
    | (0, b) :: (1, a) :: q => some (ls, (1, am_lshl a b) :: q, h)
    | _ => none
  | .lcmp => match st with
    | (1, b) :: (1, a) :: q => some (ls, (0, am_lcmp a b) :: q, h)
    | _ => none
  | .i2l => match st with
    | (0, a) :: q => some (ls, (1, a) :: q, h)
    | _ => none
  | .l2i => match st with
    | (1, a) :: q => some (ls, (0, am_w a) :: q, h)
    | _ => none
  | .i2b => match st with
    | (0, a) :: q => some (ls, (0, am_i2b a) :: q, h)
    | _ => none
  | .i2c => match st with
    | (0, a) :: q => some (ls, (0, am_i2c a) :: q, h)
    | _ => none
  | .dup => match st with
    | v :: q => if v.1 = 0 ∨ v.1 = 2 then some (ls, v :: v :: q, h) else none
    | _ => none
  | .dup2 => match st with
    | v :: w :: q => if (v.1 = 0 ∨ v.1 = 2) ∧ (w.1 = 0 ∨ w.1 = 2) then some (ls, v :: w :: v :: w :: q, h) else none
    | _ => none
  | .pop => match st with
    | v :: q => if v.1 = 0 ∨ v.1 = 2 then some (ls, q, h) else none
    | _ => none
  | .pop2 => match st with
    | v :: q => if v.1 = 1 then some (ls, q, h) else none
    | _ => none
  | .getfield _ => match r, st with
    | [ci, k], (2, a) :: q => if ci = 100 then (if am_k h a = 100 then (if k = 0 then some (ls, (2, a - 1) :: q, h) else some (ls, (0, 0) :: q, h)) else none)
        else if am_k h a = ci then some (ls, (am_tg (am_ft ci.toNat k.toNat), am_v h a k) :: q, h) else none
    | _, _ => none
  | .putfield _ => match r, st with
    | [ci, k], (t, v) :: (2, a) :: q => if 0 ≤ a ∧ am_k h a = ci ∧ t = am_tg (am_ft ci.toNat k.toNat) ∧ (am_ft ci.toNat k.toNat = 4 → v = 0 ∨ v = 1) ∧ (t = 2 → -1 ≤ v) then some (ls, q, am_set h a k v) else none
    | _, _ => none
  | .getstatic _ => match r with
    | [0] => some (ls, (0, 1) :: st, h)
    | [1] => some (ls, (2, -3) :: st, h)
    | _ => none
  | .iaload => (am_ald (fun k => decide (k = 16)) 0 st h).map fun st' => (ls, st', h)
  | .baload => (am_ald (fun k => decide (k = 17 ∨ k = 18)) 0 st h).map fun st' => (ls, st', h)
  | .laload => (am_ald (fun k => decide (k = 19)) 1 st h).map fun st' => (ls, st', h)
  | .aaload => (am_ald (fun k => decide (20 ≤ k ∧ k ≤ 23)) 2 st h).map fun st' => (ls, st', h)
  | .iastore => (am_ast (fun k => decide (k = 16)) 0 st h).map fun q => (ls, q.1, q.2)
  | .bastore => (am_ast (fun k => decide (k = 17 ∨ k = 18)) 0 st h).map fun q => (ls, q.1, q.2)
  | .lastore => (am_ast (fun k => decide (k = 19)) 1 st h).map fun q => (ls, q.1, q.2)
  | .aastore => (am_ast (fun k => decide (20 ≤ k ∧ k ≤ 23)) 2 st h).map fun q => (ls, q.1, q.2)
  | .arraylength => match st with
    | (2, a) :: q => if 16 ≤ am_k h a ∧ am_k h a ≤ 23 then some (ls, (0, am_l h a) :: q, h) else none
    | _ => none
  | .newarray _ => match r, st with
    | [k], (0, n) :: q => if 0 ≤ n ∧ n ≤ 1000000 then some (ls, (2, am_n h) :: q, am_new h k n (fun _ => 0)) else none
    | _, _ => none
  | .anewarray _ => match r, st with
    | [k], (0, n) :: q => if 0 ≤ n ∧ n ≤ 1000000 then some (ls, (2, am_n h) :: q, am_new h k n (fun _ => -1)) else none
    | _, _ => none
  | .new _ => match r with
    | [ci] => some (ls, (2, am_n h) :: st, am_new h ci (am_fn ci.toNat) (am_z ci.toNat))
    | _ => none
  | _ => none
def am_cmp (c : ClassFile.Cond) (a b : Int) : Bool := match c with
  | .eq => decide (a = b)
  | .ne => decide (a ≠ b)
  | .lt => decide (a < b)
  | .ge => decide (b ≤ a)
  | .gt => decide (b < a)
  | .le => decide (a ≤ b)
/-- jumps: where to (none: the next one), the stack -/
def am_br (i : Instr) (r : List Int) (st : List am_V) : Option (Option Int × List am_V) :=
  match i, r with
  | .nop, [b] => some (some b, st)
  | .goto _, [b] => some (some b, st)
  | .ifCond c _, [b] => match st with
    | (0, x) :: q => some (if am_cmp c x 0 then some b else none, q)
    | _ => none
  | .if_icmp c _, [b] => match st with
    | (0, y) :: (0, x) :: q => some (if am_cmp c x y then some b else none, q)
    | _ => none
  | .ifnull _, [b] => match st with
    | (2, a) :: q => if a = -3 then none else some (if a = -1 then some b else none, q)
    | _ => none
  | .ifnonnull _, [b] => match st with
    | (2, a) :: q => if a = -3 then none else some (if a = -1 then none else some b, q)
    | _ => none
  | .tableswitch _ lo hi _, b :: bs => match st with
    | (0, x) :: q => some (if x < lo ∨ hi < x then some b else bs[(x - lo).toNat]?, q)
    | _ => none
  | _, _ => none
def am_ret (i : Instr) (rt : Nat) (st : List am_V) (h : am_H) : Option am_R :=
  match i, st with
  | .return_, [] => if rt = 6 then some (none, h) else none
  | .ireturn, [(0, x)] => if rt = 0 ∨ (rt = 1 ∧ (x = 0 ∨ x = 1)) ∨ (rt = 2 ∧ -128 ≤ x ∧ x ≤ 127) ∨ (rt = 3 ∧ 0 ≤ x ∧ x ≤ 65535) then some (some (0, x), h) else none
  | .lreturn, [(1, x)] => if rt = 4 then some (some (1, x), h) else none
  | .areturn, [(2, x)] => if rt = 5 ∧ -1 ≤ x then some (some (2, x), h) else none
  | _, _ => none
/-- 0 goes on, 1 jumps, 2 ends, 3 calls -/
def am_kd (i : Instr) : Nat := match i with
  | .nop => 1
  | .goto _ => 1
  | .ifCond _ _ => 1
  | .if_icmp _ _ => 1
  | .ifnull _ => 1
  | .ifnonnull _ => 1
  | .tableswitch _ _ _ _ => 1
  | .return_ => 2
  | .ireturn => 2
  | .lreturn => 2
  | .areturn => 2
  | .invokevirtual _ => 3
  | .invokestatic _ => 3
  | .invokespecial _ => 3
  | _ => 0
/-- a call's arguments as locals -/
def am_exp : List am_V → List am_V
  | [] => []
  | (1, x) :: l => (1, x) :: (3, 0) :: am_exp l
  | v :: l => v :: am_exp l
def am_ent (y : Nat) (as : List am_V) : List am_V := am_exp as ++ List.replicate (am_ml y - (am_exp as).length) (3, 0)
/-- what a call asks of its receiver -/
def am_rcv (kd : Int) (y : Nat) (as : List am_V) (h : am_H) : Bool :=
  if kd = 1 then true else match as with
  | (2, a) :: _ => if am_ow y = 11 then decide (am_k h a = 100) else decide (0 ≤ a ∧ am_k h a = (am_ow y : Int))
  | _ => false
def am_push (v : Option am_V) (st : List am_V) : List am_V := match v with
  | some v => v :: st
  | none => st
def am_copies (h : am_H) (st : List am_V) : Option (List am_V × am_H) := match st with
  | (0, n) :: (0, dp) :: (2, d) :: (0, sp) :: (2, s) :: q => if 0 ≤ s ∧ 0 ≤ d ∧ am_k h s = am_k h d ∧ 16 ≤ am_k h s ∧ am_k h s ≤ 23 ∧ 0 ≤ n ∧ 0 ≤ sp ∧ 0 ≤ dp ∧ sp + n ≤ am_l h s ∧ dp + n ≤ am_l h d ∧ am_cats q ≤ 8 then some (q, am_cpy h s sp d dp n) else none
  | _ => none
def am_run : Nat → Nat → Nat → List am_I → List am_V → List am_V → am_H → Option am_R
  | 0, _, _, _, _, _, _ => none
  | f + 1, d, y, l, ls, st, h => match l with
    | [] => none
    | (i, r, _) :: l' => match am_kd i with
      | 0 => match am_st i r ls st h with
        | some (ls', st', h') => am_run f d y l' ls' st' h'
        | none => none
      | 1 => match am_br i r st with
        | some (some b, st') => am_run f d y (am_blk y b.toNat) ls st' h
        | some (none, st') => am_run f d y l' ls st' h
        | none => none
      | 2 => am_ret i (am_rt y) st h
      | _ => match d, r with
        | d' + 1, [kd, y', n] =>
          if kd = 6 then match st with
            | (2, a) :: q => if 0 ≤ a ∧ am_k h a ≤ 10 ∧ 0 ≤ am_k h a ∧ am_cats q ≤ 8 then am_run f (d' + 1) y l' ls q h else none
            | _ => none
          else if kd = 7 then match am_copies h st with
            | some (q, h') => am_run f (d' + 1) y l' ls q h'
            | none => none
          else if (st.take n.toNat).length = n.toNat ∧ am_cats (st.drop n.toNat) ≤ 8 ∧ am_rcv kd y'.toNat (st.take n.toNat).reverse h = true ∧ (am_exp (st.take n.toNat)).length ≤ am_ml y'.toNat then
            match am_run f d' y'.toNat (am_blk y'.toNat 0) (am_ent y'.toNat (st.take n.toNat).reverse) [] h with
            | some (v, h') => am_run f (d' + 1) y l' ls (am_push v (st.drop n.toNat)) h'
            | none => none
          else none
        | _, _ => none
