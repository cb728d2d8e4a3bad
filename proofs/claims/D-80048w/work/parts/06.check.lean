set_option maxRecDepth 1000000
def am_len (i : Instr) : Nat := match i with
  | .bipush _ => 2
  | .sipush _ => 3
  | .ldc _ => 2
  | .ldc_w _ => 3
  | .ldc2_w _ => 3
  | .iload _ => 2
  | .lload _ => 2
  | .aload _ => 2
  | .istore _ => 2
  | .lstore _ => 2
  | .astore _ => 2
  | .iinc _ _ => 3
  | .getfield _ => 3
  | .putfield _ => 3
  | .getstatic _ => 3
  | .newarray _ => 2
  | .anewarray _ => 3
  | .new _ => 3
  | .goto _ => 3
  | .ifCond _ _ => 3
  | .if_icmp _ _ => 3
  | .ifnull _ => 3
  | .ifnonnull _ => 3
  | .invokevirtual _ => 3
  | .invokestatic _ => 3
  | .invokespecial _ => 3
  | _ => 1
def am_hd (l : List am_I) : Option Nat := match l with
  | (_, _, pc) :: _ => some pc
  | [] => none
def am_tgt (y : Nat) (b : Int) (t : Int) : Bool := decide (0 ≤ b) && (match am_hd (am_blk y b.toNat) with
  | some q => decide ((q : Int) = t)
  | none => false)
def am_rg32 (c : Int) : Bool := decide (-2147483648 ≤ c) && decide (c ≤ 2147483647)
def am_rg64 (c : Int) : Bool := decide (-9223372036854775808 ≤ c) && decide (c ≤ 9223372036854775807)
def am_dec (y pc : Nat) (i : Instr) : Bool := match decode (am_b y) pc with
  | .ok (i', n) => decide (i' = i) && decide (n = am_len i)
  | .error _ => false
def am_prm (t : ArrayType) (k : Int) : Bool := match t with
  | .int => decide (k = 16)
  | .byte => decide (k = 17)
  | .boolean => decide (k = 18)
  | .long => decide (k = 19)
  | _ => false
def am_fin (ci k : Nat) : Bool := (am_T ci k).2.2.2
def am_okI (y : Nat) (i : Instr) (r : List Int) (pc : Nat) (nx : Option Nat) : Bool := match i with
  | .nop => match r with
    | [b] => am_tgt y b pc
    | _ => true
  | .goto o => am_dec y pc i && (match r with
    | [b] => am_tgt y b (pc + o)
    | _ => true)
  | .ifCond _ o => am_dec y pc i && decide (nx = some (pc + 3)) && (match r with
    | [b] => am_tgt y b (pc + o)
    | _ => true)
  | .if_icmp _ o => am_dec y pc i && decide (nx = some (pc + 3)) && (match r with
    | [b] => am_tgt y b (pc + o)
    | _ => true)
  | .ifnull o => am_dec y pc i && decide (nx = some (pc + 3)) && (match r with
    | [b] => am_tgt y b (pc + o)
    | _ => true)
  | .ifnonnull o => am_dec y pc i && decide (nx = some (pc + 3)) && (match r with
    | [b] => am_tgt y b (pc + o)
    | _ => true)
  | .tableswitch df lo hi os => (match decode (am_b y) pc with
    | .ok (i', _) => decide (i' = i)
    | .error _ => false) && (match r with
    | b :: bs => am_tgt y b (pc + df) && decide (bs.length = os.size) && decide (hi - lo + 1 = os.size) && (bs.zip os.toList).all (fun q => am_tgt y q.1 (pc + q.2))
    | [] => true)
  | .return_ => am_dec y pc i
  | .ireturn => am_dec y pc i
  | .lreturn => am_dec y pc i
  | .areturn => am_dec y pc i
  | .athrow => true
  | .iconst c => am_dec y pc i && decide (nx = some (pc + 1)) && am_rg32 c
  | .bipush c => am_dec y pc i && decide (nx = some (pc + 2)) && am_rg32 c && decide ((Int8.ofInt c).toInt32 = Int32.ofInt c)
  | .sipush c => am_dec y pc i && decide (nx = some (pc + 3)) && am_rg32 c && decide ((Int16.ofInt c).toInt32 = Int32.ofInt c)
  | .iinc _ c => am_dec y pc i && decide (nx = some (pc + 3)) && am_rg32 c
  | .ldc x => am_dec y pc i && decide (nx = some (pc + 2)) && (match r with
    | [0, c] => decide ((am_ow y, x, c) ∈ am_ki) && am_rg32 c
    | [2, c] => decide (0 ≤ c) && decide (c < 96) && decide ((am_sr.getD c.toNat (99, 0, "")).1 = am_ow y) && decide ((am_sr.getD c.toNat (99, 0, "")).2.1 = x)
    | _ => true)
  | .ldc_w x => am_dec y pc i && decide (nx = some (pc + 3)) && (match r with
    | [0, c] => decide ((am_ow y, x, c) ∈ am_ki) && am_rg32 c
    | [2, c] => decide (0 ≤ c) && decide (c < 96) && decide ((am_sr.getD c.toNat (99, 0, "")).1 = am_ow y) && decide ((am_sr.getD c.toNat (99, 0, "")).2.1 = x)
    | _ => true)
  | .ldc2_w x => am_dec y pc i && decide (nx = some (pc + 3)) && (match r with
    | [c] => decide ((am_ow y, x, c) ∈ am_kj) && am_rg64 c
    | _ => true)
  | .getfield x => match r with
    | [ci, k] => am_dec y pc i && decide (nx = some (pc + 3)) && decide (0 ≤ ci) && decide (0 ≤ k) && (if ci = 100 then decide ((am_ow y, x, 100, k.toNat) ∈ am_fCl) && decide (k ≤ 1) else decide (ci < 11) && decide (k.toNat < am_fn ci.toNat) && (decide ((am_ow y, x, ci.toNat, k.toNat) ∈ am_fAl) || decide ((am_ow y, x, ci.toNat, k.toNat) ∈ am_fBl)))
    | _ => true
  | .putfield x => match r with
    | [ci, k] => am_dec y pc i && decide (nx = some (pc + 3)) && decide (0 ≤ ci) && decide (0 ≤ k) && decide (ci < 11) && decide (k.toNat < am_fn ci.toNat) &&
        (if am_fin ci.toNat k.toNat then decide ((am_ow y, x, ci.toNat, k.toNat) ∈ am_fAl) && decide (am_sk y = 2) && decide (am_ow y = ci.toNat) else decide ((am_ow y, x, ci.toNat, k.toNat) ∈ am_fAl) || decide ((am_ow y, x, ci.toNat, k.toNat) ∈ am_fBl))
    | _ => true
  | .getstatic x => match r with
    | [k] => am_dec y pc i && decide (nx = some (pc + 3)) && decide (0 ≤ k) && decide ((am_ow y, x, 101, k.toNat) ∈ am_fCl)
    | _ => true
  | .newarray t => match r with
    | [k] => am_dec y pc i && decide (nx = some (pc + 2)) && am_prm t k
    | _ => true
  | .anewarray x => match r with
    | [k] => am_dec y pc i && decide (nx = some (pc + 3)) && decide (20 ≤ k) && decide (k ≤ 23) && decide ((am_ow y, x, k.toNat) ∈ am_ka)
    | _ => true
  | .new x => match r with
    | [ci] => am_dec y pc i && decide (nx = some (pc + 3)) && decide (0 ≤ ci) && decide (ci < 11) && decide ((am_ow y, x, ci.toNat) ∈ am_kn)
    | _ => true
  | .invokevirtual x => match r with
    | [kd, y', n] => am_dec y pc i && decide (nx = some (pc + 3)) && decide (kd = 0) && decide (0 ≤ y') && decide ((am_ow y, x, 0, y'.toNat) ∈ am_mAl) && decide (n = am_np y'.toNat + 1) && decide (am_sk y'.toNat = 0)
    | _ => true
  | .invokestatic x => match r with
    | [kd, y', n] => am_dec y pc i && decide (nx = some (pc + 3)) && decide (0 ≤ y') && decide ((am_ow y, x, kd.toNat, y'.toNat) ∈ am_mAl) && (decide (kd = 7) || (decide (kd = 1) && decide (n = am_np y'.toNat) && decide (am_sk y'.toNat = 1)))
    | _ => true
  | .invokespecial x => match r with
    | [kd, y', n] => am_dec y pc i && decide (nx = some (pc + 3)) && decide (0 ≤ y') && decide ((am_ow y, x, kd.toNat, y'.toNat) ∈ am_mAl) && (decide (kd = 6) || ((decide (kd = 2) || decide (kd = 5)) && decide (n = am_np y'.toNat + 1) && decide (am_sk y'.toNat = 2)))
    | _ => true
  | _ => am_dec y pc i && decide (nx = some (pc + am_len i))
def am_okL (y : Nat) : List am_I → Bool
  | [] => true
  | (i, r, pc) :: l => am_okI y i r pc (am_hd l) && am_okL y l
def am_okM (y : Nat) : Bool := (am_code y).all (am_okL y) && decide (am_hd (am_blk y 0) = some 0)
/-- a method's head: names, arity, answer -/
def am_okH (y : Nat) : Bool := plainName (am_y y).cls && decide ((am_y y).cls ≠ "java/lang/invoke/MethodHandle") && decide ((am_y y).cls ≠ "java/lang/invoke/VarHandle") && decide ((parseMethodDescriptor (am_y y).desc).map (fun d => d.parameters.length) = some (am_np y)) && decide ((am_y y).cls = am_nm (am_ow y)) &&
  (match am_rt y, am_r y with
  | 0, some .int => true
  | 1, some .boolean => true
  | 2, some .byte => true
  | 3, some .char => true
  | 4, some .long => true
  | 5, some (.object _) => true
  | 5, some (.array _) => true
  | 6, none => true
  | _, _ => false) && decide (am_sk y = 2 → (am_y y).name = "<init>") && decide (am_ml y ≤ 13)
