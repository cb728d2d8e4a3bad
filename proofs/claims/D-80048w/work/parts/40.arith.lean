set_option maxRecDepth 100000
theorem i32_nat (a : Nat) (h : a < 2147483648) : (Int32.ofInt (a : Int)).toBitVec.toNat = a := by
  rw [Int32.toBitVec_ofInt]
  rw [BitVec.toNat_ofInt]
  omega
theorem bv_int (x : BitVec 32) (h : x.toNat < 2147483648) : x.toInt = (x.toNat : Int) := by
  rw [BitVec.toInt_eq_toNat_of_lt]; omega
theorem am_and_nat (a b : Nat) (ha : a < 2147483648) (hb : b < 2147483648) : am_and (a : Int) (b : Int) = ((a &&& b : Nat) : Int) := by
  unfold am_and
  have e : (Int32.ofInt (a : Int) &&& Int32.ofInt (b : Int)).toBitVec.toNat = a &&& b := by
    rw [Int32.toBitVec_and, BitVec.toNat_and, i32_nat a ha, i32_nat b hb]
  show (Int32.ofInt (a : Int) &&& Int32.ofInt (b : Int)).toBitVec.toInt = _
  rw [bv_int, e]
  rw [e]
  exact Nat.lt_of_le_of_lt Nat.and_le_left ha
theorem am_or_nat (a b : Nat) (ha : a < 2147483648) (hb : b < 2147483648) : am_or (a : Int) (b : Int) = ((a ||| b : Nat) : Int) := by
  unfold am_or
  have e : (Int32.ofInt (a : Int) ||| Int32.ofInt (b : Int)).toBitVec.toNat = a ||| b := by
    rw [Int32.toBitVec_or, BitVec.toNat_or, i32_nat a ha, i32_nat b hb]
  show (Int32.ofInt (a : Int) ||| Int32.ofInt (b : Int)).toBitVec.toInt = _
  rw [bv_int, e]
  rw [e]
  exact Nat.or_lt_two_pow (n := 31) ha hb
theorem am_shr_nat (a k : Nat) (ha : a < 2147483648) (hk : k < 31) : am_shr (a : Int) (k : Int) = ((a / 2 ^ k : Nat) : Int) := by
  unfold am_shr
  have hk2 : (Int32.ofInt (k : Int) &&& 31).toBitVec = BitVec.ofNat 32 k := by
    apply BitVec.eq_of_toNat_eq
    rw [Int32.toBitVec_and, BitVec.toNat_and, i32_nat k (by omega)]
    show k &&& 31 = _
    rw [show (31 : Nat) = 2 ^ 5 - 1 from rfl, Nat.and_two_pow_sub_one_eq_mod, BitVec.toNat_ofNat]
    omega
  have e : (Int32.ofInt (a : Int) >>> (Int32.ofInt (k : Int) &&& 31)).toBitVec.toInt = ((a / 2 ^ k : Nat) : Int) := by
    rw [Int32.toBitVec_shiftRight, hk2]
    have : ((BitVec.ofNat 32 k).smod 32) = BitVec.ofNat 32 k := by
      have : ∀ k : Fin 31, ((BitVec.ofNat 32 k.val).smod 32) = BitVec.ofNat 32 k.val := by decide
      exact this ⟨k, hk⟩
    rw [this]
    show ((Int32.ofInt (a : Int)).toBitVec.sshiftRight' (BitVec.ofNat 32 k)).toInt = _
    rw [BitVec.sshiftRight', BitVec.toInt_sshiftRight, bv_int _ (by rw [i32_nat a ha]; exact ha), i32_nat a ha, BitVec.toNat_ofNat]
    rw [show k % 2 ^ 32 = k by omega, Int.shiftRight_eq_div_pow]
    norm_cast
  exact e
theorem am_shl1 (k : Nat) (hk : k < 24) : am_shl 1 (k : Int) = ((2 ^ k : Nat) : Int) := by
  have : ∀ k : Fin 24, am_shl 1 (k.val : Int) = ((2 ^ k.val : Nat) : Int) := by decide
  exact this ⟨k, hk⟩
theorem am_w_in {x : Int} (h0 : -2147483648 ≤ x) (h1 : x ≤ 2147483647) : am_w x = x := am_w_id ⟨h0, h1⟩
/-! rows: values, none is NULL -/
def rw_nm : List (Option Int) → Nat
  | [] => 0
  | none :: l => 1 + 2 * rw_nm l
  | some _ :: l => 2 * rw_nm l
def rw_ov (x : Option Int) : Int := x.getD 0
theorem rw_nm_lt : ∀ l : List (Option Int), rw_nm l < 2 ^ l.length := by
  intro l
  induction l with
  | nil => decide
  | cons x l ih =>
    have e : 2 ^ (x :: l).length = 2 * 2 ^ l.length := by rw [List.length_cons, Nat.pow_succ]; omega
    cases x with
    | none => show 1 + 2 * rw_nm l < _; omega
    | some v => show 2 * rw_nm l < _; omega
theorem rw_nm_bit : ∀ (l : List (Option Int)) (k : Nat), rw_nm l / 2 ^ k % 2 = if l[k]? = some none then 1 else 0 := by
  intro l
  induction l with
  | nil => intro k; simp [rw_nm]
  | cons x l ih =>
    intro k
    cases k with
    | zero =>
      cases x with
      | none => simp [rw_nm]
      | some v => simp [rw_nm]
    | succ k =>
      have e : rw_nm (x :: l) / 2 ^ (k + 1) = rw_nm l / 2 ^ k := by
        rw [Nat.pow_succ, Nat.mul_comm, ← Nat.div_div_eq_div_mul]
        congr 1
        cases x with
        | none => show (1 + 2 * rw_nm l) / 2 = _; omega
        | some v => show (2 * rw_nm l) / 2 = _; omega
      rw [e, ih k, List.getElem?_cons_succ]
theorem rw_nm_none : ∀ l : List (Option Int), rw_nm (l ++ [none]) = rw_nm l + 2 ^ l.length := by
  intro l
  induction l with
  | nil => rfl
  | cons x l ih =>
    have e : 2 ^ (x :: l).length = 2 * 2 ^ l.length := by rw [List.length_cons, Nat.pow_succ]; omega
    rw [e]
    cases x with
    | none => show 1 + 2 * rw_nm (l ++ [none]) = 1 + 2 * rw_nm l + _; omega
    | some v => show 2 * rw_nm (l ++ [none]) = 2 * rw_nm l + _; omega
theorem rw_nm_some (v : Int) : ∀ l : List (Option Int), rw_nm (l ++ [some v]) = rw_nm l := by
  intro l
  induction l with
  | nil => rfl
  | cons x l ih =>
    cases x with
    | none => show 1 + 2 * rw_nm (l ++ [some v]) = 1 + 2 * rw_nm l; omega
    | some w => show 2 * rw_nm (l ++ [some v]) = 2 * rw_nm l; omega
theorem rw_nm_31 {l : List (Option Int)} (h : l.length ≤ 24) : rw_nm l < 16777216 := Nat.lt_of_lt_of_le (rw_nm_lt l) (Nat.pow_le_pow_right (by decide) h)
theorem rw_isn {l : List (Option Int)} (h : l.length ≤ 24) {k : Int} (h0 : 0 ≤ k) (h1 : k < 31) : am_and (am_shr (rw_nm l : Int) k) 1 = if l[k.toNat]? = some none then 1 else 0 := by
  obtain ⟨j, rfl⟩ := Int.eq_ofNat_of_zero_le h0
  have h31 := rw_nm_31 h
  rw [am_shr_nat _ j (by omega) (by omega)]
  have : rw_nm l / 2 ^ j ≤ rw_nm l := Nat.div_le_self _ _
  have e1 : (1 : Int) = ((1 : Nat) : Int) := rfl
  rw [e1, am_and_nat _ 1 (by omega) (by omega), Nat.and_one_is_mod, rw_nm_bit, Int.toNat_natCast]
  split <;> rfl
theorem rw_orn {l : List (Option Int)} (h : l.length < 24) : am_or (rw_nm l : Int) (am_shl 1 (l.length : Int)) = (rw_nm (l ++ [none]) : Int) := by
  have hlt := rw_nm_lt l
  have h2 : 2 ^ l.length < 2 ^ 24 := Nat.pow_lt_pow_right (by decide) h
  have h31 := rw_nm_31 (Nat.le_of_lt h)
  rw [am_shl1 _ h, am_or_nat _ _ (by omega) (by omega), rw_nm_none]
  have := Nat.two_pow_add_eq_or_of_lt hlt 1
  rw [Nat.mul_one] at this
  rw [Nat.or_comm, ← this]
  congr 1
  omega
theorem rw_ors {l : List (Option Int)} (h : l.length < 24) (v : Int) : am_or (rw_nm l : Int) 0 = (rw_nm (l ++ [some v]) : Int) := by
  have h31 := rw_nm_31 (Nat.le_of_lt h)
  have e1 : (0 : Int) = ((0 : Nat) : Int) := rfl
  rw [e1, am_or_nat _ _ (by omega) (by omega), rw_nm_some, Nat.or_zero]
