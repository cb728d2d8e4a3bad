set_option maxRecDepth 100000
/-! 64 bits: rests, floors; values of expressions are longs -/
theorem i64_of {a : Int} (h0 : -9223372036854775808 ≤ a) (h1 : a ≤ 9223372036854775807) : (Int64.ofInt a).toInt = a := Int64.toInt_ofInt_of_le (by omega) (by omega)
theorem bm64 {a : Int} (h0 : -9223372036854775808 ≤ a) (h1 : a ≤ 9223372036854775807) : a.bmod (2 ^ 64) = a := by
  rw [Int.bmod_eq_of_le] <;> omega
theorem am_lrm_t {a b : Int} (h0 : -9223372036854775808 ≤ a) (h1 : a ≤ 9223372036854775807) (h2 : 0 < b) (h3 : b ≤ 9223372036854775807) : am_lrm a b = Int.tmod a b := by
  have hq : ∃ q p r : Int, Int.tdiv a b = q ∧ Int.tmod a b = r ∧ q * b = p ∧ r + p = a ∧ -9223372036854775808 ≤ q ∧ q ≤ 9223372036854775807 ∧ -9223372036854775808 ≤ p ∧ p ≤ 9223372036854775807 ∧ -9223372036854775808 ≤ r ∧ r ≤ 9223372036854775807 := by
    have hr : Int.tmod a b + Int.tdiv a b * b = a := by rw [Int.mul_comm]; exact Int.tmod_add_mul_tdiv a b
    refine ⟨_, _, _, rfl, rfl, rfl, hr, ?_⟩
    · by_cases ha : 0 ≤ a
      · have e1 := Int.tdiv_eq_ediv_of_nonneg (b := b) ha
        have e2 := Int.ediv_mul_le a (b := b) (by omega)
        have e3 : 0 ≤ a / b := Int.ediv_nonneg ha (by omega)
        have e4 : a / b ≤ a := Int.ediv_le_self b ha
        have e5 : 0 ≤ a / b * b := Int.mul_nonneg e3 (by omega)
        rw [e1] at hr ⊢
        omega
      · have e1 := Int.tdiv_eq_ediv_of_nonneg (a := -a) (b := b) (by omega)
        rw [Int.neg_tdiv] at e1
        have e2 := Int.ediv_mul_le (-a) (b := b) (by omega)
        have e3 : 0 ≤ (-a) / b := Int.ediv_nonneg (by omega) (by omega)
        have e4 : (-a) / b ≤ -a := Int.ediv_le_self b (by omega)
        have e5 : 0 ≤ (-a) / b * b := Int.mul_nonneg e3 (by omega)
        have e6 : Int.tdiv a b = - ((-a) / b) := by omega
        rw [e6, Int.neg_mul] at hr
        rw [e6, Int.neg_mul]
        omega
  obtain ⟨q, p, r, e1, e2, e3, e4, b1, b2, b3, b4, b5, b6⟩ := hq
  unfold am_lrm
  rw [Int64.toInt_sub, Int64.toInt_mul, Int64.toInt_div, i64_of h0 h1, i64_of (by omega) h3, e1, bm64 b1 b2, e3, bm64 b3 b4, e2, bm64 (by omega) (by omega)]
  omega
theorem am_lxor_neg {a b : Int} (h0 : -9223372036854775808 ≤ a) (h1 : a ≤ 9223372036854775807) (h2 : 0 < b) (h3 : b ≤ 9223372036854775807) : am_lxor a b < 0 ↔ a < 0 := by
  have e1 : (Int64.ofInt a).toBitVec.msb = decide (a < 0) := by
    rw [BitVec.msb_eq_toInt]
    have : (Int64.ofInt a).toBitVec.toInt = a := i64_of h0 h1
    rw [this]
  have e2 : (Int64.ofInt b).toBitVec.msb = false := by
    rw [BitVec.msb_eq_toInt]
    have : (Int64.ofInt b).toBitVec.toInt = b := i64_of (by omega) h3
    rw [this]
    simp
    omega
  have e3 : (Int64.ofInt a ^^^ Int64.ofInt b).toBitVec.msb = decide (am_lxor a b < 0) := by
    rw [BitVec.msb_eq_toInt]
    rfl
  rw [Int64.toBitVec_xor, BitVec.msb_xor, e1, e2] at e3
  simp at e3
  exact e3.symm
theorem am_ldv_m {a : Int} (h0 : -9223372036854775808 ≤ a) (h1 : a ≤ 9223372036854775807) : am_ldv a (-1) = am_x (-a) := by
  unfold am_ldv am_x
  rw [Int64.toInt_div, i64_of h0 h1]
  have : (Int64.ofInt (-1)).toInt = -1 := by decide
  rw [this, Int64.toInt_ofInt, Int.tdiv_neg, Int.tdiv_one]
theorem am_lrm_m {a : Int} : am_lrm a (-1) = 0 := by
  have h : ∀ x : Int64, x - x / (-1) * (-1) = 0 := by
    intro x
    apply Int64.toInt_inj.mp
    rw [Int64.toInt_sub, Int64.toInt_mul, Int64.toInt_div]
    have e1 : (-1 : Int64).toInt = -1 := by decide
    rw [e1, Int.tdiv_neg, Int.tdiv_one]
    have e0 : (0 : Int64).toInt = 0 := by decide
    rw [e0]
    rw [Int.bmod_mul_bmod, Int.sub_bmod_bmod]
    have : x.toInt - -x.toInt * -1 = 0 := by omega
    rw [this]
    decide
  unfold am_lrm
  have e1 : Int64.ofInt (-1) = -1 := by decide
  rw [e1, h]
  decide
theorem ev_r64 {T : xt} {env : Nat → Option Int} (hT : ∀ e, -9223372036854775808 ≤ x_v T e ∧ x_v T e ≤ 9223372036854775807) (he : ∀ e, x_r64 (env e)) : ∀ f e, x_r64 (ev T env f e) := by
  have t01 : ∀ v : Int, (v = 0 ∨ v = 1) → x_r64 (some v) := by
    intro v hv x hx
    cases hx
    rcases hv with rfl | rfl <;> decide
  have tn : x_r64 none := fun x hx => by cases hx
  have tx : ∀ z, x_r64 (some (am_x z)) := fun z x hx => by cases hx; exact am_x_r z
  have tb : ∀ dc a b, (dc = 0 ∨ dc = 1) → x_r64 (x_bo dc a b) := by
    intro dc a b hd
    unfold x_bo
    split
    · exact t01 _ hd
    · split
      · exact tn
      · exact t01 _ (by omega)
  have ti : ∀ dc a b, (dc = 0 ∨ dc = 1) → x_r64 (x_in dc a b) := by
    intro dc a b hd
    unfold x_in
    split
    · exact t01 _ hd
    · split
      · exact tn
      · exact t01 _ (by omega)
  have ic : ∀ {p : Prop} [Decidable p] {a b : Option Int}, x_r64 a → x_r64 b → x_r64 (if p then a else b) := by
    intro p _ a b ha hb
    split
    · exact ha
    · exact hb
  have to : ∀ act a b, x_r64 (x_op act a b) := by
    intro act a b
    have t1 : ∀ p : Prop, [Decidable p] → x_r64 (some (if p then 1 else 0)) := fun p _ => t01 _ (by split <;> simp)
    have t2 : ∀ p : Prop, [Decidable p] → x_r64 (some (if p then 0 else 1)) := fun p _ => t01 _ (by split <;> simp)
    unfold x_op
    have t3 : ∀ x y : Int, x_r64 (some (am_ldv x y)) := fun x y z hz => by cases hz; exact ⟨Int64.le_toInt _, Int64.toInt_le _⟩
    have t4 : ∀ x y : Int, x_r64 (some (am_lrm x y)) := fun x y z hz => by cases hz; exact ⟨Int64.le_toInt _, Int64.toInt_le _⟩
    exact ic (t1 _) (ic (t2 _) (ic (t1 _) (ic (t1 _) (ic (t1 _) (ic (t1 _) (ic (tx _) (ic (tx _) (ic (tx _) (ic (ic tn (tx _)) (ic tn (ic (t3 _ _) (t4 _ _))))))))))))
  intro f
  induction f with
  | zero => intro e; exact tn
  | succ f ih =>
    intro e
    have tm : ∀ (o : Option Int) (g : Int → Int), x_r64 (o.map (fun v => am_x (g v))) := by
      intro o g x hx
      rw [Option.map_eq_some_iff] at hx
      obtain ⟨v, -, rfl⟩ := hx
      exact am_x_r _
    have t1 : ∀ p : Prop, [Decidable p] → x_r64 (some (if p then 1 else 0)) := fun p _ => t01 _ (by split <;> simp)
    have t2 : ∀ p : Prop, [Decidable p] → x_r64 (some (if p then 0 else 1)) := fun p _ => t01 _ (by split <;> simp)
    unfold ev
    refine ic (fun x hx => by cases hx; exact hT e) (ic tn (ic (he e) (ic (tb _ _ _ (Or.inr rfl)) (ic (tb _ _ _ (Or.inl rfl)) (ic (tm _ (fun v => 1 - v)) (ic (t1 _) (ic (t2 _) (ic (ti _ _ _ (Or.inr rfl)) (ic (ti _ _ _ (Or.inl rfl)) (ic (tm _ (fun v => -v)) (ic (ic (ih _) (ih _)) ?_)))))))))))
    split
    · exact to _ _ _
    · exact tn
/-- rows of types -/
def rg (τ : List Int) (l : rwt) : Prop := l.length = τ.length ∧ (∀ (k : Nat) (t : Int), τ[k]? = some t → x_ty t (l.getD k none)) ∧ ∀ v ∈ l, x_r64 v
def x_env (sl : Nat → Int) (l : rwt) (e : Nat) : Option Int := l.getD (sl e).toNat none
def x_T64 (T : xt) : Prop := ∀ e, -9223372036854775808 ≤ x_v T e ∧ x_v T e ≤ 9223372036854775807
def x_nl (v : Option Int) : Int := if v = none then 1 else 0
theorem rg.env {τ : List Int} {l : rwt} {sl : Nat → Int} (h : rg τ l) : ∀ e, x_r64 (x_env sl l e) := by
  intro e x hx
  unfold x_env at hx
  rw [List.getD_eq_getElem?_getD] at hx
  cases hv : l[(sl e).toNat]? with
  | none => rw [hv] at hx; cases hx
  | some y =>
    rw [hv] at hx
    exact h.2.2 y (List.mem_of_getElem? hv) x hx
