set_option maxRecDepth 100000
/-! expressions, pure: a table of acts (the component's numbers), their parts; values over an environment of columns -/
abbrev xt : Type := Nat → Int × Int × Int × Int × Int × Int
def x_act (T : xt) (e : Nat) : Int := (T e).1
def x_a (T : xt) (e : Nat) : Int := (T e).2.1
def x_b (T : xt) (e : Nat) : Int := (T e).2.2.1
def x_c (T : xt) (e : Nat) : Int := (T e).2.2.2.1
def x_n (T : xt) (e : Nat) : Int := (T e).2.2.2.2.1
def x_v (T : xt) (e : Nat) : Int := (T e).2.2.2.2.2
def x_op (act a b : Int) : Option Int :=
  if act = 7 then some (if a = b then 1 else 0)
  else if act = 8 then some (if a = b then 0 else 1)
  else if act = 9 then some (if a < b then 1 else 0)
  else if act = 10 then some (if a ≤ b then 1 else 0)
  else if act = 11 then some (if b < a then 1 else 0)
  else if act = 12 then some (if b ≤ a then 1 else 0)
  else if act = 17 then some (am_x (a + b))
  else if act = 18 then some (am_x (a - b))
  else if act = 19 then some (am_x (a * b))
  else if act = 24 then (if b ≤ 0 then none else some (am_x (a - a % b)))
  else if b = 0 then none
  else if act = 20 then some (am_ldv a b) else some (am_lrm a b)
def x_bo (dc : Int) (a b : Option Int) : Option Int := if a = some dc ∨ b = some dc then some dc else if a = none ∨ b = none then none else some (1 - dc)
/-- the list of in ( ) -/
def x_ch (T : xt) : Nat → Int → List Nat
  | 0, _ => []
  | k + 1, q => if q < 0 then [] else q.toNat :: x_ch T k (x_n T q.toNat)
def x_in (yes : Int) (x : Option Int) (ys : List (Option Int)) : Option Int :=
  if x ≠ none ∧ x ∈ ys then some yes else if x = none ∨ none ∈ ys then none else some (1 - yes)
def ev (T : xt) (env : Nat → Option Int) : Nat → Nat → Option Int
  | 0, _ => none
  | f + 1, e =>
    if x_act T e = 0 ∨ x_act T e = 2 then some (x_v T e)
    else if x_act T e = 1 then none
    else if x_act T e = 3 ∨ 25 ≤ x_act T e then env e
    else if x_act T e = 4 then x_bo 1 (ev T env f (x_a T e).toNat) (ev T env f (x_b T e).toNat)
    else if x_act T e = 5 then x_bo 0 (ev T env f (x_a T e).toNat) (ev T env f (x_b T e).toNat)
    else if x_act T e = 6 then (ev T env f (x_a T e).toNat).map (fun v => am_x (1 - v))
    else if x_act T e = 13 then some (if ev T env f (x_a T e).toNat = none then 1 else 0)
    else if x_act T e = 14 then some (if ev T env f (x_a T e).toNat = none then 0 else 1)
    else if x_act T e = 15 then x_in 1 (ev T env f (x_a T e).toNat) ((x_ch T 9 (x_b T e)).map (fun q => ev T env f q))
    else if x_act T e = 16 then x_in 0 (ev T env f (x_a T e).toNat) ((x_ch T 9 (x_b T e)).map (fun q => ev T env f q))
    else if x_act T e = 22 then (ev T env f (x_a T e).toNat).map (fun v => am_x (-v))
    else if x_act T e = 23 then (if ev T env f (x_a T e).toNat = some 1 then ev T env f (x_b T e).toNat else ev T env f (x_c T e).toNat)
    else match ev T env f (x_a T e).toNat, ev T env f (x_b T e).toNat with
      | some x, some y => x_op (x_act T e) x y
      | _, _ => none
/-! by act -/
section
variable {T : xt} {env : Nat → Option Int} {f e : Nat}
theorem ev_lit (h : x_act T e = 0 ∨ x_act T e = 2) : ev T env (f + 1) e = some (x_v T e) := if_pos h
theorem ev_null (h : x_act T e = 1) : ev T env (f + 1) e = none := by
  conv => lhs; unfold ev
  rw [if_neg (by omega), if_pos h]
theorem ev_col (h : x_act T e = 3 ∨ 25 ≤ x_act T e) : ev T env (f + 1) e = env e := by
  conv => lhs; unfold ev
  rw [if_neg (by omega), if_neg (by omega), if_pos h]
theorem ev_or (h : x_act T e = 4) : ev T env (f + 1) e = x_bo 1 (ev T env f (x_a T e).toNat) (ev T env f (x_b T e).toNat) := by
  conv => lhs; unfold ev
  rw [if_neg (by omega), if_neg (by omega), if_neg (by omega), if_pos h]
theorem ev_and (h : x_act T e = 5) : ev T env (f + 1) e = x_bo 0 (ev T env f (x_a T e).toNat) (ev T env f (x_b T e).toNat) := by
  conv => lhs; unfold ev
  rw [if_neg (by omega), if_neg (by omega), if_neg (by omega), if_neg (by omega), if_pos h]
theorem ev_not (h : x_act T e = 6) : ev T env (f + 1) e = (ev T env f (x_a T e).toNat).map (fun v => am_x (1 - v)) := by
  conv => lhs; unfold ev
  rw [if_neg (by omega), if_neg (by omega), if_neg (by omega), if_neg (by omega), if_neg (by omega), if_pos h]
theorem ev_is (h : x_act T e = 13) : ev T env (f + 1) e = some (if ev T env f (x_a T e).toNat = none then 1 else 0) := by
  conv => lhs; unfold ev
  rw [if_neg (by omega), if_neg (by omega), if_neg (by omega), if_neg (by omega), if_neg (by omega), if_neg (by omega), if_pos h]
theorem ev_isn (h : x_act T e = 14) : ev T env (f + 1) e = some (if ev T env f (x_a T e).toNat = none then 0 else 1) := by
  conv => lhs; unfold ev
  rw [if_neg (by omega), if_neg (by omega), if_neg (by omega), if_neg (by omega), if_neg (by omega), if_neg (by omega), if_neg (by omega), if_pos h]
theorem ev_in (h : x_act T e = 15) : ev T env (f + 1) e = x_in 1 (ev T env f (x_a T e).toNat) ((x_ch T 9 (x_b T e)).map (fun q => ev T env f q)) := by
  conv => lhs; unfold ev
  rw [if_neg (by omega), if_neg (by omega), if_neg (by omega), if_neg (by omega), if_neg (by omega), if_neg (by omega), if_neg (by omega), if_neg (by omega), if_pos h]
theorem ev_nin (h : x_act T e = 16) : ev T env (f + 1) e = x_in 0 (ev T env f (x_a T e).toNat) ((x_ch T 9 (x_b T e)).map (fun q => ev T env f q)) := by
  conv => lhs; unfold ev
  rw [if_neg (by omega), if_neg (by omega), if_neg (by omega), if_neg (by omega), if_neg (by omega), if_neg (by omega), if_neg (by omega), if_neg (by omega), if_neg (by omega), if_pos h]
theorem ev_neg (h : x_act T e = 22) : ev T env (f + 1) e = (ev T env f (x_a T e).toNat).map (fun v => am_x (-v)) := by
  conv => lhs; unfold ev
  rw [if_neg (by omega), if_neg (by omega), if_neg (by omega), if_neg (by omega), if_neg (by omega), if_neg (by omega), if_neg (by omega), if_neg (by omega), if_neg (by omega), if_neg (by omega), if_pos h]
theorem ev_case (h : x_act T e = 23) : ev T env (f + 1) e = (if ev T env f (x_a T e).toNat = some 1 then ev T env f (x_b T e).toNat else ev T env f (x_c T e).toNat) := by
  conv => lhs; unfold ev
  rw [if_neg (by omega), if_neg (by omega), if_neg (by omega), if_neg (by omega), if_neg (by omega), if_neg (by omega), if_neg (by omega), if_neg (by omega), if_neg (by omega), if_neg (by omega), if_neg (by omega), if_pos h]
theorem ev_two (h : (7 ≤ x_act T e ∧ x_act T e ≤ 12) ∨ (17 ≤ x_act T e ∧ x_act T e ≤ 21) ∨ x_act T e = 24) : ev T env (f + 1) e = (match ev T env f (x_a T e).toNat, ev T env f (x_b T e).toNat with
      | some x, some y => x_op (x_act T e) x y
      | _, _ => none) := by
  conv => lhs; unfold ev
  rw [if_neg (by omega), if_neg (by omega), if_neg (by omega), if_neg (by omega), if_neg (by omega), if_neg (by omega), if_neg (by omega), if_neg (by omega), if_neg (by omega), if_neg (by omega), if_neg (by omega), if_neg (by omega)]
end
/-- the parts of acts stand below them -/
def x_li (T : xt) : Int → List Nat → Prop
  | q, [] => q < 0
  | q, k :: L => q = (k : Int) ∧ x_li T (x_n T k) L
def x_in_ok (T : xt) (e : Nat) : Prop := ∃ L : List Nat, L.length ≤ 8 ∧ x_li T (x_b T e) L ∧ ∀ q ∈ L, q < e
theorem x_ch_li {T : xt} : ∀ (L : List Nat) (k : Nat) (q : Int), L.length < k → x_li T q L → x_ch T k q = L := by
  intro L
  induction L with
  | nil =>
    intro k q hk h
    cases k with
    | zero => rfl
    | succ k => exact if_pos h
  | cons a L ih =>
    intro k q hk h
    cases k with
    | zero => simp at hk
    | succ k =>
      obtain ⟨h1, h2⟩ := h
      subst h1
      show (if (a : Int) < 0 then [] else _) = _
      rw [if_neg (by omega)]
      have : ((a : Int)).toNat = a := by omega
      rw [this, ih k _ (by simp at hk; omega) h2]
/-- well formed: by act, the parts that it has are below -/
def x_lt (T : xt) (e : Nat) (a : Int) : Prop := 0 ≤ a ∧ a < (e : Int)
def x_two (act : Int) : Prop := act = 4 ∨ act = 5 ∨ (7 ≤ act ∧ act ≤ 12) ∨ (17 ≤ act ∧ act ≤ 21) ∨ act = 24
/-- an expression's type: 0 null alone, 1 a number, 2 a truth; over columns of types τ, at slots -/
def x_wt (T : xt) (sl ct : Nat → Int) (τ : List Int) : Nat → Nat → Int → Prop
  | 0, _, _ => False
  | f + 1, e, t =>
    (x_act T e = 0 ∧ t = 1) ∨ (x_act T e = 1 ∧ t = 0) ∨ (x_act T e = 2 ∧ t = 2 ∧ (x_v T e = 0 ∨ x_v T e = 1))
    ∨ ((x_act T e = 3 ∨ (25 ≤ x_act T e ∧ x_act T e ≤ 29)) ∧ t = ct e ∧ (t = 1 ∨ t = 2) ∧ 0 ≤ sl e ∧ τ[(sl e).toNat]? = some t)
    ∨ ((x_act T e = 4 ∨ x_act T e = 5) ∧ x_lt T e (x_a T e) ∧ x_lt T e (x_b T e) ∧ t = 2 ∧ (∃ ta, x_wt T sl ct τ f (x_a T e).toNat ta ∧ ta ≠ 1) ∧ ∃ tb, x_wt T sl ct τ f (x_b T e).toNat tb ∧ tb ≠ 1)
    ∨ (x_act T e = 6 ∧ x_lt T e (x_a T e) ∧ t = 2 ∧ ∃ ta, x_wt T sl ct τ f (x_a T e).toNat ta ∧ ta ≠ 1)
    ∨ ((7 ≤ x_act T e ∧ x_act T e ≤ 12) ∧ x_lt T e (x_a T e) ∧ x_lt T e (x_b T e) ∧ t = 2 ∧ (∃ ta, x_wt T sl ct τ f (x_a T e).toNat ta ∧ ta ≠ 2) ∧ ∃ tb, x_wt T sl ct τ f (x_b T e).toNat tb ∧ tb ≠ 2)
    ∨ ((x_act T e = 13 ∨ x_act T e = 14) ∧ x_lt T e (x_a T e) ∧ t = 2 ∧ ∃ ta, x_wt T sl ct τ f (x_a T e).toNat ta)
    ∨ ((x_act T e = 15 ∨ x_act T e = 16) ∧ x_lt T e (x_a T e) ∧ x_in_ok T e ∧ t = 2 ∧ (∃ ta, x_wt T sl ct τ f (x_a T e).toNat ta ∧ ta ≠ 2) ∧ ∀ q ∈ x_ch T 9 (x_b T e), ∃ tq, x_wt T sl ct τ f q tq ∧ tq ≠ 2)
    ∨ (((17 ≤ x_act T e ∧ x_act T e ≤ 21) ∨ x_act T e = 24) ∧ x_lt T e (x_a T e) ∧ x_lt T e (x_b T e) ∧ t = 1 ∧ (∃ ta, x_wt T sl ct τ f (x_a T e).toNat ta ∧ ta ≠ 2) ∧ ∃ tb, x_wt T sl ct τ f (x_b T e).toNat tb ∧ tb ≠ 2)
    ∨ (x_act T e = 22 ∧ x_lt T e (x_a T e) ∧ t = 1 ∧ ∃ ta, x_wt T sl ct τ f (x_a T e).toNat ta ∧ ta ≠ 2)
    ∨ (x_act T e = 23 ∧ x_lt T e (x_a T e) ∧ x_lt T e (x_b T e) ∧ x_lt T e (x_c T e) ∧ (∃ ta, x_wt T sl ct τ f (x_a T e).toNat ta ∧ ta ≠ 1) ∧ ∃ tb tc, x_wt T sl ct τ f (x_b T e).toNat tb ∧ x_wt T sl ct τ f (x_c T e).toNat tc ∧ (tb = 0 ∨ tc = 0 ∨ tb = tc) ∧ t = if tb = 0 then tc else tb)
def x_ty (t : Int) (v : Option Int) : Prop := (t = 2 → v = none ∨ v = some 0 ∨ v = some 1) ∧ (t = 0 → v = none)
def x_r64 (v : Option Int) : Prop := ∀ x, v = some x → -9223372036854775808 ≤ x ∧ x ≤ 9223372036854775807
theorem am_x_r (x : Int) : -9223372036854775808 ≤ am_x x ∧ am_x x ≤ 9223372036854775807 := ⟨Int64.le_toInt _, Int64.toInt_le _⟩
theorem am_x_in {x : Int} (h0 : -9223372036854775808 ≤ x) (h1 : x ≤ 9223372036854775807) : am_x x = x := by
  unfold am_x
  exact Int64.toInt_ofInt_of_le (by omega) (by omega)
theorem x_bo_ty {dc : Int} (hd : dc = 0 ∨ dc = 1) (a b : Option Int) : x_ty 2 (x_bo dc a b) := by
  unfold x_bo x_ty
  refine ⟨fun _ => ?_, fun h => absurd h (by decide)⟩
  by_cases p : a = some dc ∨ b = some dc
  · rw [if_pos p]; rcases hd with rfl | rfl <;> simp
  · rw [if_neg p]
    split
    · simp
    · rcases hd with rfl | rfl <;> simp
theorem x_in_ty {y : Int} (hd : y = 0 ∨ y = 1) (x : Option Int) (ys : List (Option Int)) : x_ty 2 (x_in y x ys) := by
  unfold x_in x_ty
  refine ⟨fun _ => ?_, fun h => absurd h (by decide)⟩
  by_cases p : x ≠ none ∧ x ∈ ys
  · rw [if_pos p]; rcases hd with rfl | rfl <;> simp
  · rw [if_neg p]
    split
    · simp
    · rcases hd with rfl | rfl <;> simp
theorem x_op_ty {act : Int} (h : 7 ≤ act ∧ act ≤ 12) (a b : Int) : x_ty 2 (x_op act a b) := by
  refine ⟨fun _ => ?_, fun h => absurd h (by decide)⟩
  obtain ⟨h1, h2⟩ := h
  have : act = 7 ∨ act = 8 ∨ act = 9 ∨ act = 10 ∨ act = 11 ∨ act = 12 := by omega
  rcases this with rfl | rfl | rfl | rfl | rfl | rfl <;> simp only [x_op] <;> simp <;> omega
theorem x_wt_t {T : xt} {sl ct : Nat → Int} {τ : List Int} : ∀ (f e : Nat) (t : Int), x_wt T sl ct τ f e t → t = 0 ∨ t = 1 ∨ t = 2 := by
  intro f
  induction f with
  | zero => intro e t h; exact h.elim
  | succ f ih2 =>
    intro e t h
    unfold x_wt at h
    rcases h with ⟨h, rfl⟩ | ⟨h, rfl⟩ | ⟨h, rfl, hv⟩ | ⟨h, h1, h2, h3, h4⟩ | ⟨h, ha, hb, rfl, -⟩ | ⟨h, ha, rfl, -⟩ | ⟨h, ha, hb, rfl, -⟩ | ⟨h, ha, rfl, -⟩ | ⟨h, ha, hb, rfl, -⟩ | ⟨h, ha, hb, rfl, -⟩ | ⟨h, ha, rfl, -⟩ | ⟨h, ha, hb, hc, -, tb, tc, htb, htc, h5, rfl⟩
    all_goals first
      | omega
      | (have := ih2 _ _ htb; have := ih2 _ _ htc; split <;> omega)
/-- values are of their types -/
theorem ev_ty {T : xt} {sl ct : Nat → Int} {τ : List Int} {env : Nat → Option Int} (henv : ∀ e t, 0 ≤ sl e → τ[(sl e).toNat]? = some t → t = ct e → x_ty t (env e)) : ∀ (f e : Nat) (t : Int), x_wt T sl ct τ f e t → x_ty t (ev T env f e) := by
  intro f
  induction f with
  | zero => intro e t h; exact h.elim
  | succ f ih =>
    intro e t h
    unfold x_wt at h
    rcases h with ⟨h, rfl⟩ | ⟨h, rfl⟩ | ⟨h, rfl, hv⟩ | ⟨h, h1, h2, h3, h4⟩ | ⟨h, ha, hb, rfl, -⟩ | ⟨h, ha, rfl, ta, hta, hn⟩ | ⟨h, ha, hb, rfl, -⟩ | ⟨h, ha, rfl, -⟩ | ⟨h, ha, hb, rfl, -⟩ | ⟨h, ha, hb, rfl, -⟩ | ⟨h, ha, rfl, -⟩ | ⟨h, ha, hb, hc, -, tb, tc, htb, htc, h5, rfl⟩
    · exact ⟨fun w => absurd w (by decide), fun w => absurd w (by decide)⟩
    · rw [ev_null h]; exact ⟨fun w => absurd w (by decide), fun _ => rfl⟩
    · rw [ev_lit (Or.inr h)]
      refine ⟨fun _ => ?_, fun w => absurd w (by decide)⟩
      rcases hv with w | w <;> rw [w] <;> simp
    · rw [ev_col (by omega)]
      exact henv e t h3 h4 h1
    · rcases h with h | h
      · rw [ev_or h]; exact x_bo_ty (Or.inr rfl) _ _
      · rw [ev_and h]; exact x_bo_ty (Or.inl rfl) _ _
    · rw [ev_not h]
      have := ih _ _ hta
      refine ⟨fun _ => ?_, fun w => absurd w (by decide)⟩
      by_cases h2 : ta = 2
      · rcases this.1 h2 with w | w | w <;> rw [w] <;> simp <;> decide
      · by_cases h0 : ta = 0
        · rw [this.2 h0]; simp
        · exfalso
          have := x_wt_t _ _ _ hta
          omega
    · rw [ev_two (Or.inl h)]
      split
      · exact x_op_ty h _ _
      · exact ⟨fun _ => Or.inl rfl, fun _ => rfl⟩
    · rcases h with h | h
      · rw [ev_is h]
        refine ⟨fun _ => ?_, fun w => absurd w (by decide)⟩
        split <;> simp
      · rw [ev_isn h]
        refine ⟨fun _ => ?_, fun w => absurd w (by decide)⟩
        split <;> simp
    · rcases h with h | h
      · rw [ev_in h]; exact x_in_ty (Or.inr rfl) _ _
      · rw [ev_nin h]; exact x_in_ty (Or.inl rfl) _ _
    · exact ⟨fun w => absurd w (by decide), fun w => absurd w (by decide)⟩
    · exact ⟨fun w => absurd w (by decide), fun w => absurd w (by decide)⟩
    · rw [ev_case h]
      have h1 := ih _ _ htb
      have h2 := ih _ _ htc
      by_cases w : tb = 0
      · rw [if_pos w]
        split
        · rw [h1.2 w]; exact ⟨fun _ => Or.inl rfl, fun _ => rfl⟩
        · exact h2
      · rw [if_neg w]
        split
        · exact h1
        · rcases h5 with q | q | q
          · exact absurd q w
          · rw [h2.2 q]; exact ⟨fun _ => Or.inl rfl, fun _ => rfl⟩
          · rw [q]; exact h2
