set_option maxRecDepth 100000
/-! the order of values and rows -/
def r_oc : Option Int → Option Int → Int
  | none, none => 0
  | none, some _ => -1
  | some _, none => 1
  | some a, some b => am_lcmp a b
def r_cmp : List (Option Int) → List (Option Int) → Int
  | x :: l, y :: m => if r_oc x y = 0 then r_cmp l m else r_oc x y
  | _, _ => 0
theorem r_oc_r (x y : Option Int) : -1 ≤ r_oc x y ∧ r_oc x y ≤ 1 := by
  cases x <;> cases y <;> simp only [r_oc, am_lcmp] <;> (try split) <;> (try split) <;> omega
theorem r_oc_0 {x y : Option Int} : r_oc x y = 0 ↔ x = y := by
  cases x <;> cases y <;> simp only [r_oc, am_lcmp, Option.some.injEq] <;> (try split) <;> (try split) <;> (try simp) <;> omega
theorem r_oc_sw (x y : Option Int) : r_oc y x = - r_oc x y := by
  cases x <;> cases y <;> simp only [r_oc, am_lcmp] <;> (try split) <;> (try split) <;> (try split) <;> (try split) <;> omega
theorem r_oc_tr {x y z : Option Int} (h1 : r_oc x y < 0) (h2 : r_oc y z < 0) : r_oc x z < 0 := by
  cases x <;> cases y <;> cases z <;> simp only [r_oc, am_lcmp] at h1 h2 ⊢ <;> (try split at h1) <;> (try split at h2) <;> (try split at h1) <;> (try split at h2) <;> (try split) <;> (try split) <;> omega
theorem r_cmp_r : ∀ l m, -1 ≤ r_cmp l m ∧ r_cmp l m ≤ 1 := by
  intro l
  induction l with
  | nil => intro m; cases m <;> (simp only [r_cmp]; omega)
  | cons x l ih =>
    intro m
    cases m with
    | nil => simp only [r_cmp]; omega
    | cons y m =>
      unfold r_cmp
      split
      · exact ih m
      · exact r_oc_r x y
theorem r_cmp_0 : ∀ {l m}, l.length = m.length → (r_cmp l m = 0 ↔ l = m) := by
  intro l
  induction l with
  | nil => intro m h; cases m with
    | nil => simp [r_cmp]
    | cons y m => cases h
  | cons x l ih =>
    intro m h
    cases m with
    | nil => cases h
    | cons y m =>
      unfold r_cmp
      have h' : l.length = m.length := by simpa using h
      split
      · rename_i e
        have e := r_oc_0.mp e
        rw [ih h', e]
        simp
      · rename_i e
        constructor
        · intro w; exact absurd w e
        · intro w; cases w; exact absurd (r_oc_0.mpr rfl) e
theorem r_cmp_rf (l : List (Option Int)) : r_cmp l l = 0 := (r_cmp_0 rfl).mpr rfl
theorem r_cmp_sw : ∀ l m, r_cmp m l = - r_cmp l m := by
  intro l
  induction l with
  | nil => intro m; cases m <;> rfl
  | cons x l ih =>
    intro m
    cases m with
    | nil => rfl
    | cons y m =>
      unfold r_cmp
      have := r_oc_sw x y
      split
      · rw [if_pos (by omega)]; exact ih m
      · rw [if_neg (by omega)]; exact this
theorem r_cmp_tr : ∀ {l m p : List (Option Int)}, l.length = m.length → m.length = p.length → r_cmp l m < 0 → r_cmp m p < 0 → r_cmp l p < 0 := by
  intro l
  induction l with
  | nil => intro m p h1 h2 h3 h4; cases m <;> simp_all [r_cmp]
  | cons x l ih =>
    intro m p h1 h2 h3 h4
    cases m with
    | nil => cases h1
    | cons y m =>
      cases p with
      | nil => cases h2
      | cons z p =>
        unfold r_cmp at h3 h4 ⊢
        have h1' : l.length = m.length := by simpa using h1
        have h2' : m.length = p.length := by simpa using h2
        split at h3
        · rename_i e1
          have e1 := r_oc_0.mp e1
          subst e1
          split at h4
          · rename_i e2
            rw [if_pos e2]
            exact ih h1' h2' h3 h4
          · rename_i e2
            rw [if_neg e2]
            exact h4
        · rename_i e1
          split at h4
          · rename_i e2
            have e2 := r_oc_0.mp e2
            subst e2
            rw [if_neg e1]
            exact h3
          · have := r_oc_tr h3 h4
            rw [if_neg (by omega)]
            exact this
section
variable {c c' : cs_S} {r o : Int} {l m : List (Option Int)} {d : Nat} {Q : Int → cs_S → Prop}
theorem k_lcmp {x y : Int} (kk : Q (am_lcmp x y) c) : klong_compare d x y c Q := by
  refine u308_e ⟨fun h => ⟨fun h2 => u308_3 ?_, fun h2 => u308_3 ?_⟩, fun h => u308_3 ?_⟩ <;> unfold am_lcmp at h kk <;> (try unfold am_lcmp at h2) <;> (try split at h2) <;> (try split at h2) <;> (try split at h) <;> (try split at h) <;> (try omega) <;> simp_all
theorem k_compare (hr : rw_is c r l) (ho : rw_is c o m) {i j : Nat} {x y : Option Int} (hi : l[i]? = some x) (hj : m[j]? = some y) (kk : Q (r_oc x y) c) : krow_compare (d + 1) r i o j c Q := by
  have hi0 : i < l.length := (List.getElem?_eq_some_iff.mp hi).1
  have hj0 : j < m.length := (List.getElem?_eq_some_iff.mp hj).1
  have h1 := hr.2.2.1
  have h2 := ho.2.2.1
  have key : x = none ∨ y = none → cw (d + 1) 33 (am_blk 33 1) [r, i, o, j] [] c Q := by
    intro hn
    refine u33_1 ⟨hr.1.1, k_isNull hr (by omega) (by omega) ?_⟩
    rw [Int.toNat_natCast, hi]
    refine ⟨fun e => u33_4 ?_, fun e => ⟨ho.1.1, k_isNull ho (by omega) (by omega) ?_⟩⟩
    · cases x with
      | none => simp at e
      | some v => cases y with
        | none => exact kk
        | some w => simp at hn
    · rw [Int.toNat_natCast, hj]
      cases x with
      | some v => simp at e
      | none =>
        refine ⟨fun e2 => u33_4 ?_, fun e2 => u33_4 ?_⟩
        · cases y with
          | none => simp at e2
          | some w => exact kk
        · cases y with
          | none => exact kk
          | some w => simp at e2
  refine u33_e ⟨hr.1.1, k_isNull hr (by omega) (by omega) ?_⟩
  rw [Int.toNat_natCast, hi]
  refine ⟨fun e => key ?_, fun e => ⟨ho.1.1, k_isNull ho (by omega) (by omega) ?_⟩⟩
  · cases x with
    | none => exact Or.inl rfl
    | some v => simp at e
  · rw [Int.toNat_natCast, hj]
    refine ⟨fun e2 => ⟨hr.1.1, ?_⟩, fun e2 => key ?_⟩
    · cases x with
      | none => simp at e
      | some v =>
        cases y with
        | none => simp at e2
        | some w =>
          rw [hr.1.2.1, ho.1.2.1, hr.1.2.2.2, ho.1.2.2.2, hr.2.2.2.2 i _ hi, ho.2.2.2.2 j _ hj]
          exact ⟨hr.1.2.2.1, by omega, by omega, ho.1.1, ho.1.2.2.1, by omega, by omega, k_lcmp kk⟩
    · cases y with
      | none => exact Or.inr rfl
      | some w => simp at e2
theorem k_cmp1 (hr : rw_is c r l) (ho : rw_is c o m) (hl : l.length ≤ m.length) : ∀ (n k : Nat) (z : Int), k + n = l.length → Q (r_cmp (l.drop k) (m.drop k)) c → cw (d + 2) 32 (am_blk 32 1) [r, o, (k : Int), z] [] c Q := by
  intro n
  induction n with
  | zero =>
    intro k z hk kk
    refine u32_1 ⟨hr.1.1, fun _ => ?_, fun w => absurd (by rw [hr.2.1]; omega) w⟩
    rw [List.drop_eq_nil_of_le (by omega)] at kk
    exact kk
  | succ n ih =>
    intro k z hk kk
    have h24 := hr.2.2.1
    have hlt : k < l.length := by omega
    have hltm : k < m.length := by omega
    refine u32_1 ⟨hr.1.1, fun w => absurd w (by rw [hr.2.1]; omega), fun _ => k_compare hr ho (List.getElem?_eq_getElem hlt) (List.getElem?_eq_getElem hltm) ?_⟩
    rw [List.drop_eq_getElem_cons hlt, List.drop_eq_getElem_cons hltm] at kk
    unfold r_cmp at kk
    have ek : am_w ((k : Int) + 1) = ((k + 1 : Nat) : Int) := by rw [am_w_in (by omega) (by omega)]; omega
    rw [ek]
    refine ⟨fun e => ih (k + 1) _ (by omega) ?_, fun e => ?_⟩
    · rw [if_pos e] at kk; exact kk
    · rw [if_neg e] at kk; exact kk
theorem k_compareTo (hr : rw_is c r l) (ho : rw_is c o m) (hl : l.length ≤ m.length) (kk : Q (r_cmp l m) c) : krow_compareTo (d + 2) r o c Q :=
  u32_e (k_cmp1 hr ho hl l.length 0 0 (by omega) (by simpa using kk))
end
