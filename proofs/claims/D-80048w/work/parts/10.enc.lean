set_option maxRecDepth 100000
/-! the abstract machine's values, locals, heap as the kit's -/
def am_rf (ad : Int → Nat) (fm : Value) (x : Int) : Value := if x = -1 then .null else if x = -3 then fm else .ref (ad x)
def am_vl (ad : Int → Nat) (fm : Value) (v : am_V) : Value := if v.1 = 0 then .int (Int32.ofInt v.2) else if v.1 = 1 then .long (Int64.ofInt v.2) else if v.1 = 2 then am_rf ad fm v.2 else .null
def am_fs (ad : Int → Nat) (fm : Value) (h : am_H) (a : Int) (ci : Nat) : List Value := (List.range (am_fn ci)).map fun k => am_vl ad fm (am_tg (am_ft ci k), am_v h a k)
def am_ro (ad : Int → Nat) (x : Int) : Option Nat := if x = -1 then none else some (ad x)
def am_ce (ad : Int → Nat) (fm : Value) (cA : Int → ClassId) (h : am_H) (a : Int) : va_E :=
  if am_k h a ≤ 10 then .inr ((am_k h a).toNat, am_fs ad fm h a (am_k h a).toNat)
  else if am_k h a ≤ 18 then .inl (cA a, (am_l h a).toNat, .inl (fun j => Int32.ofInt (am_v h a j)))
  else if am_k h a ≤ 19 then .inl (cA a, (am_l h a).toNat, .inr (.inl (fun j => Int64.ofInt (am_v h a j))))
  else .inl (cA a, (am_l h a).toNat, .inr (.inr (.inr (.inr (fun j => am_ro ad (if (j : Int) < am_l h a then am_v h a j else -1))))))
def am_ws (ad : Int → Nat) (fm : Value) (cA : Int → ClassId) (h : am_H) : va_W := (List.range (am_n h).toNat).map fun a : Nat => (ad (a : Int), am_ce ad fm cA h (a : Int))
def am_aty (k : Int) : FieldType := if k = 16 then .int else if k = 17 then .byte else if k = 18 then .boolean else if k = 19 then .long else .object (am_en k.toNat)
def am_Wd (D : va_G) (ad : Int → Nat) (fm : Value) (cA : Int → ClassId) (tys : List (ClassId × FieldType)) (A : Nat → Prop) (h : am_H) (s : State) (H : Heap) : Prop :=
  va_K D am_cl tys s ∧ va_P D am_cl (am_ws ad fm cA h) H ∧ va_D A (am_ws ad fm cA h) ∧ ∀ a, 0 ≤ a → a < am_n h → 16 ≤ am_k h a → ∃ t0 : Nat, tys[t0]? = some (cA a, am_aty (am_k h a))
def am_has (ad : Int → Nat) (fm : Value) (arr : Array Slot) (ls : List am_V) : Prop := arr.size = ls.length ∧ lv_wf arr ∧ ∀ (k : Nat) (v : am_V), ls[k]? = some v → v.1 ≠ 3 → arr[k]? = some (.val (am_vl ad fm v))
def am_nfm (fm : Value) : Prop := fm = .null ∨ ∃ t, fm = .ref t
theorem am_rf_or {fm : Value} (hf : am_nfm fm) (ad : Int → Nat) (x : Int) : am_rf ad fm x = .null ∨ ∃ a, am_rf ad fm x = .ref a := by
  unfold am_rf
  split
  · exact Or.inl rfl
  · split
    · exact hf
    · exact Or.inr ⟨_, rfl⟩
theorem am_vl_0 (ad : Int → Nat) (fm : Value) (x : Int) : am_vl ad fm (0, x) = .int (Int32.ofInt x) := rfl
theorem am_vl_1 (ad : Int → Nat) (fm : Value) (x : Int) : am_vl ad fm (1, x) = .long (Int64.ofInt x) := rfl
theorem am_vl_2 (ad : Int → Nat) (fm : Value) (x : Int) : am_vl ad fm (2, x) = am_rf ad fm x := rfl
theorem am_vl_n (ad : Int → Nat) (fm : Value) : am_vl ad fm (2, -1) = .null := rfl
theorem am_vl_r (ad : Int → Nat) (fm : Value) {x : Int} (h1 : x ≠ -1) (h3 : x ≠ -3) : am_vl ad fm (2, x) = .ref (ad x) := by
  rw [am_vl_2]; unfold am_rf; rw [if_neg h1, if_neg h3]
theorem am_cat_vl {fm : Value} (hf : am_nfm fm) (ad : Int → Nat) (v : am_V) : (am_vl ad fm v).category = am_cat v := by
  obtain ⟨t, x⟩ := v
  unfold am_vl am_cat
  by_cases h0 : t = 0
  · subst h0; rfl
  · by_cases h1 : t = 1
    · subst h1; rfl
    · simp only [h0, h1, if_false]
      split
      · rcases am_rf_or hf ad x with e | ⟨a, e⟩ <;> rw [e] <;> rfl
      · rfl
theorem am_cats_vl {fm : Value} (hf : am_nfm fm) (ad : Int → Nat) (st : List am_V) : ((st.map (am_vl ad fm)).map fun v => v.category).sum = am_cats st := by
  induction st with
  | nil => rfl
  | cons v l ih => simp only [List.map_cons, List.sum_cons, ih, am_cat_vl hf, am_cats]
/-- locals -/
def am_lv (ad : Int → Nat) (fm : Value) : Nat → List am_V → List (Nat × Value)
  | _, [] => []
  | k, v :: l => if v.1 = 3 then am_lv ad fm (k + 1) l else (k, am_vl ad fm v) :: am_lv ad fm (k + 1) l
theorem am_lv_mem {ad : Int → Nat} {fm : Value} (ls : List am_V) : ∀ (k : Nat) (q : Nat × Value), q ∈ am_lv ad fm k ls ↔ ∃ j v, ls[j]? = some v ∧ v.1 ≠ 3 ∧ q = (k + j, am_vl ad fm v) := by
  induction ls with
  | nil => intro k q; simp [am_lv]
  | cons v l ih =>
    intro k q
    unfold am_lv
    constructor
    · intro h
      split at h
      · obtain ⟨j, w, h1, h2, h3⟩ := (ih _ _).mp h
        exact ⟨j + 1, w, by simpa using h1, h2, by rw [h3]; congr 1; omega⟩
      · rename_i c
        rcases List.mem_cons.mp h with h | h
        · exact ⟨0, v, rfl, c, by rw [h]; rfl⟩
        · obtain ⟨j, w, h1, h2, h3⟩ := (ih _ _).mp h
          exact ⟨j + 1, w, by simpa using h1, h2, by rw [h3]; congr 1; omega⟩
    · rintro ⟨j, w, h1, h2, h3⟩
      cases j with
      | zero =>
        simp at h1
        subst h1
        rw [if_neg h2]
        exact List.mem_cons.mpr (Or.inl h3)
      | succ j =>
        have hm : q ∈ am_lv ad fm (k + 1) l := (ih _ _).mpr ⟨j, w, by simpa using h1, h2, by rw [h3]; congr 1; omega⟩
        split
        · exact hm
        · exact List.mem_cons_of_mem _ hm
theorem am_has.lv {ad : Int → Nat} {fm : Value} {arr : Array Slot} {ls : List am_V} (h : am_has ad fm arr ls) : lv_has arr ls.length (am_lv ad fm 0 ls) := by
  refine ⟨h.1, h.2.1, fun q hq => ?_⟩
  obtain ⟨j, v, h1, h2, rfl⟩ := (am_lv_mem ls 0 q).mp hq
  simpa using h.2.2 j v h1 h2
theorem am_kill_at {ls : List am_V} {k j : Nat} {v : am_V} (h : (am_kill ls k)[j]? = some v) (h3 : v.1 ≠ 3) : ls[j]? = some v ∧ ¬ (j + 1 = k ∧ v.1 = 1) := by
  unfold am_kill at h
  split at h
  · exact ⟨h, by omega⟩
  · rename_i i
    split at h
    · rename_i x hx
      rw [List.getElem?_set] at h
      split at h
      · split at h
        · cases h; exact absurd rfl h3
        · cases h
      · exact ⟨h, by omega⟩
    · rename_i hne
      refine ⟨h, fun c => ?_⟩
      have : i = j := by omega
      subst this
      obtain ⟨t, x⟩ := v
      have c2 : t = 1 := c.2
      subst c2
      exact hne x h
theorem am_has_st1 {fm : Value} (hf : am_nfm fm) {ad : Int → Nat} {arr : Array Slot} {ls : List am_V} {k : Nat} {v : am_V} (hk : k < ls.length)
    (h : lv_has arr ls.length ((k, am_vl ad fm v) :: (am_lv ad fm 0 ls).filter (fun q => !(q.1 == k) && !(q.1 + 1 == k && q.2.category == 2)))) : am_has ad fm arr (am_st1 ls k v) := by
  refine ⟨by rw [h.1]; unfold am_st1; rw [List.length_set, am_kill_len], h.2.1, fun j w hw h3 => ?_⟩
  unfold am_st1 at hw
  rw [List.getElem?_set] at hw
  split at hw
  · rename_i c
    subst c
    split at hw
    · cases hw
      exact h.2.2 _ List.mem_cons_self
    · cases hw
  · rename_i c
    obtain ⟨h1, h2⟩ := am_kill_at hw h3
    refine h.2.2 (j, am_vl ad fm w) (List.mem_cons_of_mem _ (List.mem_filter.mpr ⟨(am_lv_mem ls 0 _).mpr ⟨j, w, h1, h3, by simp⟩, ?_⟩))
    simp only [Bool.and_eq_true, Bool.not_eq_true', beq_eq_false_iff_ne, Bool.and_eq_false_iff, am_cat_vl hf]
    refine ⟨fun e => c e.symm, ?_⟩
    by_cases g : j + 1 = k
    · right
      have : w.1 ≠ 1 := fun e => h2 ⟨g, e⟩
      unfold am_cat
      rw [if_neg this]; decide
    · left; exact g
theorem am_has_st2 {fm : Value} (hf : am_nfm fm) {ad : Int → Nat} {arr : Array Slot} {ls : List am_V} {k : Nat} {v : am_V} (hk : k + 1 < ls.length)
    (h : lv_has arr ls.length ((k, am_vl ad fm v) :: (am_lv ad fm 0 ls).filter (fun q => !(q.1 == k) && (!(q.1 == k + 1) && !(q.1 + 1 == k && q.2.category == 2))))) : am_has ad fm arr (am_st2 ls k v) := by
  refine ⟨by rw [h.1]; unfold am_st2; rw [List.length_set, List.length_set, am_kill_len], h.2.1, fun j w hw h3 => ?_⟩
  unfold am_st2 at hw
  rw [List.getElem?_set] at hw
  split at hw
  · split at hw
    · cases hw; exact absurd rfl h3
    · cases hw
  · rename_i c0
    rw [List.getElem?_set] at hw
    split at hw
    · rename_i c
      subst c
      split at hw
      · cases hw
        exact h.2.2 _ List.mem_cons_self
      · cases hw
    · rename_i c
      obtain ⟨h1, h2⟩ := am_kill_at hw h3
      refine h.2.2 (j, am_vl ad fm w) (List.mem_cons_of_mem _ (List.mem_filter.mpr ⟨(am_lv_mem ls 0 _).mpr ⟨j, w, h1, h3, by simp⟩, ?_⟩))
      simp only [Bool.and_eq_true, Bool.not_eq_true', beq_eq_false_iff_ne, Bool.and_eq_false_iff, am_cat_vl hf]
      refine ⟨fun e => c e.symm, fun e => c0 e.symm, ?_⟩
      by_cases g : j + 1 = k
      · right
        have : w.1 ≠ 1 := fun e => h2 ⟨g, e⟩
        unfold am_cat
        rw [if_neg this]; decide
      · left; exact g
/-- addresses that grow -/
def am_ex (n : Int) (ad ad' : Int → Nat) : Prop := ∀ a, a < n → ad' a = ad a
theorem am_ex.rf {n : Int} {ad : Int → Nat} : am_ex n ad ad := fun _ _ => rfl
theorem am_ex.tr {n n' : Int} {a b c : Int → Nat} (h1 : am_ex n a b) (h2 : am_ex n' b c) (hn : n ≤ n') : am_ex n a c := fun x hx => (h2 x (Int.lt_of_lt_of_le hx hn)).trans (h1 x hx)
theorem am_vl_ex {n : Int} {ad ad' : Int → Nat} (h : am_ex n ad ad') (h0 : 0 ≤ n) {fm : Value} {v : am_V} (hv : am_vok n v) : am_vl ad' fm v = am_vl ad fm v := by
  obtain ⟨t, x⟩ := v
  unfold am_vl
  by_cases h2 : t = 2
  · subst h2
    show am_rf ad' fm x = am_rf ad fm x
    unfold am_rf
    have := hv.2.2 rfl
    unfold am_rok at this
    rw [h x (by simp only at this; omega)]
  · simp only [h2, if_false]
