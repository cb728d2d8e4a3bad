set_option maxRecDepth 100000
/-! the light heap of a heap; values by their types -/
def am_ln (h : am_H) (a : Int) : Int := if a ≤ -10 then -1 else if am_k h a = -9 then -1 else if am_k h a ≤ 10 then (am_fn (am_k h a).toNat : Int) else am_l h a
def lm_of (h : am_H) : lm_H := (am_n h, am_m h, am_ln h, am_v h)
def ty_v (h : am_H) (t : Nat) (v : am_V) (x : Int) : Prop :=
  if t = 3 then True else if t = 0 then v = (0, x) else if t = 4 then v = (0, x) ∧ (x = 0 ∨ x = 1) else if t = 1 then v = (1, x) else if t = 2 then v = (2, x) ∧ x = -1
  else if t = 110 then v = (2, x) ∧ st_is x else if t = 40 then v = (2, x) ∧ x = -2 else v = (2, x) ∧ (x = -1 ∨ (0 ≤ x ∧ am_k h x = (t : Int) - 10))
def ty_l (h : am_H) : List Nat → List am_V → List Int → Prop
  | [], [], [] => True
  | t :: ts, v :: vs, x :: xs => ty_v h t v x ∧ ty_l h ts vs xs
  | _, _, _ => False
def ty_h (h : am_H) : Prop := ∀ a, 0 ≤ a → 0 ≤ am_k h a → am_k h a ≤ 10 → ∀ j : Nat, j < am_fn (am_k h a).toNat → 10 ≤ ty_fk (am_k h a).toNat j → (am_v h a j = -1 ∨ (0 ≤ am_v h a j ∧ am_k h (am_v h a j) = (ty_fk (am_k h a).toNat j : Int) - 10))
theorem ty_fkx : ∀ ci : Fin 11, ∀ j : Fin 128, j.val < am_fn ci.val → (am_ft ci.val j.val = 0 ∧ ty_fk ci.val j.val = 0) ∨ (am_ft ci.val j.val = 1 ∧ ty_fk ci.val j.val = 1) ∨ (am_ft ci.val j.val = 4 ∧ ty_fk ci.val j.val = 4) ∨ (am_ft ci.val j.val = 2 ∧ 10 ≤ ty_fk ci.val j.val ∧ ty_fk ci.val j.val ≤ 33) := by decide +kernel
theorem ty_fk4 {ci j : Nat} (hc : ci < 11) (hj : j < am_fn ci) : (am_ft ci j = 0 ∧ ty_fk ci j = 0) ∨ (am_ft ci j = 1 ∧ ty_fk ci j = 1) ∨ (am_ft ci j = 4 ∧ ty_fk ci j = 4) ∨ (am_ft ci j = 2 ∧ 10 ≤ ty_fk ci j ∧ ty_fk ci j ≤ 33) :=
  ty_fkx ⟨ci, hc⟩ ⟨j, Nat.lt_trans hj (am_fnx ⟨ci, hc⟩)⟩ hj
section
variable {L : Int} {xs : Int → Int} {h h' : am_H} {t u k : Nat} {v : am_V} {x : Int}
theorem ty_v_i (ht : ty_int t = true) (hv : ty_v h t v x) : v = (0, x) := by
  unfold ty_int at ht
  simp only [Bool.or_eq_true, decide_eq_true_eq] at ht
  unfold ty_v at hv
  rcases ht with rfl | rfl
  · exact hv
  · exact hv.1
theorem ty_v_z (hv : ty_v h 4 v x) : v = (0, x) ∧ (x = 0 ∨ x = 1) := hv
theorem ty_v_0 (hv : ty_v h 0 v x) : v = (0, x) := hv
theorem ty_v_l (hv : ty_v h 1 v x) : v = (1, x) := hv
theorem ty_v_k (h1 : 10 ≤ t) (h2 : t ≤ 33) (hv : ty_v h t v x) : v = (2, x) ∧ (x = -1 ∨ (0 ≤ x ∧ am_k h x = (t : Int) - 10)) := by
  unfold ty_v at hv
  rw [if_neg (by omega), if_neg (by omega), if_neg (by omega), if_neg (by omega), if_neg (by omega), if_neg (by omega), if_neg (by omega)] at hv
  exact hv
theorem ty_v_k' (h1 : 10 ≤ t) (h2 : t ≤ 33) (hv : x = -1 ∨ (0 ≤ x ∧ am_k h x = (t : Int) - 10)) : ty_v h t (2, x) x := by
  unfold ty_v
  rw [if_neg (by omega), if_neg (by omega), if_neg (by omega), if_neg (by omega), if_neg (by omega), if_neg (by omega), if_neg (by omega)]
  exact ⟨rfl, hv⟩
theorem ty_v_r (ht : ty_ref t = true) (hv : ty_v h t v x) : v = (2, x) := by
  unfold ty_ref at ht
  simp only [Bool.or_eq_true, decide_eq_true_eq] at ht
  unfold ty_v at hv
  rcases ht with rfl | ht
  · exact hv.1
  · rw [if_neg (by omega), if_neg (by omega), if_neg (by omega), if_neg (by omega), if_neg (by omega)] at hv
    split at hv
    · exact hv.1
    · split at hv <;> exact hv.1
theorem ty_v_c (ht : ty_c1 t = true) (hv : ty_v h t v x) : (v = (0, x) ∨ v = (2, x)) := by
  unfold ty_c1 at ht
  rcases Bool.or_eq_true_iff.mp ht with h1 | h1
  · exact Or.inl (ty_v_i h1 hv)
  · exact Or.inr (ty_v_r h1 hv)
theorem ty_le_v (hl : ty_le t u = true) (hv : ty_v h t v x) : ty_v h u v x := by
  unfold ty_le at hl
  simp only [Bool.or_eq_true, Bool.and_eq_true, decide_eq_true_eq] at hl
  rcases hl with ((hl | hl) | hl) | hl
  · rw [← hl]; exact hv
  · rw [hl]; exact trivial
  · rw [hl.1] at hv; rw [hl.2]; exact hv.1
  · obtain ⟨⟨⟨h2, h10⟩, h40⟩, h110⟩ := hl
    rw [h2] at hv
    obtain ⟨e1, e2⟩ : v = (2, x) ∧ x = -1 := hv
    unfold ty_v
    rw [if_neg (by omega), if_neg (by omega), if_neg (by omega), if_neg (by omega), if_neg (by omega), if_neg h110, if_neg h40]
    exact ⟨e1, Or.inl e2⟩
theorem ty_v_mono (H : am_hok L xs h) (hm : am_mn h h') (hv : ty_v h t v x) : ty_v h' t v x := by
  by_cases h10 : 10 ≤ t ∧ t ≠ 110 ∧ t ≠ 40
  · unfold ty_v at hv ⊢
    rw [if_neg (by omega), if_neg (by omega), if_neg (by omega), if_neg (by omega), if_neg (by omega), if_neg h10.2.1, if_neg h10.2.2] at hv ⊢
    refine ⟨hv.1, ?_⟩
    rcases hv.2 with e | ⟨e1, e2⟩
    · exact Or.inl e
    · right
      have hn := am_inh H (a := x) (by omega)
      exact ⟨e1, by rw [(hm.2.2 x hn).1]; exact e2⟩
  · unfold ty_v at hv ⊢
    by_cases c3 : t = 3
    · rw [if_pos c3]; trivial
    rw [if_neg c3] at hv ⊢
    by_cases c0 : t = 0
    · rw [if_pos c0] at hv ⊢; exact hv
    rw [if_neg c0] at hv ⊢
    by_cases c4 : t = 4
    · rw [if_pos c4] at hv ⊢; exact hv
    rw [if_neg c4] at hv ⊢
    by_cases c1 : t = 1
    · rw [if_pos c1] at hv ⊢; exact hv
    rw [if_neg c1] at hv ⊢
    by_cases c2 : t = 2
    · rw [if_pos c2] at hv ⊢; exact hv
    rw [if_neg c2] at hv ⊢
    by_cases c110 : t = 110
    · rw [if_pos c110] at hv ⊢; exact hv
    rw [if_neg c110] at hv ⊢
    by_cases c40 : t = 40
    · rw [if_pos c40] at hv ⊢; exact hv
    rw [if_neg c40] at hv ⊢
    refine ⟨hv.1, ?_⟩
    rcases hv.2 with e | ⟨e1, e2⟩
    · exact Or.inl e
    · by_cases ck : am_k h x = -9
      · right
        -- types 5 .. 9 are none: 5 - 10 .. 9 - 10 lie below 0, and only -9 is no kind
        have : t = 1 := by omega
        exact absurd this c1
      · right
        have hn := am_inh H (a := x) ck
        exact ⟨e1, by rw [(hm.2.2 x hn).1]; exact e2⟩
theorem ty_l_mono (H : am_hok L xs h) (hm : am_mn h h') : ∀ {ts : List Nat} {vs : List am_V} {zs : List Int}, ty_l h ts vs zs → ty_l h' ts vs zs := by
  intro ts
  induction ts with
  | nil => intro vs zs hl; cases vs <;> cases zs <;> first | exact hl | cases hl
  | cons t ts ih =>
    intro vs zs hl
    cases vs with
    | nil => cases hl
    | cons v vs =>
      cases zs with
      | nil => cases hl
      | cons z zs => exact ⟨ty_v_mono H hm hl.1, ih hl.2⟩
theorem ty_l_len : ∀ {ts : List Nat} {vs : List am_V} {zs : List Int}, ty_l h ts vs zs → vs.length = ts.length ∧ zs.length = ts.length := by
  intro ts
  induction ts with
  | nil => intro vs zs hl; cases vs <;> cases zs <;> first | exact ⟨rfl, rfl⟩ | cases hl
  | cons t ts ih =>
    intro vs zs hl
    cases vs with
    | nil => cases hl
    | cons v vs =>
      cases zs with
      | nil => cases hl
      | cons z zs =>
        have := ih hl.2
        simp only [List.length_cons]
        omega
theorem ty_l_get : ∀ {ts : List Nat} {vs : List am_V} {zs : List Int} {k t : Nat}, ty_l h ts vs zs → ts[k]? = some t → ∃ v z, vs[k]? = some v ∧ zs[k]? = some z ∧ ty_v h t v z := by
  intro ts
  induction ts with
  | nil => intro vs zs k t hl hk; simp at hk
  | cons u ts ih =>
    intro vs zs k t hl hk
    cases vs with
    | nil => cases hl
    | cons v vs =>
      cases zs with
      | nil => cases hl
      | cons z zs =>
        cases k with
        | zero => simp at hk; subst hk; exact ⟨v, z, rfl, rfl, hl.1⟩
        | succ k =>
          obtain ⟨v', z', h1, h2, h3⟩ := ih hl.2 (by simpa using hk)
          exact ⟨v', z', by simpa using h1, by simpa using h2, h3⟩
theorem ty_l_set : ∀ {ts : List Nat} {vs : List am_V} {zs : List Int} (k : Nat) {t : Nat} {v : am_V} {z : Int}, ty_l h ts vs zs → ty_v h t v z → ty_l h (ts.set k t) (vs.set k v) (zs.set k z) := by
  intro ts
  induction ts with
  | nil => intro vs zs k t v z hl hv; cases vs <;> cases zs <;> first | exact hl | cases hl
  | cons u ts ih =>
    intro vs zs k t v z hl hv
    cases vs with
    | nil => cases hl
    | cons v vs =>
      cases zs with
      | nil => cases hl
      | cons z zs =>
        cases k with
        | zero => exact ⟨hv, hl.2⟩
        | succ k => exact ⟨hl.1, ih k hl.2 hv⟩
/-- a place that nothing is known of -/
theorem ty_l_set3 : ∀ {ts : List Nat} {vs : List am_V} {zs : List Int} (k : Nat) (v : am_V), ty_l h ts vs zs → ty_l h (ts.set k 3) (vs.set k v) zs := by
  intro ts
  induction ts with
  | nil => intro vs zs k v hl; cases vs <;> cases zs <;> first | exact hl | cases hl
  | cons u ts ih =>
    intro vs zs k v0 hl
    cases vs with
    | nil => cases hl
    | cons v vs =>
      cases zs with
      | nil => cases hl
      | cons z zs =>
        cases k with
        | zero => exact ⟨trivial, hl.2⟩
        | succ k => exact ⟨hl.1, ih k v0 hl.2⟩
theorem ty_l_same3 : ∀ {ts : List Nat} {vs : List am_V} {zs : List Int} (k : Nat) (v : am_V), ty_l h ts vs zs → ts[k]? = some 3 → ty_l h ts (vs.set k v) zs := by
  intro ts
  induction ts with
  | nil => intro vs zs k v hl; cases vs <;> cases zs <;> first | (intro _; exact hl) | cases hl
  | cons u ts ih =>
    intro vs zs k v0 hl h3
    cases vs with
    | nil => cases hl
    | cons v vs =>
      cases zs with
      | nil => cases hl
      | cons z zs =>
        cases k with
        | zero => simp at h3; subst h3; exact ⟨trivial, hl.2⟩
        | succ k => exact ⟨hl.1, ih k v0 hl.2 (by simpa using h3)⟩
theorem ty_v_tag (h3 : t ≠ 3) (hv : ty_v h t v x) : v.1 = 1 ↔ t = 1 := by
  unfold ty_v at hv
  rw [if_neg h3] at hv
  by_cases c0 : t = 0
  · rw [if_pos c0] at hv; rw [hv, c0]
  rw [if_neg c0] at hv
  by_cases c4 : t = 4
  · rw [if_pos c4] at hv; rw [hv.1, c4]; simp
  rw [if_neg c4] at hv
  by_cases c1 : t = 1
  · rw [if_pos c1] at hv; rw [hv, c1]
  rw [if_neg c1] at hv
  have e : v = (2, x) := by
    split at hv
    · exact hv.1
    · split at hv
      · exact hv.1
      · split at hv <;> exact hv.1
  rw [e]
  simp [c1]
theorem ty_l_kill {ts : List Nat} {vs : List am_V} {zs : List Int} (k : Nat) (hl : ty_l h ts vs zs) : ty_l h (ty_kill ts k) (am_kill vs k) zs := by
  cases k with
  | zero => exact hl
  | succ j =>
    cases hj : ts[j]? with
    | none =>
      have e := ty_l_len hl
      have hn : vs[j]? = none := List.getElem?_eq_none (by have := List.getElem?_eq_none_iff.mp hj; omega)
      have e1 : ty_kill ts (j + 1) = ts := by unfold ty_kill; dsimp only; rw [hj]
      have e2 : am_kill vs (j + 1) = vs := by unfold am_kill; dsimp only; rw [hn]
      rw [e1, e2]
      exact hl
    | some t =>
      obtain ⟨v, z, h1, h2, h3⟩ := ty_l_get hl hj
      by_cases c1 : t = 1
      · subst c1
        have e : v = (1, z) := h3
        subst e
        have e1 : ty_kill ts (j + 1) = ts.set j 3 := by unfold ty_kill; dsimp only; rw [hj]; rfl
        have e2 : am_kill vs (j + 1) = vs.set j (3, 0) := by unfold am_kill; dsimp only; rw [h1]; rfl
        rw [e1, e2]
        exact ty_l_set3 j (3, 0) hl
      · have e1 : ty_kill ts (j + 1) = ts := by
          unfold ty_kill
          dsimp only
          rw [hj]
          split
          · rename_i e; cases e; exact absurd rfl c1
          · rfl
        rw [e1]
        obtain ⟨tg, y⟩ := v
        by_cases c2 : tg = 1
        · subst c2
          have h33 : t = 3 := by
            by_cases c3 : t = 3
            · exact c3
            · exact absurd ((ty_v_tag c3 h3).mp rfl) c1
          subst h33
          have e2 : am_kill vs (j + 1) = vs.set j (3, 0) := by unfold am_kill; dsimp only; rw [h1]; rfl
          rw [e2]
          exact ty_l_same3 j (3, 0) hl hj
        · have e2 : am_kill vs (j + 1) = vs := by
            unfold am_kill
            dsimp only
            rw [h1]
            split
            · rename_i e; cases e; exact absurd rfl c2
            · rfl
          rw [e2]
          exact hl
theorem ty_l_s1 {ts : List Nat} {vs : List am_V} {zs : List Int} (k : Nat) {t : Nat} {v : am_V} {z : Int} (hl : ty_l h ts vs zs) (hv : ty_v h t v z) : ty_l h (ty_s1 ts k t) (am_st1 vs k v) (zs.set k z) := ty_l_set k (ty_l_kill k hl) hv
theorem ty_l_s2 {ts : List Nat} {vs : List am_V} {zs : List Int} (k : Nat) {t : Nat} {v : am_V} {z : Int} (hl : ty_l h ts vs zs) (hv : ty_v h t v z) : ty_l h (ty_s2 ts k t) (am_st2 vs k v) (zs.set k z) := ty_l_set3 (k + 1) (3, 0) (ty_l_set k (ty_l_kill k hl) hv)
theorem ty_les_l : ∀ {ts us : List Nat} {vs : List am_V} {zs : List Int}, ty_les ts us = true → ty_l h ts vs zs → ty_l h us vs zs := by
  intro ts
  induction ts with
  | nil =>
    intro us vs zs hle hl
    cases us with
    | nil => exact hl
    | cons u us => cases hle
  | cons t ts ih =>
    intro us vs zs hle hl
    cases us with
    | nil => cases hle
    | cons u us =>
      cases vs with
      | nil => cases hl
      | cons v vs =>
        cases zs with
        | nil => cases hl
        | cons z zs =>
          unfold ty_les at hle
          rw [Bool.and_eq_true] at hle
          exact ⟨ty_le_v hle.1 hl.1, ih hle.2 hl.2⟩
theorem ty_l_take : ∀ (n : Nat) {ts : List Nat} {vs : List am_V} {zs : List Int}, ty_l h ts vs zs → ty_l h (ts.take n) (vs.take n) (zs.take n) ∧ ty_l h (ts.drop n) (vs.drop n) (zs.drop n) := by
  intro n
  induction n with
  | zero => intro ts vs zs hl; exact ⟨trivial, hl⟩
  | succ n ih =>
    intro ts vs zs hl
    cases ts with
    | nil => cases vs <;> cases zs <;> first | exact ⟨trivial, trivial⟩ | cases hl
    | cons t ts =>
      cases vs with
      | nil => cases hl
      | cons v vs =>
        cases zs with
        | nil => cases hl
        | cons z zs =>
          have := ih hl.2
          exact ⟨⟨hl.1, this.1⟩, this.2⟩
theorem ty_l_app : ∀ {ts : List Nat} {vs : List am_V} {zs : List Int} {ts' : List Nat} {vs' : List am_V} {zs' : List Int}, ty_l h ts vs zs → ty_l h ts' vs' zs' → ty_l h (ts ++ ts') (vs ++ vs') (zs ++ zs') := by
  intro ts
  induction ts with
  | nil => intro vs zs ts' vs' zs' hl hl'; cases vs <;> cases zs <;> first | exact hl' | cases hl
  | cons t ts ih =>
    intro vs zs ts' vs' zs' hl hl'
    cases vs with
    | nil => cases hl
    | cons v vs =>
      cases zs with
      | nil => cases hl
      | cons z zs => exact ⟨hl.1, ih hl.2 hl'⟩
theorem ty_l_rev : ∀ {ts : List Nat} {vs : List am_V} {zs : List Int}, ty_l h ts vs zs → ty_l h ts.reverse vs.reverse zs.reverse := by
  intro ts
  induction ts with
  | nil => intro vs zs hl; cases vs <;> cases zs <;> first | exact trivial | cases hl
  | cons t ts ih =>
    intro vs zs hl
    cases vs with
    | nil => cases hl
    | cons v vs =>
      cases zs with
      | nil => cases hl
      | cons z zs =>
        rw [List.reverse_cons, List.reverse_cons, List.reverse_cons]
        exact ty_l_app (ih hl.2) ⟨hl.1, trivial⟩
theorem ty_l_cats : ∀ {ts : List Nat} {vs : List am_V} {zs : List Int}, ty_l h ts vs zs → am_cats vs ≤ ty_cats ts ∧ ((∀ t ∈ ts, t ≠ 3) → am_cats vs = ty_cats ts) := by
  intro ts
  induction ts with
  | nil => intro vs zs hl; cases vs <;> cases zs <;> first | exact ⟨Nat.le_refl _, fun _ => rfl⟩ | cases hl
  | cons t ts ih =>
    intro vs zs hl
    cases vs with
    | nil => cases hl
    | cons v vs =>
      cases zs with
      | nil => cases hl
      | cons z zs =>
        simp only [am_cats, ty_cats]
        obtain ⟨i1, i2⟩ := ih hl.2
        have hc : am_cat v ≤ ty_cat t ∧ (t ≠ 3 → am_cat v = ty_cat t) := by
          unfold ty_cat am_cat
          by_cases c3 : t = 3
          · subst c3
            refine ⟨?_, fun w => absurd rfl w⟩
            split <;> decide
          · have h33 := ty_v_tag c3 hl.1
            by_cases c1 : t = 1
            · rw [if_pos c1, if_pos (h33.mpr c1)]; exact ⟨Nat.le_refl _, fun _ => rfl⟩
            · rw [if_neg c1, if_neg (fun e => c1 (h33.mp e)), if_neg c3]; exact ⟨Nat.le_refl _, fun _ => rfl⟩
        refine ⟨by omega, fun h3 => ?_⟩
        rw [i2 (fun t ht => h3 t (List.mem_cons_of_mem _ ht)), hc.2 (h3 t List.mem_cons_self)]
end
