set_option maxRecDepth 100000
theorem lm_of_set (h : am_H) (a i v : Int) : h_s (lm_of h) a i v = lm_of (am_set h a i v) := rfl
theorem lm_of_cpy (h : am_H) (s sp d dp n : Int) : h_c (lm_of h) s sp d dp n = lm_of (am_cpy h s sp d dp n) := rfl
theorem lm_of_new {h : am_H} (h0 : 0 ≤ am_n h) {k l : Int} {z : Int → Int} (hk : (0 ≤ k ∧ k ≤ 10 ∧ l = am_fn k.toNat) ∨ 16 ≤ k) : h_w (lm_of h) l z = lm_of (am_new h k l z) := by
  unfold h_w lm_of
  have e1 : (fun b => if b = am_n h then l else am_ln h b) = am_ln (am_new h k l z) := by
    funext b
    unfold am_ln
    show (if b = am_n h then _ else _) = (if b ≤ -10 then _ else if (if b = am_n h then k else am_k h b) = -9 then _ else if (if b = am_n h then k else am_k h b) ≤ 10 then ((am_fn (if b = am_n h then k else am_k h b).toNat : Nat) : Int) else (if b = am_n h then l else am_l h b))
    by_cases c : b = am_n h
    · rw [if_pos c, if_pos c, if_pos c, if_neg (by omega), if_neg (by omega)]
      rcases hk with ⟨k0, k1, k2⟩ | hk
      · rw [if_pos k1, k2]
      · rw [if_neg (by omega)]
    · rw [if_neg c, if_neg c, if_neg c]
  show (am_n h + 1, am_m h + l, (fun b => if b = am_n h then l else am_ln h b), _) = (am_n (am_new h k l z), am_m (am_new h k l z), am_ln (am_new h k l z), am_v (am_new h k l z))
  rw [e1]
  rfl
def ty_res (h1 : lm_H) (i : Instr) (r : List Int) (als ast : List am_V) (h : am_H) (ts' tst' : List Nat) (xs' st' : List Int) : Prop :=
  ∃ (als' ast' : List am_V) (h2 : am_H), am_st i r als ast h = some (als', ast', h2) ∧ h1 = lm_of h2 ∧ ty_l h2 ts' als' xs' ∧ ty_l h2 tst' ast' st' ∧ ty_h h2
section
variable {L : Int} {X : Int → Int} {h : am_H} {h1 : lm_H} {i : Instr} {r : List Int} {ts tst ts' tst' : List Nat} {als ast : List am_V} {xs st xs' st' : List Int}
/-- a stack of typed values, its first ones -/
theorem ty_c {t : Nat} {q : List Nat} (hl : ty_l h (t :: q) ast st) : ∃ v x vs zs, ast = v :: vs ∧ st = x :: zs ∧ ty_v h t v x ∧ ty_l h q vs zs := by
  cases ast with
  | nil => cases hl
  | cons v vs =>
    cases st with
    | nil => cases hl
    | cons x zs => exact ⟨v, x, vs, zs, rfl, rfl, hl.1, hl.2⟩
theorem ty_good (h0 : am_hok L X h) {t : Nat} {v : am_V} {x : Int} (h1 : 10 ≤ t) (h2 : t ≤ 33) (hv : ty_v h t v x) (hg : 0 ≤ h_l (lm_of h) x) : v = (2, x) ∧ 0 ≤ x ∧ am_k h x = (t : Int) - 10 := by
  obtain ⟨e1, e2⟩ := ty_v_k h1 h2 hv
  refine ⟨e1, ?_⟩
  rcases e2 with e2 | e2
  · exfalso
    subst e2
    have hk : am_k h (-1) = -9 := (h0.2.2.2.2 (-1) (by omega)).1
    have : h_l (lm_of h) (-1) = -1 := by
      show am_ln h (-1) = -1
      unfold am_ln
      rw [if_neg (by omega), if_pos hk]
    omega
  · exact e2
theorem ty_le10 {t u : Nat} {v : am_V} {x : Int} (hl : ty_le t u = true) (hv : ty_v h t v x) : ty_v h u v x := ty_le_v hl hv
theorem ty_alen {a : Int} (h0 : 0 ≤ a) (hk : 16 ≤ am_k h a) : h_l (lm_of h) a = am_l h a := by
  show am_ln h a = _
  unfold am_ln
  rw [if_neg (by omega), if_neg (by omega), if_neg (by omega)]
theorem ty_slen (H : am_hok L X h) : h_l (lm_of h) (-2) = am_l h (-2) := by
  have hk : am_k h (-2) = 16 := (H.2.2.2.2 (-2) (by omega)).1
  show am_ln h (-2) = _
  unfold am_ln
  rw [if_neg (by omega), hk]
  rfl
theorem ty_h_set {a j v : Int} (hh : ty_h h) (h0 : 0 ≤ a) (hv : 0 ≤ am_k h a → am_k h a ≤ 10 → ∀ k : Nat, j = k → 10 ≤ ty_fk (am_k h a).toNat k → (v = -1 ∨ (0 ≤ v ∧ am_k h v = (ty_fk (am_k h a).toNat k : Int) - 10))) : ty_h (am_set h a j v) := by
  intro b b0 k0 k1 k hk h10
  show (am_v (am_set h a j v) b k = -1 ∨ (0 ≤ am_v (am_set h a j v) b k ∧ am_k h (am_v (am_set h a j v) b k) = _))
  rw [am_set_v]
  by_cases c : b = a ∧ (k : Int) = j
  · rw [if_pos c]
    obtain ⟨rfl, c2⟩ := c
    exact hv k0 k1 k c2.symm h10
  · rw [if_neg c]
    exact hh b b0 k0 k1 k hk h10
theorem ty_h_new (H : am_hok L X h) (hh : ty_h h) {k l : Int} {z : Int → Int} (hz : 0 ≤ k → k ≤ 10 → ∀ j : Nat, j < am_fn k.toNat → 10 ≤ ty_fk k.toNat j → z j = -1) : ty_h (am_new h k l z) := by
  intro b b0 k0 k1 j hj h10
  have hn := H.1
  by_cases c : b = am_n h
  · subst c
    have e1 : am_k (am_new h k l z) (am_n h) = k := if_pos rfl
    have e2 : am_v (am_new h k l z) (am_n h) j = z j := if_pos rfl
    rw [e1] at k0 k1 hj h10 ⊢
    rw [e2]
    exact Or.inl (hz k0 k1 j hj h10)
  · have e1 : am_k (am_new h k l z) b = am_k h b := if_neg c
    have e2 : am_v (am_new h k l z) b j = am_v h b j := if_neg c
    rw [e1] at k0 k1 hj h10 ⊢
    rw [e2]
    rcases hh b b0 k0 k1 j hj h10 with g | ⟨g1, g2⟩
    · exact Or.inl g
    · right
      have hlt := am_inh H (a := am_v h b j) (by omega)
      refine ⟨g1, ?_⟩
      have hne : ¬ am_v h b j = am_n h := by omega
      have e3 : am_k (am_new h k l z) (am_v h b j) = am_k h (am_v h b j) := if_neg hne
      rw [e3]; exact g2
theorem ty_h_cpy {s sp d dp n : Int} (hh : ty_h h) (hk : 16 ≤ am_k h d) : ty_h (am_cpy h s sp d dp n) := by
  intro b b0 k0 k1 j hj h10
  show (am_v (am_cpy h s sp d dp n) b j = -1 ∨ (0 ≤ am_v (am_cpy h s sp d dp n) b j ∧ am_k h (am_v (am_cpy h s sp d dp n) b j) = _))
  have k1' : am_k h b ≤ 10 := k1
  rw [am_cpy_v, if_neg (fun e => by rw [e.1] at k1'; omega)]
  exact hh b b0 k0 k1 j hj h10
theorem am_andz {x y : Int} (hx : x = 0 ∨ x = 1) (hy : y = 0 ∨ y = 1) : (am_and x y = 0 ∨ am_and x y = 1) ∧ (am_or x y = 0 ∨ am_or x y = 1) := by
  rcases hx with rfl | rfl <;> rcases hy with rfl | rfl <;> decide
theorem am_i2bz {x : Int} (hx : x = 0 ∨ x = 1) : am_i2b x = x := by rcases hx with rfl | rfl <;> decide
theorem ty_step (H : am_hok L X h) (hh : ty_h h) (hl : ty_l h ts als xs) (hs : ty_l h tst ast st) (hr : am_lok (am_n h) ast) (E : lm_st i r xs st (lm_of h) = some (xs', st', h1)) (T : ty_st i r ts tst = some (ts', tst')) : ty_res h1 i r als ast h ts' tst' xs' st' := by
  cases i
  case iconst c =>
    cases E
    cases T
    refine ⟨_, _, _, rfl, rfl, hl, ⟨?_, hs⟩, hh⟩
    split
    · rename_i cc; exact ⟨rfl, cc⟩
    · rfl
  case bipush c =>
    cases E
    cases T
    exact ⟨_, _, _, rfl, rfl, hl, ⟨rfl, hs⟩, hh⟩
  case sipush c =>
    cases E
    cases T
    exact ⟨_, _, _, rfl, rfl, hl, ⟨rfl, hs⟩, hh⟩
  case lconst c =>
    cases E
    cases T
    exact ⟨_, _, _, rfl, rfl, hl, ⟨rfl, hs⟩, hh⟩
  case ldc x =>
    simp only [lm_st] at E
    simp only [ty_st] at T
    split at E
    · cases E
      cases T
      exact ⟨_, _, _, rfl, rfl, hl, ⟨rfl, hs⟩, hh⟩
    · rename_i c0
      have T' : (if 0 ≤ c0 ∧ c0 < 96 then some (ts, 110 :: tst) else none) = some (ts', tst') := T
      split at T'
      · rename_i cc
        cases E
        cases T'
        exact ⟨_, _, _, rfl, rfl, hl, ⟨⟨rfl, by unfold st_is; omega⟩, hs⟩, hh⟩
      · cases T'
    · cases E
  case ldc_w x =>
    simp only [lm_st] at E
    simp only [ty_st] at T
    split at E
    · cases E
      cases T
      exact ⟨_, _, _, rfl, rfl, hl, ⟨rfl, hs⟩, hh⟩
    · rename_i c0
      have T' : (if 0 ≤ c0 ∧ c0 < 96 then some (ts, 110 :: tst) else none) = some (ts', tst') := T
      split at T'
      · rename_i cc
        cases E
        cases T'
        exact ⟨_, _, _, rfl, rfl, hl, ⟨⟨rfl, by unfold st_is; omega⟩, hs⟩, hh⟩
      · cases T'
    · cases E
  case ldc2_w x =>
    simp only [lm_st] at E
    simp only [ty_st] at T
    split at E
    · cases E
      cases T
      exact ⟨_, _, _, rfl, rfl, hl, ⟨rfl, hs⟩, hh⟩
    · cases E
  case aconst_null =>
    cases E
    cases T
    exact ⟨_, _, _, rfl, rfl, hl, ⟨⟨rfl, rfl⟩, hs⟩, hh⟩
  case iload_n k =>
    simp only [ty_st] at T
    unfold ty_ld at T
    split at T
    · rename_i t ht
      split at T
      · rename_i ct
        cases T
        obtain ⟨v, z, h1', h2', h3⟩ := ty_l_get hl ht
        have ev : v = (0, z) := ty_v_i ct h3
        have e1 : lm_ld k.val xs st = some (z :: st) := by unfold lm_ld; rw [h2']
        have e2 : am_ld 0 k.val als ast = some ((0, z) :: ast) := by unfold am_ld; rw [h1', ev]; exact if_pos rfl
        have E' : Option.map (fun st' => (xs, st', lm_of h)) (lm_ld k.val xs st) = some (xs', st', h1) := E
        rw [e1] at E'
        cases E'
        refine ⟨als, (0, z) :: ast, h, ?_, rfl, hl, ⟨?_, hs⟩, hh⟩
        · show Option.map _ (am_ld 0 k.val als ast) = _
          rw [e2]
          rfl
        · rw [← ev]; exact h3
      · cases T
    · cases T
  case iload k =>
    simp only [ty_st] at T
    unfold ty_ld at T
    split at T
    · rename_i t ht
      split at T
      · rename_i ct
        cases T
        obtain ⟨v, z, h1', h2', h3⟩ := ty_l_get hl ht
        have ev : v = (0, z) := ty_v_i ct h3
        have e1 : lm_ld k xs st = some (z :: st) := by unfold lm_ld; rw [h2']
        have e2 : am_ld 0 k als ast = some ((0, z) :: ast) := by unfold am_ld; rw [h1', ev]; exact if_pos rfl
        have E' : Option.map (fun st' => (xs, st', lm_of h)) (lm_ld k xs st) = some (xs', st', h1) := E
        rw [e1] at E'
        cases E'
        refine ⟨als, (0, z) :: ast, h, ?_, rfl, hl, ⟨?_, hs⟩, hh⟩
        · show Option.map _ (am_ld 0 k als ast) = _
          rw [e2]
          rfl
        · rw [← ev]; exact h3
      · cases T
    · cases T
  case lload_n k =>
    simp only [ty_st] at T
    unfold ty_ld at T
    split at T
    · rename_i t ht
      split at T
      · rename_i ct
        cases T
        obtain ⟨v, z, h1', h2', h3⟩ := ty_l_get hl ht
        have ev : v = (1, z) := by rw [of_decide_eq_true ct] at h3; exact h3
        have e1 : lm_ld k.val xs st = some (z :: st) := by unfold lm_ld; rw [h2']
        have e2 : am_ld 1 k.val als ast = some ((1, z) :: ast) := by unfold am_ld; rw [h1', ev]; exact if_pos rfl
        have E' : Option.map (fun st' => (xs, st', lm_of h)) (lm_ld k.val xs st) = some (xs', st', h1) := E
        rw [e1] at E'
        cases E'
        refine ⟨als, (1, z) :: ast, h, ?_, rfl, hl, ⟨?_, hs⟩, hh⟩
        · show Option.map _ (am_ld 1 k.val als ast) = _
          rw [e2]
          rfl
        · rw [← ev]; exact h3
      · cases T
    · cases T
  case lload k =>
    simp only [ty_st] at T
    unfold ty_ld at T
    split at T
    · rename_i t ht
      split at T
      · rename_i ct
        cases T
        obtain ⟨v, z, h1', h2', h3⟩ := ty_l_get hl ht
        have ev : v = (1, z) := by rw [of_decide_eq_true ct] at h3; exact h3
        have e1 : lm_ld k xs st = some (z :: st) := by unfold lm_ld; rw [h2']
        have e2 : am_ld 1 k als ast = some ((1, z) :: ast) := by unfold am_ld; rw [h1', ev]; exact if_pos rfl
        have E' : Option.map (fun st' => (xs, st', lm_of h)) (lm_ld k xs st) = some (xs', st', h1) := E
        rw [e1] at E'
        cases E'
        refine ⟨als, (1, z) :: ast, h, ?_, rfl, hl, ⟨?_, hs⟩, hh⟩
        · show Option.map _ (am_ld 1 k als ast) = _
          rw [e2]
          rfl
        · rw [← ev]; exact h3
      · cases T
    · cases T
  case aload_n k =>
    simp only [ty_st] at T
    unfold ty_ld at T
    split at T
    · rename_i t ht
      split at T
      · rename_i ct
        cases T
        obtain ⟨v, z, h1', h2', h3⟩ := ty_l_get hl ht
        have ev : v = (2, z) := ty_v_r ct h3
        have e1 : lm_ld k.val xs st = some (z :: st) := by unfold lm_ld; rw [h2']
        have e2 : am_ld 2 k.val als ast = some ((2, z) :: ast) := by unfold am_ld; rw [h1', ev]; exact if_pos rfl
        have E' : Option.map (fun st' => (xs, st', lm_of h)) (lm_ld k.val xs st) = some (xs', st', h1) := E
        rw [e1] at E'
        cases E'
        refine ⟨als, (2, z) :: ast, h, ?_, rfl, hl, ⟨?_, hs⟩, hh⟩
        · show Option.map _ (am_ld 2 k.val als ast) = _
          rw [e2]
          rfl
        · rw [← ev]; exact h3
      · cases T
    · cases T
  case aload k =>
    simp only [ty_st] at T
    unfold ty_ld at T
    split at T
    · rename_i t ht
      split at T
      · rename_i ct
        cases T
        obtain ⟨v, z, h1', h2', h3⟩ := ty_l_get hl ht
        have ev : v = (2, z) := ty_v_r ct h3
        have e1 : lm_ld k xs st = some (z :: st) := by unfold lm_ld; rw [h2']
        have e2 : am_ld 2 k als ast = some ((2, z) :: ast) := by unfold am_ld; rw [h1', ev]; exact if_pos rfl
        have E' : Option.map (fun st' => (xs, st', lm_of h)) (lm_ld k xs st) = some (xs', st', h1) := E
        rw [e1] at E'
        cases E'
        refine ⟨als, (2, z) :: ast, h, ?_, rfl, hl, ⟨?_, hs⟩, hh⟩
        · show Option.map _ (am_ld 2 k als ast) = _
          rw [e2]
          rfl
        · rw [← ev]; exact h3
      · cases T
    · cases T
  case istore_n k =>
    simp only [ty_st] at T
    unfold ty_sto at T
    split at T
    · rename_i t q
      split at T
      · rename_i ct
        rw [Bool.and_eq_true, decide_eq_true_eq] at ct
        cases T
        obtain ⟨v, z, vs, zs, rfl, rfl, h3, h4⟩ := ty_c hs
        have ev := ty_v_i ct.1 h3
        subst ev
        cases E
        have hlen := ty_l_len hl
        refine ⟨am_st1 als k.val (0, z), vs, h, ?_, rfl, ty_l_s1 k.val hl h3, h4, hh⟩
        show Option.map _ (am_sto 0 k.val als ((0, z) :: vs)) = _
        have e2 : am_sto 0 k.val als ((0, z) :: vs) = some (am_st1 als k.val (0, z), vs) := by
          unfold am_sto
          dsimp only
          rw [if_pos rfl, if_neg (by decide), if_pos (by omega)]
        rw [e2]
        rfl
      · cases T
    · cases T
  case istore k =>
    simp only [ty_st] at T
    unfold ty_sto at T
    split at T
    · rename_i t q
      split at T
      · rename_i ct
        rw [Bool.and_eq_true, decide_eq_true_eq] at ct
        cases T
        obtain ⟨v, z, vs, zs, rfl, rfl, h3, h4⟩ := ty_c hs
        have ev := ty_v_i ct.1 h3
        subst ev
        cases E
        have hlen := ty_l_len hl
        refine ⟨am_st1 als k (0, z), vs, h, ?_, rfl, ty_l_s1 k hl h3, h4, hh⟩
        show Option.map _ (am_sto 0 k als ((0, z) :: vs)) = _
        have e2 : am_sto 0 k als ((0, z) :: vs) = some (am_st1 als k (0, z), vs) := by
          unfold am_sto
          dsimp only
          rw [if_pos rfl, if_neg (by decide), if_pos (by omega)]
        rw [e2]
        rfl
      · cases T
    · cases T
  case astore_n k =>
    simp only [ty_st] at T
    unfold ty_sto at T
    split at T
    · rename_i t q
      split at T
      · rename_i ct
        rw [Bool.and_eq_true, decide_eq_true_eq] at ct
        cases T
        obtain ⟨v, z, vs, zs, rfl, rfl, h3, h4⟩ := ty_c hs
        have ev := ty_v_r ct.1 h3
        subst ev
        cases E
        have hlen := ty_l_len hl
        refine ⟨am_st1 als k.val (2, z), vs, h, ?_, rfl, ty_l_s1 k.val hl h3, h4, hh⟩
        show Option.map _ (am_sto 2 k.val als ((2, z) :: vs)) = _
        have e2 : am_sto 2 k.val als ((2, z) :: vs) = some (am_st1 als k.val (2, z), vs) := by
          unfold am_sto
          dsimp only
          rw [if_pos rfl, if_neg (by decide), if_pos (by omega)]
        rw [e2]
        rfl
      · cases T
    · cases T
  case astore k =>
    simp only [ty_st] at T
    unfold ty_sto at T
    split at T
    · rename_i t q
      split at T
      · rename_i ct
        rw [Bool.and_eq_true, decide_eq_true_eq] at ct
        cases T
        obtain ⟨v, z, vs, zs, rfl, rfl, h3, h4⟩ := ty_c hs
        have ev := ty_v_r ct.1 h3
        subst ev
        cases E
        have hlen := ty_l_len hl
        refine ⟨am_st1 als k (2, z), vs, h, ?_, rfl, ty_l_s1 k hl h3, h4, hh⟩
        show Option.map _ (am_sto 2 k als ((2, z) :: vs)) = _
        have e2 : am_sto 2 k als ((2, z) :: vs) = some (am_st1 als k (2, z), vs) := by
          unfold am_sto
          dsimp only
          rw [if_pos rfl, if_neg (by decide), if_pos (by omega)]
        rw [e2]
        rfl
      · cases T
    · cases T
  case lstore_n k =>
    simp only [ty_st] at T
    unfold ty_stl at T
    split at T
    · rename_i q
      split at T
      · rename_i ct
        cases T
        obtain ⟨v, z, vs, zs, rfl, rfl, h3, h4⟩ := ty_c hs
        have ev := ty_v_l h3
        subst ev
        cases E
        have hlen := ty_l_len hl
        refine ⟨am_st2 als k.val (1, z), vs, h, ?_, rfl, ty_l_s2 k.val hl h3, h4, hh⟩
        show Option.map _ (am_sto 1 k.val als ((1, z) :: vs)) = _
        have e2 : am_sto 1 k.val als ((1, z) :: vs) = some (am_st2 als k.val (1, z), vs) := by
          unfold am_sto
          dsimp only
          rw [if_pos rfl, if_pos rfl, if_pos (by omega)]
        rw [e2]
        rfl
      · cases T
    · cases T
  case lstore k =>
    simp only [ty_st] at T
    unfold ty_stl at T
    split at T
    · rename_i q
      split at T
      · rename_i ct
        cases T
        obtain ⟨v, z, vs, zs, rfl, rfl, h3, h4⟩ := ty_c hs
        have ev := ty_v_l h3
        subst ev
        cases E
        have hlen := ty_l_len hl
        refine ⟨am_st2 als k (1, z), vs, h, ?_, rfl, ty_l_s2 k hl h3, h4, hh⟩
        show Option.map _ (am_sto 1 k als ((1, z) :: vs)) = _
        have e2 : am_sto 1 k als ((1, z) :: vs) = some (am_st2 als k (1, z), vs) := by
          unfold am_sto
          dsimp only
          rw [if_pos rfl, if_pos rfl, if_pos (by omega)]
        rw [e2]
        rfl
      · cases T
    · cases T
  case iinc k c =>
    simp only [ty_st] at T
    split at T
    · rename_i t ht
      split at T
      · rename_i ct
        cases T
        obtain ⟨v, z, h1', h2', h3⟩ := ty_l_get hl ht
        have ev := ty_v_i ct h3
        subst ev
        have E' : (match xs[k]? with | some x => some (xs.set k (am_w (x + c)), st, lm_of h) | none => none) = some (xs', st', h1) := E
        rw [h2'] at E'
        cases E'
        refine ⟨am_st1 als k (0, am_w (z + c)), ast, h, ?_, rfl, ty_l_s1 k hl rfl, hs, hh⟩
        show (match als[k]? with | some (0, x) => some (am_st1 als k (0, am_w (x + c)), ast, h) | _ => none) = _
        rw [h1']
        rfl
      · cases T
    · cases T
  case iadd =>
    simp only [ty_st] at T
    unfold ty_b32 at T
    split at T
    · rename_i tb ta q
      obtain ⟨vb, b, vs1, zs1, rfl, rfl, hb, hs1⟩ := ty_c hs
      obtain ⟨va, a, vs, zs, rfl, rfl, ha, hs2⟩ := ty_c hs1
      split at T
      · rename_i ct
        rw [Bool.and_eq_true] at ct
        cases T
        have eb := ty_v_i ct.2 hb
        have ea := ty_v_i ct.1 ha
        subst eb
        subst ea
        cases E
        exact ⟨_, _, _, rfl, rfl, hl, ⟨rfl, hs2⟩, hh⟩
      · cases T
    · cases T
  case isub =>
    simp only [ty_st] at T
    unfold ty_b32 at T
    split at T
    · rename_i tb ta q
      obtain ⟨vb, b, vs1, zs1, rfl, rfl, hb, hs1⟩ := ty_c hs
      obtain ⟨va, a, vs, zs, rfl, rfl, ha, hs2⟩ := ty_c hs1
      split at T
      · rename_i ct
        rw [Bool.and_eq_true] at ct
        cases T
        have eb := ty_v_i ct.2 hb
        have ea := ty_v_i ct.1 ha
        subst eb
        subst ea
        cases E
        exact ⟨_, _, _, rfl, rfl, hl, ⟨rfl, hs2⟩, hh⟩
      · cases T
    · cases T
  case imul =>
    simp only [ty_st] at T
    unfold ty_b32 at T
    split at T
    · rename_i tb ta q
      obtain ⟨vb, b, vs1, zs1, rfl, rfl, hb, hs1⟩ := ty_c hs
      obtain ⟨va, a, vs, zs, rfl, rfl, ha, hs2⟩ := ty_c hs1
      split at T
      · rename_i ct
        rw [Bool.and_eq_true] at ct
        cases T
        have eb := ty_v_i ct.2 hb
        have ea := ty_v_i ct.1 ha
        subst eb
        subst ea
        cases E
        exact ⟨_, _, _, rfl, rfl, hl, ⟨rfl, hs2⟩, hh⟩
      · cases T
    · cases T
  case idiv =>
    simp only [ty_st] at T
    unfold ty_b32 at T
    split at T
    · rename_i tb ta q
      obtain ⟨vb, b, vs1, zs1, rfl, rfl, hb, hs1⟩ := ty_c hs
      obtain ⟨va, a, vs, zs, rfl, rfl, ha, hs2⟩ := ty_c hs1
      split at T
      · rename_i ct
        rw [Bool.and_eq_true] at ct
        cases T
        have eb := ty_v_i ct.2 hb
        have ea := ty_v_i ct.1 ha
        subst eb
        subst ea
        have E' : Option.map (fun st' => (xs, st', lm_of h)) (Option.map (fun x => x :: zs) (am_idiv a b)) = some (xs', st', h1) := E
        cases hd : am_idiv a b with
        | none => rw [hd] at E'; cases E'
        | some x =>
          rw [hd] at E'
          cases E'
          refine ⟨als, (0, x) :: vs, h, ?_, rfl, hl, ⟨rfl, hs2⟩, hh⟩
          show Option.map _ (Option.map _ (am_idiv a b)) = _
          rw [hd]
          rfl
      · cases T
    · cases T
  case iand =>
    simp only [ty_st] at T
    unfold ty_bz at T
    split at T
    · rename_i tb ta q
      obtain ⟨vb, b, vs1, zs1, rfl, rfl, hb, hs1⟩ := ty_c hs
      obtain ⟨va, a, vs, zs, rfl, rfl, ha, hs2⟩ := ty_c hs1
      split at T
      · rename_i ct
        rw [Bool.and_eq_true, decide_eq_true_eq, decide_eq_true_eq] at ct
        cases T
        rw [ct.2] at hb
        rw [ct.1] at ha
        obtain ⟨eb, hb2⟩ := ty_v_z hb
        obtain ⟨ea, ha2⟩ := ty_v_z ha
        subst eb
        subst ea
        cases E
        exact ⟨_, _, _, rfl, rfl, hl, ⟨⟨rfl, (am_andz ha2 hb2).1⟩, hs2⟩, hh⟩
      · split at T
        · rename_i ct
          rw [Bool.and_eq_true] at ct
          cases T
          have eb := ty_v_i ct.2 hb
          have ea := ty_v_i ct.1 ha
          subst eb
          subst ea
          cases E
          exact ⟨_, _, _, rfl, rfl, hl, ⟨rfl, hs2⟩, hh⟩
        · cases T
    · cases T
  case ior =>
    simp only [ty_st] at T
    unfold ty_bz at T
    split at T
    · rename_i tb ta q
      obtain ⟨vb, b, vs1, zs1, rfl, rfl, hb, hs1⟩ := ty_c hs
      obtain ⟨va, a, vs, zs, rfl, rfl, ha, hs2⟩ := ty_c hs1
      split at T
      · rename_i ct
        rw [Bool.and_eq_true, decide_eq_true_eq, decide_eq_true_eq] at ct
        cases T
        rw [ct.2] at hb
        rw [ct.1] at ha
        obtain ⟨eb, hb2⟩ := ty_v_z hb
        obtain ⟨ea, ha2⟩ := ty_v_z ha
        subst eb
        subst ea
        cases E
        exact ⟨_, _, _, rfl, rfl, hl, ⟨⟨rfl, (am_andz ha2 hb2).2⟩, hs2⟩, hh⟩
      · split at T
        · rename_i ct
          rw [Bool.and_eq_true] at ct
          cases T
          have eb := ty_v_i ct.2 hb
          have ea := ty_v_i ct.1 ha
          subst eb
          subst ea
          cases E
          exact ⟨_, _, _, rfl, rfl, hl, ⟨rfl, hs2⟩, hh⟩
        · cases T
    · cases T
  case ishl =>
    simp only [ty_st] at T
    unfold ty_b32 at T
    split at T
    · rename_i tb ta q
      obtain ⟨vb, b, vs1, zs1, rfl, rfl, hb, hs1⟩ := ty_c hs
      obtain ⟨va, a, vs, zs, rfl, rfl, ha, hs2⟩ := ty_c hs1
      split at T
      · rename_i ct
        rw [Bool.and_eq_true] at ct
        cases T
        have eb := ty_v_i ct.2 hb
        have ea := ty_v_i ct.1 ha
        subst eb
        subst ea
        cases E
        exact ⟨_, _, _, rfl, rfl, hl, ⟨rfl, hs2⟩, hh⟩
      · cases T
    · cases T
  case ishr =>
    simp only [ty_st] at T
    unfold ty_b32 at T
    split at T
    · rename_i tb ta q
      obtain ⟨vb, b, vs1, zs1, rfl, rfl, hb, hs1⟩ := ty_c hs
      obtain ⟨va, a, vs, zs, rfl, rfl, ha, hs2⟩ := ty_c hs1
      split at T
      · rename_i ct
        rw [Bool.and_eq_true] at ct
        cases T
        have eb := ty_v_i ct.2 hb
        have ea := ty_v_i ct.1 ha
        subst eb
        subst ea
        cases E
        exact ⟨_, _, _, rfl, rfl, hl, ⟨rfl, hs2⟩, hh⟩
      · cases T
    · cases T
  case ladd =>
    simp only [ty_st] at T
    unfold ty_b64 at T
    split at T
    · rename_i q
      obtain ⟨vb, b, vs1, zs1, rfl, rfl, hb, hs1⟩ := ty_c hs
      obtain ⟨va, a, vs, zs, rfl, rfl, ha, hs2⟩ := ty_c hs1
      cases T
      have eb := ty_v_l hb
      have ea := ty_v_l ha
      subst eb
      subst ea
      cases E
      exact ⟨_, _, _, rfl, rfl, hl, ⟨rfl, hs2⟩, hh⟩
    · cases T
  case lsub =>
    simp only [ty_st] at T
    unfold ty_b64 at T
    split at T
    · rename_i q
      obtain ⟨vb, b, vs1, zs1, rfl, rfl, hb, hs1⟩ := ty_c hs
      obtain ⟨va, a, vs, zs, rfl, rfl, ha, hs2⟩ := ty_c hs1
      cases T
      have eb := ty_v_l hb
      have ea := ty_v_l ha
      subst eb
      subst ea
      cases E
      exact ⟨_, _, _, rfl, rfl, hl, ⟨rfl, hs2⟩, hh⟩
    · cases T
  case lmul =>
    simp only [ty_st] at T
    unfold ty_b64 at T
    split at T
    · rename_i q
      obtain ⟨vb, b, vs1, zs1, rfl, rfl, hb, hs1⟩ := ty_c hs
      obtain ⟨va, a, vs, zs, rfl, rfl, ha, hs2⟩ := ty_c hs1
      cases T
      have eb := ty_v_l hb
      have ea := ty_v_l ha
      subst eb
      subst ea
      cases E
      exact ⟨_, _, _, rfl, rfl, hl, ⟨rfl, hs2⟩, hh⟩
    · cases T
  case land =>
    simp only [ty_st] at T
    unfold ty_b64 at T
    split at T
    · rename_i q
      obtain ⟨vb, b, vs1, zs1, rfl, rfl, hb, hs1⟩ := ty_c hs
      obtain ⟨va, a, vs, zs, rfl, rfl, ha, hs2⟩ := ty_c hs1
      cases T
      have eb := ty_v_l hb
      have ea := ty_v_l ha
      subst eb
      subst ea
      cases E
      exact ⟨_, _, _, rfl, rfl, hl, ⟨rfl, hs2⟩, hh⟩
    · cases T
  case lor =>
    simp only [ty_st] at T
    unfold ty_b64 at T
    split at T
    · rename_i q
      obtain ⟨vb, b, vs1, zs1, rfl, rfl, hb, hs1⟩ := ty_c hs
      obtain ⟨va, a, vs, zs, rfl, rfl, ha, hs2⟩ := ty_c hs1
      cases T
      have eb := ty_v_l hb
      have ea := ty_v_l ha
      subst eb
      subst ea
      cases E
      exact ⟨_, _, _, rfl, rfl, hl, ⟨rfl, hs2⟩, hh⟩
    · cases T
  case lxor =>
    simp only [ty_st] at T
    unfold ty_b64 at T
    split at T
    · rename_i q
      obtain ⟨vb, b, vs1, zs1, rfl, rfl, hb, hs1⟩ := ty_c hs
      obtain ⟨va, a, vs, zs, rfl, rfl, ha, hs2⟩ := ty_c hs1
      cases T
      have eb := ty_v_l hb
      have ea := ty_v_l ha
      subst eb
      subst ea
      cases E
      exact ⟨_, _, _, rfl, rfl, hl, ⟨rfl, hs2⟩, hh⟩
    · cases T
  case lcmp =>
    simp only [ty_st] at T
    unfold ty_b64 at T
    split at T
    · rename_i q
      obtain ⟨vb, b, vs1, zs1, rfl, rfl, hb, hs1⟩ := ty_c hs
      obtain ⟨va, a, vs, zs, rfl, rfl, ha, hs2⟩ := ty_c hs1
      cases T
      have eb := ty_v_l hb
      have ea := ty_v_l ha
      subst eb
      subst ea
      cases E
      exact ⟨_, _, _, rfl, rfl, hl, ⟨rfl, hs2⟩, hh⟩
    · cases T
  case ldiv =>
    simp only [ty_st] at T
    unfold ty_b64 at T
    split at T
    · rename_i q
      obtain ⟨vb, b, vs1, zs1, rfl, rfl, hb, hs1⟩ := ty_c hs
      obtain ⟨va, a, vs, zs, rfl, rfl, ha, hs2⟩ := ty_c hs1
      cases T
      have eb := ty_v_l hb
      have ea := ty_v_l ha
      subst eb
      subst ea
      have E' : Option.map (fun st' => (xs, st', lm_of h)) (Option.map (fun x => x :: zs) (am_ldiv a b)) = some (xs', st', h1) := E
      cases hd : am_ldiv a b with
      | none => rw [hd] at E'; cases E'
      | some x =>
        rw [hd] at E'
        cases E'
        refine ⟨als, (1, x) :: vs, h, ?_, rfl, hl, ⟨rfl, hs2⟩, hh⟩
        show Option.map _ (Option.map _ (am_ldiv a b)) = _
        rw [hd]
        rfl
    · cases T
  case lrem =>
    simp only [ty_st] at T
    unfold ty_b64 at T
    split at T
    · rename_i q
      obtain ⟨vb, b, vs1, zs1, rfl, rfl, hb, hs1⟩ := ty_c hs
      obtain ⟨va, a, vs, zs, rfl, rfl, ha, hs2⟩ := ty_c hs1
      cases T
      have eb := ty_v_l hb
      have ea := ty_v_l ha
      subst eb
      subst ea
      have E' : Option.map (fun st' => (xs, st', lm_of h)) (Option.map (fun x => x :: zs) (am_lrem a b)) = some (xs', st', h1) := E
      cases hd : am_lrem a b with
      | none => rw [hd] at E'; cases E'
      | some x =>
        rw [hd] at E'
        cases E'
        refine ⟨als, (1, x) :: vs, h, ?_, rfl, hl, ⟨rfl, hs2⟩, hh⟩
        show Option.map _ (Option.map _ (am_lrem a b)) = _
        rw [hd]
        rfl
    · cases T
  case lshl =>
    simp only [ty_st] at T
    split at T
    · rename_i tb q
      obtain ⟨vb, b, vs1, zs1, rfl, rfl, hb, hs1⟩ := ty_c hs
      obtain ⟨va, a, vs, zs, rfl, rfl, ha, hs2⟩ := ty_c hs1
      split at T
      · rename_i ct
        cases T
        have eb := ty_v_i ct hb
        have ea := ty_v_l ha
        subst eb
        subst ea
        cases E
        exact ⟨_, _, _, rfl, rfl, hl, ⟨rfl, hs2⟩, hh⟩
      · cases T
    · cases T
  case ineg =>
    simp only [ty_st] at T
    unfold ty_i1 at T
    split at T
    · rename_i tb q
      obtain ⟨vb, b, vs, zs, rfl, rfl, hb, hs1⟩ := ty_c hs
      split at T
      · rename_i ct
        cases T
        have eb := ty_v_i ct hb
        subst eb
        cases E
        exact ⟨_, _, _, rfl, rfl, hl, ⟨rfl, hs1⟩, hh⟩
      · cases T
    · cases T
  case i2l =>
    simp only [ty_st] at T
    unfold ty_i1 at T
    split at T
    · rename_i tb q
      obtain ⟨vb, b, vs, zs, rfl, rfl, hb, hs1⟩ := ty_c hs
      split at T
      · rename_i ct
        cases T
        have eb := ty_v_i ct hb
        subst eb
        cases E
        exact ⟨_, _, _, rfl, rfl, hl, ⟨rfl, hs1⟩, hh⟩
      · cases T
    · cases T
  case i2b =>
    simp only [ty_st] at T
    unfold ty_i1 at T
    split at T
    · rename_i tb q
      obtain ⟨vb, b, vs, zs, rfl, rfl, hb, hs1⟩ := ty_c hs
      split at T
      · rename_i ct
        cases T
        have eb := ty_v_i ct hb
        subst eb
        cases E
        exact ⟨_, _, _, rfl, rfl, hl, ⟨rfl, hs1⟩, hh⟩
      · cases T
    · cases T
  case i2c =>
    simp only [ty_st] at T
    unfold ty_i1 at T
    split at T
    · rename_i tb q
      obtain ⟨vb, b, vs, zs, rfl, rfl, hb, hs1⟩ := ty_c hs
      split at T
      · rename_i ct
        cases T
        have eb := ty_v_i ct hb
        subst eb
        cases E
        exact ⟨_, _, _, rfl, rfl, hl, ⟨rfl, hs1⟩, hh⟩
      · cases T
    · cases T
  case lneg =>
    simp only [ty_st] at T
    unfold ty_l1 at T
    split at T
    · rename_i q
      obtain ⟨vb, b, vs, zs, rfl, rfl, hb, hs1⟩ := ty_c hs
      cases T
      have eb := ty_v_l hb
      subst eb
      cases E
      exact ⟨_, _, _, rfl, rfl, hl, ⟨rfl, hs1⟩, hh⟩
    · cases T
  case l2i =>
    simp only [ty_st] at T
    unfold ty_l1 at T
    split at T
    · rename_i q
      obtain ⟨vb, b, vs, zs, rfl, rfl, hb, hs1⟩ := ty_c hs
      cases T
      have eb := ty_v_l hb
      subst eb
      cases E
      exact ⟨_, _, _, rfl, rfl, hl, ⟨rfl, hs1⟩, hh⟩
    · cases T
  case dup =>
    simp only [ty_st] at T
    split at T
    · rename_i tb q
      obtain ⟨vb, b, vs, zs, rfl, rfl, hb, hs1⟩ := ty_c hs
      split at T
      · rename_i ct
        cases T
        cases E
        refine ⟨als, vb :: vb :: vs, h, ?_, rfl, hl, ⟨hb, hb, hs1⟩, hh⟩
        rcases ty_v_c ct hb with e | e <;> subst e <;> rfl
      · cases T
    · cases T
  case dup2 =>
    simp only [ty_st] at T
    split at T
    · rename_i tb tc q
      obtain ⟨vb, b, vs1, zs1, rfl, rfl, hb, hs1⟩ := ty_c hs
      obtain ⟨vc, c, vs, zs, rfl, rfl, hc, hs2⟩ := ty_c hs1
      split at T
      · rename_i ct
        rw [Bool.and_eq_true] at ct
        cases T
        cases E
        refine ⟨als, vb :: vc :: vb :: vc :: vs, h, ?_, rfl, hl, ⟨hb, hc, hb, hc, hs2⟩, hh⟩
        rcases ty_v_c ct.1 hb with e | e <;> rcases ty_v_c ct.2 hc with e2 | e2 <;> subst e <;> subst e2 <;> rfl
      · cases T
    · cases T
  case pop =>
    simp only [ty_st] at T
    split at T
    · rename_i tb q
      obtain ⟨vb, b, vs, zs, rfl, rfl, hb, hs1⟩ := ty_c hs
      split at T
      · rename_i ct
        cases T
        cases E
        refine ⟨als, vs, h, ?_, rfl, hl, hs1, hh⟩
        rcases ty_v_c ct hb with e | e <;> subst e <;> rfl
      · cases T
    · cases T
  case pop2 =>
    simp only [ty_st] at T
    split at T
    · rename_i q
      obtain ⟨vb, b, vs, zs, rfl, rfl, hb, hs1⟩ := ty_c hs
      cases T
      cases E
      have eb := ty_v_l hb
      subst eb
      exact ⟨als, vs, h, rfl, rfl, hl, hs1, hh⟩
    · cases T
  case getfield x =>
    simp only [ty_st] at T
    split at T
    · rename_i ci k t q
      obtain ⟨va, a, vs, zs, rfl, rfl, ha, hs1⟩ := ty_c hs
      split at T
      · rename_i ct
        obtain ⟨c0, c1, c2, c3, c4⟩ := ct
        cases T
        have E' : (if 0 ≤ h_l (lm_of h) a then some (xs, h_v (lm_of h) a k :: zs, lm_of h) else none) = some (xs', st', h1) := E
        split at E'
        · rename_i hg
          cases E'
          obtain ⟨ea, a0, ka⟩ := ty_good H (t := 10 + ci.toNat) (by omega) (by omega) (ty_le_v c4 ha) hg
          subst ea
          have ka' : am_k h a = ci := by omega
          have hlt : ci.toNat < 11 := by omega
          obtain ⟨-, hn, hf⟩ := am_obj H (a := a) (by omega) (by omega)
          have hfk := hf k.toNat (by rw [ka']; exact c3)
          rw [ka', Int.toNat_of_nonneg c2] at hfk
          refine ⟨als, (am_tg (am_ft ci.toNat k.toNat), am_v h a k) :: vs, h, ?_, rfl, hl, ⟨?_, hs1⟩, hh⟩
          · show (if ci = 100 then _ else if am_k h a = ci then _ else _) = _
            rw [if_neg (by omega), if_pos ka']
          · show ty_v h (ty_fk ci.toNat k.toNat) (am_tg (am_ft ci.toNat k.toNat), am_v h a k) (am_v h a k)
            unfold am_fdok at hfk
            rcases ty_fk4 hlt c3 with ⟨e1, e2⟩ | ⟨e1, e2⟩ | ⟨e1, e2⟩ | ⟨e1, e2, e3⟩
            · rw [e1, e2]; rfl
            · rw [e1, e2]; rfl
            · rw [e1] at hfk ⊢
              rw [e2]
              exact ⟨rfl, hfk⟩
            · have hq := hh a a0 (by omega) (by omega) k.toNat (by rw [ka']; exact c3) (by rw [ka']; exact e2)
              rw [ka', Int.toNat_of_nonneg c2] at hq
              rw [e1]
              exact ty_v_k' e2 e3 hq
        · cases E'
      · cases T
    · cases T
  case putfield x =>
    simp only [ty_st] at T
    split at T
    · rename_i ci k tv t q
      obtain ⟨vv, v, vs1, zs1, rfl, rfl, hv, hs1⟩ := ty_c hs
      obtain ⟨va, a, vs, zs, rfl, rfl, ha, hs2⟩ := ty_c hs1
      split at T
      · rename_i ct
        obtain ⟨c0, c1, c2, c3, c4, c5⟩ := ct
        cases T
        have E' : (if 0 ≤ h_l (lm_of h) a then some (xs, zs, h_s (lm_of h) a k v) else none) = some (xs', st', h1) := E
        split at E'
        · rename_i hg
          cases E'
          obtain ⟨ea, a0, ka⟩ := ty_good H (t := 10 + ci.toNat) (by omega) (by omega) (ty_le_v c4 ha) hg
          subst ea
          have ka' : am_k h a = ci := by omega
          have hlt : ci.toNat < 11 := by omega
          have hv2 := ty_le_v c5 hv
          have hmn := am_set_mo h a k v
          have hfact : vv = (am_tg (am_ft ci.toNat k.toNat), v) ∧ (am_ft ci.toNat k.toNat = 4 → v = 0 ∨ v = 1) ∧ (am_tg (am_ft ci.toNat k.toNat) = 2 → -1 ≤ v) ∧ (10 ≤ ty_fk ci.toNat k.toNat → (v = -1 ∨ (0 ≤ v ∧ am_k h v = (ty_fk ci.toNat k.toNat : Int) - 10))) := by
            rcases ty_fk4 hlt c3 with ⟨e1, e2⟩ | ⟨e1, e2⟩ | ⟨e1, e2⟩ | ⟨e1, e2, e3⟩
            · rw [e2] at hv2
              rw [e1, e2]
              exact ⟨ty_v_0 hv2, fun w => by omega, fun w => absurd w (by decide), fun w => by omega⟩
            · rw [e2] at hv2
              rw [e1, e2]
              exact ⟨ty_v_l hv2, fun w => by omega, fun w => absurd w (by decide), fun w => by omega⟩
            · rw [e2] at hv2
              rw [e1, e2]
              exact ⟨(ty_v_z hv2).1, fun _ => (ty_v_z hv2).2, fun w => absurd w (by decide), fun w => by omega⟩
            · obtain ⟨f1, f2⟩ := ty_v_k e2 e3 hv2
              rw [e1]
              refine ⟨f1, fun w => by omega, fun _ => by omega, fun _ => f2⟩
          obtain ⟨f1, f2, f3, f4⟩ := hfact
          subst f1
          refine ⟨als, vs, am_set h a k v, ?_, rfl, ty_l_mono H hmn hl, ty_l_mono H hmn hs2, ?_⟩
          · show (if 0 ≤ a ∧ am_k h a = ci ∧ am_tg (am_ft ci.toNat k.toNat) = am_tg (am_ft ci.toNat k.toNat) ∧ (am_ft ci.toNat k.toNat = 4 → v = 0 ∨ v = 1) ∧ (am_tg (am_ft ci.toNat k.toNat) = 2 → -1 ≤ v) then _ else _) = _
            rw [if_pos ⟨a0, ka', rfl, f2, f3⟩]
          · refine ty_h_set hh a0 (fun _ _ j hj h10 => ?_)
            have ej : j = k.toNat := by omega
            rw [ej, ka'] at h10 ⊢
            exact f4 h10
        · cases E'
      · cases T
    · cases T
  case iaload =>
    simp only [ty_st] at T
    split at T
    · rename_i ti t q
      obtain ⟨vi, j, vs1, zs1, rfl, rfl, hi, hs1⟩ := ty_c hs
      obtain ⟨va, a, vs, zs, rfl, rfl, ha, hs2⟩ := ty_c hs1
      have E' : Option.map (fun st' => (xs, st', lm_of h)) (if 0 ≤ j ∧ j < h_l (lm_of h) a then some (h_v (lm_of h) a j :: zs) else none) = some (xs', st', h1) := E
      split at T
      · rename_i ct
        rw [Bool.and_eq_true, Bool.or_eq_true, decide_eq_true_eq, decide_eq_true_eq] at ct
        rcases ct.2 with ct2 | ct2
        · subst ct2
          cases T
          have ei := ty_v_i ct.1 hi
          subst ei
          by_cases hb : 0 ≤ j ∧ j < h_l (lm_of h) a
          · rw [if_pos hb] at E'
            cases E'
            obtain ⟨ea, a0, ka⟩ := ty_good H (t := 26) (by omega) (by omega) ha (by omega)
            subst ea
            have hlen : h_l (lm_of h) a = am_l h a := ty_alen a0 (by omega)
            rw [hlen] at hb
            have e2 : am_ald (fun k => decide (k = 16)) 0 ((0, j) :: (2, a) :: vs) h = some ((0, am_v h a j) :: vs) := if_pos ⟨by rw [decide_eq_true_eq]; omega, hb.1, hb.2⟩
            refine ⟨als, (0, am_v h a j) :: vs, h, ?_, rfl, hl, ⟨?_, hs2⟩, hh⟩
            · show Option.map _ (am_ald _ _ _ _) = _
              rw [e2]
              rfl
            · exact rfl
          · rw [if_neg hb] at E'
            cases E'
        · subst ct2
          have hv2 : va = (2, a) ∧ a = -2 := ha
          have hk2 : am_k h (-2) = 16 := (H.2.2.2.2 (-2) (by omega)).1
          cases T
          have ei := ty_v_i ct.1 hi
          subst ei
          by_cases hb : 0 ≤ j ∧ j < h_l (lm_of h) a
          · rw [if_pos hb] at E'
            cases E'
            obtain ⟨ea, a0⟩ := hv2
            have ka : am_k h a = 16 := by rw [a0]; exact hk2
            subst ea
            have hlen : h_l (lm_of h) a = am_l h a := by rw [a0]; exact ty_slen H
            rw [hlen] at hb
            have e2 : am_ald (fun k => decide (k = 16)) 0 ((0, j) :: (2, a) :: vs) h = some ((0, am_v h a j) :: vs) := if_pos ⟨by rw [decide_eq_true_eq]; omega, hb.1, hb.2⟩
            refine ⟨als, (0, am_v h a j) :: vs, h, ?_, rfl, hl, ⟨?_, hs2⟩, hh⟩
            · show Option.map _ (am_ald _ _ _ _) = _
              rw [e2]
              rfl
            · exact rfl
          · rw [if_neg hb] at E'
            cases E'
      · cases T
    · cases T
  case baload =>
    simp only [ty_st] at T
    split at T
    · rename_i ti t q
      obtain ⟨vi, j, vs1, zs1, rfl, rfl, hi, hs1⟩ := ty_c hs
      obtain ⟨va, a, vs, zs, rfl, rfl, ha, hs2⟩ := ty_c hs1
      have E' : Option.map (fun st' => (xs, st', lm_of h)) (if 0 ≤ j ∧ j < h_l (lm_of h) a then some (h_v (lm_of h) a j :: zs) else none) = some (xs', st', h1) := E
      split at T
      · rename_i ct
        rw [Bool.and_eq_true, decide_eq_true_eq] at ct
        have ct2 := ct.2
        subst ct2
        cases T
        have ei := ty_v_i ct.1 hi
        subst ei
        by_cases hb : 0 ≤ j ∧ j < h_l (lm_of h) a
        · rw [if_pos hb] at E'
          cases E'
          obtain ⟨ea, a0, ka⟩ := ty_good H (t := 27) (by omega) (by omega) ha (by omega)
          subst ea
          have hlen : h_l (lm_of h) a = am_l h a := ty_alen a0 (by omega)
          rw [hlen] at hb
          have e2 : am_ald (fun k => decide (k = 17 ∨ k = 18)) 0 ((0, j) :: (2, a) :: vs) h = some ((0, am_v h a j) :: vs) := if_pos ⟨by rw [decide_eq_true_eq]; omega, hb.1, hb.2⟩
          refine ⟨als, (0, am_v h a j) :: vs, h, ?_, rfl, hl, ⟨?_, hs2⟩, hh⟩
          · show Option.map _ (am_ald _ _ _ _) = _
            rw [e2]
            rfl
          · exact rfl
        · rw [if_neg hb] at E'
          cases E'
      · split at T
        · rename_i ct
          rw [Bool.and_eq_true, decide_eq_true_eq] at ct
          have ct2 := ct.2
          subst ct2
          cases T
          have ei := ty_v_i ct.1 hi
          subst ei
          by_cases hb : 0 ≤ j ∧ j < h_l (lm_of h) a
          · rw [if_pos hb] at E'
            cases E'
            obtain ⟨ea, a0, ka⟩ := ty_good H (t := 28) (by omega) (by omega) ha (by omega)
            subst ea
            have hlen : h_l (lm_of h) a = am_l h a := ty_alen a0 (by omega)
            rw [hlen] at hb
            have e2 : am_ald (fun k => decide (k = 17 ∨ k = 18)) 0 ((0, j) :: (2, a) :: vs) h = some ((0, am_v h a j) :: vs) := if_pos ⟨by rw [decide_eq_true_eq]; omega, hb.1, hb.2⟩
            refine ⟨als, (0, am_v h a j) :: vs, h, ?_, rfl, hl, ⟨?_, hs2⟩, hh⟩
            · show Option.map _ (am_ald _ _ _ _) = _
              rw [e2]
              rfl
            · refine ⟨rfl, ?_⟩
              have hn := am_inh H (a := a) (by omega)
              rcases H.2.2.1 a a0 hn with g | g
              · omega
              · have g5 := g.2.2.2.2 j hb.1 hb.2
                unfold am_elok at g5
                rw [if_neg (by omega), if_neg (by omega), if_pos (by omega)] at g5
                exact g5
          · rw [if_neg hb] at E'
            cases E'
        · cases T
    · cases T
  case laload =>
    simp only [ty_st] at T
    split at T
    · rename_i ti t q
      obtain ⟨vi, j, vs1, zs1, rfl, rfl, hi, hs1⟩ := ty_c hs
      obtain ⟨va, a, vs, zs, rfl, rfl, ha, hs2⟩ := ty_c hs1
      have E' : Option.map (fun st' => (xs, st', lm_of h)) (if 0 ≤ j ∧ j < h_l (lm_of h) a then some (h_v (lm_of h) a j :: zs) else none) = some (xs', st', h1) := E
      split at T
      · rename_i ct
        rw [Bool.and_eq_true, decide_eq_true_eq] at ct
        have ct2 := ct.2
        subst ct2
        cases T
        have ei := ty_v_i ct.1 hi
        subst ei
        by_cases hb : 0 ≤ j ∧ j < h_l (lm_of h) a
        · rw [if_pos hb] at E'
          cases E'
          obtain ⟨ea, a0, ka⟩ := ty_good H (t := 29) (by omega) (by omega) ha (by omega)
          subst ea
          have hlen : h_l (lm_of h) a = am_l h a := ty_alen a0 (by omega)
          rw [hlen] at hb
          have e2 : am_ald (fun k => decide (k = 19)) 1 ((0, j) :: (2, a) :: vs) h = some ((1, am_v h a j) :: vs) := if_pos ⟨by rw [decide_eq_true_eq]; omega, hb.1, hb.2⟩
          refine ⟨als, (1, am_v h a j) :: vs, h, ?_, rfl, hl, ⟨?_, hs2⟩, hh⟩
          · show Option.map _ (am_ald _ _ _ _) = _
            rw [e2]
            rfl
          · exact rfl
        · rw [if_neg hb] at E'
          cases E'
      · cases T
    · cases T
  case aaload =>
    simp only [ty_st] at T
    split at T
    · rename_i ti t q
      obtain ⟨vi, j, vs1, zs1, rfl, rfl, hi, hs1⟩ := ty_c hs
      obtain ⟨va, a, vs, zs, rfl, rfl, ha, hs2⟩ := ty_c hs1
      have E' : Option.map (fun st' => (xs, st', lm_of h)) (if 0 ≤ j ∧ j < h_l (lm_of h) a then some (h_v (lm_of h) a j :: zs) else none) = some (xs', st', h1) := E
      split at T
      · rename_i ct
        rw [Bool.and_eq_true, Bool.and_eq_true, decide_eq_true_eq, decide_eq_true_eq] at ct
        cases T
        have ei := ty_v_i ct.1.1 hi
        subst ei
        by_cases hb : 0 ≤ j ∧ j < h_l (lm_of h) a
        · rw [if_pos hb] at E'
          cases E'
          obtain ⟨ea, a0, ka⟩ := ty_good H (t := t) (by omega) (by omega) ha (by omega)
          subst ea
          have hlen : h_l (lm_of h) a = am_l h a := ty_alen a0 (by omega)
          rw [hlen] at hb
          have e2 : am_ald (fun k => decide (20 ≤ k ∧ k ≤ 23)) 2 ((0, j) :: (2, a) :: vs) h = some ((2, am_v h a j) :: vs) := if_pos ⟨by rw [decide_eq_true_eq]; omega, hb.1, hb.2⟩
          refine ⟨als, (2, am_v h a j) :: vs, h, ?_, rfl, hl, ⟨?_, hs2⟩, hh⟩
          · show Option.map _ (am_ald _ _ _ _) = _
            rw [e2]
            rfl
          · have hn := am_inh H (a := a) (by omega)
            rcases H.2.2.1 a a0 hn with g | g
            · omega
            · have g5 := g.2.2.2.2 j hb.1 hb.2
              unfold am_elok at g5
              rw [if_neg (by omega), if_neg (by omega), if_neg (by omega), if_neg (by omega)] at g5
              have e10 : 10 ≤ ty_ec t ∧ ty_ec t ≤ 33 ∧ (ty_ec t : Int) - 10 = am_ec (am_k h a) := by
                rw [ka]
                have : t = 30 ∨ t = 31 ∨ t = 32 ∨ t = 33 := by omega
                rcases this with rfl | rfl | rfl | rfl <;> decide
              refine ty_v_k' e10.1 e10.2.1 ?_
              rw [e10.2.2]
              rcases g5 with g5 | g5
              · exact Or.inl g5
              · exact Or.inr ⟨g5.1, g5.2.2⟩
        · rw [if_neg hb] at E'
          cases E'
      · cases T
    · cases T
  case iastore =>
    simp only [ty_st] at T
    split at T
    · rename_i tv ti t q
      obtain ⟨vv, v, vs2, zs2, rfl, rfl, hv, hs0⟩ := ty_c hs
      obtain ⟨vi, j, vs1, zs1, rfl, rfl, hi, hs1⟩ := ty_c hs0
      obtain ⟨va, a, vs, zs, rfl, rfl, ha, hs2⟩ := ty_c hs1
      have E' : Option.map (fun q => (xs, q.1, q.2)) (if 0 ≤ j ∧ j < h_l (lm_of h) a then some (zs, h_s (lm_of h) a j v) else none) = some (xs', st', h1) := E
      split at T
      · rename_i ct
        cases T
        by_cases hb : 0 ≤ j ∧ j < h_l (lm_of h) a
        · rw [if_pos hb] at E'
          cases E'
          rw [Bool.and_eq_true, Bool.and_eq_true, decide_eq_true_eq] at ct
          have ct2 := ct.2
          subst ct2
          have ev := ty_v_i ct.1.1 hv
          have ei := ty_v_i ct.1.2 hi
          subst ei
          subst ev
          obtain ⟨ea, a0, ka⟩ := ty_good H (t := 26) (by omega) (by omega) ha (by omega)
          subst ea
          have hlen : h_l (lm_of h) a = am_l h a := ty_alen a0 (by omega)
          rw [hlen] at hb
          have hfit : am_fit h (am_k h a) v = some v := by
            unfold am_fit
            rw [if_neg (by omega), if_neg (by omega), if_pos (by omega)]
          have e3 : am_ast (fun k => decide (k = 16)) 0 ((0, v) :: (0, j) :: (2, a) :: vs) h = (am_fit h (am_k h a) v).map (fun x => (vs, am_set h a j x)) := if_pos ⟨rfl, by rw [decide_eq_true_eq]; omega, a0, hb.1, hb.2⟩
          have e2 : am_ast (fun k => decide (k = 16)) 0 ((0, v) :: (0, j) :: (2, a) :: vs) h = some (vs, am_set h a j v) := by
            rw [e3, hfit]
            rfl
          have hmn := am_set_mo h a j v
          refine ⟨als, vs, am_set h a j v, ?_, rfl, ty_l_mono H hmn hl, ty_l_mono H hmn hs2, ty_h_set hh a0 (fun k0 k1 => by omega)⟩
          show Option.map _ (am_ast _ _ _ _) = _
          rw [e2]
          rfl
        · rw [if_neg hb] at E'
          cases E'
      · cases T
    · cases T
  case lastore =>
    simp only [ty_st] at T
    split at T
    · rename_i ti t q
      obtain ⟨vv, v, vs2, zs2, rfl, rfl, hv, hs0⟩ := ty_c hs
      obtain ⟨vi, j, vs1, zs1, rfl, rfl, hi, hs1⟩ := ty_c hs0
      obtain ⟨va, a, vs, zs, rfl, rfl, ha, hs2⟩ := ty_c hs1
      have E' : Option.map (fun q => (xs, q.1, q.2)) (if 0 ≤ j ∧ j < h_l (lm_of h) a then some (zs, h_s (lm_of h) a j v) else none) = some (xs', st', h1) := E
      split at T
      · rename_i ct
        cases T
        by_cases hb : 0 ≤ j ∧ j < h_l (lm_of h) a
        · rw [if_pos hb] at E'
          cases E'
          rw [Bool.and_eq_true, decide_eq_true_eq] at ct
          have ct2 := ct.2
          subst ct2
          have ev := ty_v_l hv
          have ei := ty_v_i ct.1 hi
          subst ei
          subst ev
          obtain ⟨ea, a0, ka⟩ := ty_good H (t := 29) (by omega) (by omega) ha (by omega)
          subst ea
          have hlen : h_l (lm_of h) a = am_l h a := ty_alen a0 (by omega)
          rw [hlen] at hb
          have hfit : am_fit h (am_k h a) v = some v := by
            unfold am_fit
            rw [if_neg (by omega), if_neg (by omega), if_pos (by omega)]
          have e3 : am_ast (fun k => decide (k = 19)) 1 ((1, v) :: (0, j) :: (2, a) :: vs) h = (am_fit h (am_k h a) v).map (fun x => (vs, am_set h a j x)) := if_pos ⟨rfl, by rw [decide_eq_true_eq]; omega, a0, hb.1, hb.2⟩
          have e2 : am_ast (fun k => decide (k = 19)) 1 ((1, v) :: (0, j) :: (2, a) :: vs) h = some (vs, am_set h a j v) := by
            rw [e3, hfit]
            rfl
          have hmn := am_set_mo h a j v
          refine ⟨als, vs, am_set h a j v, ?_, rfl, ty_l_mono H hmn hl, ty_l_mono H hmn hs2, ty_h_set hh a0 (fun k0 k1 => by omega)⟩
          show Option.map _ (am_ast _ _ _ _) = _
          rw [e2]
          rfl
        · rw [if_neg hb] at E'
          cases E'
      · cases T
    · cases T
  case aastore =>
    simp only [ty_st] at T
    split at T
    · rename_i tv ti t q
      obtain ⟨vv, v, vs2, zs2, rfl, rfl, hv, hs0⟩ := ty_c hs
      obtain ⟨vi, j, vs1, zs1, rfl, rfl, hi, hs1⟩ := ty_c hs0
      obtain ⟨va, a, vs, zs, rfl, rfl, ha, hs2⟩ := ty_c hs1
      have E' : Option.map (fun q => (xs, q.1, q.2)) (if 0 ≤ j ∧ j < h_l (lm_of h) a then some (zs, h_s (lm_of h) a j v) else none) = some (xs', st', h1) := E
      split at T
      · rename_i ct
        cases T
        by_cases hb : 0 ≤ j ∧ j < h_l (lm_of h) a
        · rw [if_pos hb] at E'
          cases E'
          rw [Bool.and_eq_true, Bool.and_eq_true, Bool.and_eq_true, decide_eq_true_eq, decide_eq_true_eq] at ct
          have e10 : 10 ≤ ty_ec t ∧ ty_ec t ≤ 33 := by
            have : t = 30 ∨ t = 31 ∨ t = 32 ∨ t = 33 := by omega
            rcases this with rfl | rfl | rfl | rfl <;> decide
          obtain ⟨ev, hvk⟩ := ty_v_k e10.1 e10.2 (ty_le_v ct.2 hv)
          have ei := ty_v_i ct.1.1.1 hi
          subst ei
          subst ev
          obtain ⟨ea, a0, ka⟩ := ty_good H (t := t) (by omega) (by omega) ha (by omega)
          subst ea
          have hlen : h_l (lm_of h) a = am_l h a := ty_alen a0 (by omega)
          rw [hlen] at hb
          have hfit : am_fit h (am_k h a) v = some v := by
            unfold am_fit
            rw [if_neg (by omega), if_neg (by omega), if_neg (by omega)]
            have e11 : (ty_ec t : Int) - 10 = am_ec (am_k h a) := by
              rw [ka]
              have : t = 30 ∨ t = 31 ∨ t = 32 ∨ t = 33 := by omega
              rcases this with rfl | rfl | rfl | rfl <;> decide
            rw [e11] at hvk
            rw [if_pos hvk]
          have e3 : am_ast (fun k => decide (20 ≤ k ∧ k ≤ 23)) 2 ((2, v) :: (0, j) :: (2, a) :: vs) h = (am_fit h (am_k h a) v).map (fun x => (vs, am_set h a j x)) := if_pos ⟨rfl, by rw [decide_eq_true_eq]; omega, a0, hb.1, hb.2⟩
          have e2 : am_ast (fun k => decide (20 ≤ k ∧ k ≤ 23)) 2 ((2, v) :: (0, j) :: (2, a) :: vs) h = some (vs, am_set h a j v) := by
            rw [e3, hfit]
            rfl
          have hmn := am_set_mo h a j v
          refine ⟨als, vs, am_set h a j v, ?_, rfl, ty_l_mono H hmn hl, ty_l_mono H hmn hs2, ty_h_set hh a0 (fun k0 k1 => by omega)⟩
          show Option.map _ (am_ast _ _ _ _) = _
          rw [e2]
          rfl
        · rw [if_neg hb] at E'
          cases E'
      · cases T
    · cases T
  case bastore =>
    simp only [ty_st] at T
    split at T
    · rename_i tv ti t q
      obtain ⟨vv, v, vs2, zs2, rfl, rfl, hv, hs0⟩ := ty_c hs
      obtain ⟨vi, j, vs1, zs1, rfl, rfl, hi, hs1⟩ := ty_c hs0
      obtain ⟨va, a, vs, zs, rfl, rfl, ha, hs2⟩ := ty_c hs1
      have E' : Option.map (fun q => (xs, q.1, q.2)) (if 0 ≤ j ∧ j < h_l (lm_of h) a then some (zs, h_s (lm_of h) a j (am_i2b v)) else none) = some (xs', st', h1) := E
      split at T
      · rename_i ct
        cases T
        by_cases hb : 0 ≤ j ∧ j < h_l (lm_of h) a
        · rw [if_pos hb] at E'
          cases E'
          rw [Bool.and_eq_true, Bool.and_eq_true, Bool.or_eq_true, Bool.and_eq_true, decide_eq_true_eq, decide_eq_true_eq, decide_eq_true_eq] at ct
          have ev := ty_v_i ct.1.1 hv
          have ei := ty_v_i ct.1.2 hi
          subst ei
          subst ev
          obtain ⟨ea, a0, ka⟩ := ty_good H (t := t) (by omega) (by omega) ha (by omega)
          subst ea
          have hlen : h_l (lm_of h) a = am_l h a := ty_alen a0 (by omega)
          rw [hlen] at hb
          have hfit : am_fit h (am_k h a) v = some (am_i2b v) := by
            unfold am_fit
            rcases ct.2 with c17 | c18
            · rw [if_pos (by omega)]
            · have hz : v = 0 ∨ v = 1 := by
                rw [c18.2] at hv
                exact (ty_v_z hv).2
              rw [if_neg (by omega), if_pos (by omega), if_pos hz, am_i2bz hz]
          have e3 : am_ast (fun k => decide (k = 17 ∨ k = 18)) 0 ((0, v) :: (0, j) :: (2, a) :: vs) h = (am_fit h (am_k h a) v).map (fun x => (vs, am_set h a j x)) := if_pos ⟨rfl, by rw [decide_eq_true_eq]; omega, a0, hb.1, hb.2⟩
          have e2 : am_ast (fun k => decide (k = 17 ∨ k = 18)) 0 ((0, v) :: (0, j) :: (2, a) :: vs) h = some (vs, am_set h a j (am_i2b v)) := by
            rw [e3, hfit]
            rfl
          have hmn := am_set_mo h a j (am_i2b v)
          refine ⟨als, vs, am_set h a j (am_i2b v), ?_, rfl, ty_l_mono H hmn hl, ty_l_mono H hmn hs2, ty_h_set hh a0 (fun k0 k1 => by omega)⟩
          show Option.map _ (am_ast _ _ _ _) = _
          rw [e2]
          rfl
        · rw [if_neg hb] at E'
          cases E'
      · cases T
    · cases T
  case arraylength =>
    simp only [ty_st] at T
    split at T
    · rename_i t q
      obtain ⟨va, a, vs, zs, rfl, rfl, ha, hs1⟩ := ty_c hs
      split at T
      · rename_i ct
        cases T
        have E' : (if 0 ≤ h_l (lm_of h) a then some (xs, h_l (lm_of h) a :: zs, lm_of h) else none) = some (xs', st', h1) := E
        split at E'
        · rename_i hg
          cases E'
          rw [Bool.or_eq_true, Bool.and_eq_true, decide_eq_true_eq, decide_eq_true_eq, decide_eq_true_eq] at ct
          have hf : va = (2, a) ∧ h_l (lm_of h) a = am_l h a ∧ 16 ≤ am_k h a ∧ am_k h a ≤ 23 := by
            rcases ct with ct | ct
            · obtain ⟨ea, a0, ka⟩ := ty_good H (t := t) (by omega) (by omega) ha hg
              exact ⟨ea, ty_alen a0 (by omega), by omega, by omega⟩
            · subst ct
              obtain ⟨e1, e2⟩ : va = (2, a) ∧ a = -2 := ha
              have hk2 : am_k h (-2) = 16 := (H.2.2.2.2 (-2) (by omega)).1
              subst e2
              exact ⟨e1, ty_slen H, by omega, by omega⟩
          obtain ⟨f1, f2, f3, f4⟩ := hf
          subst f1
          refine ⟨als, (0, am_l h a) :: vs, h, ?_, rfl, hl, ⟨?_, hs1⟩, hh⟩
          · show (if 16 ≤ am_k h a ∧ am_k h a ≤ 23 then _ else _) = _
            rw [if_pos ⟨f3, f4⟩]
          · show (0, am_l h a) = (0, h_l (lm_of h) a)
            rw [f2]
        · cases E'
      · cases T
    · cases T
  case newarray x =>
    simp only [ty_st] at T
    split at T
    · rename_i k t q
      obtain ⟨va, a, vs, zs, rfl, rfl, ha, hs1⟩ := ty_c hs
      split at T
      · rename_i ct
        rw [Bool.and_eq_true, Bool.and_eq_true, decide_eq_true_eq, decide_eq_true_eq] at ct
        cases T
        have ea := ty_v_i ct.1.1 ha
        subst ea
        have E' : (if 0 ≤ a ∧ a ≤ 1000000 then some (xs, h_n (lm_of h) :: zs, h_w (lm_of h) a (fun _ => 0)) else none) = some (xs', st', h1) := E
        split at E'
        · rename_i hg
          cases E'
          have hq := am_new_ok (k := k) (l := a) (z := fun _ => 0) H hg.1 (Or.inr ⟨by omega, by omega, hg.2, fun j => by have := am_elok_d h k (by omega) (by omega); rwa [if_pos (by omega)] at this⟩)
          refine ⟨als, (2, am_n h) :: vs, am_new h k a (fun _ => 0), ?_, lm_of_new H.1 (Or.inr (by omega)), ty_l_mono H hq.2 hl, ⟨?_, ty_l_mono H hq.2 hs1⟩, ty_h_new H hh (fun k0 k1 => by omega)⟩
          · show (if 0 ≤ a ∧ a ≤ 1000000 then _ else _) = _
            rw [if_pos hg]
          · refine ty_v_k' (by omega) (by omega) (Or.inr ⟨H.1, ?_⟩)
            have e1 : am_k (am_new h k a (fun _ => 0)) (am_n h) = k := if_pos rfl
            show am_k (am_new h k a (fun _ => 0)) (am_n h) = _
            rw [e1]; omega
        · cases E'
      · cases T
    · cases T
  case anewarray x =>
    simp only [ty_st] at T
    split at T
    · rename_i k t q
      obtain ⟨va, a, vs, zs, rfl, rfl, ha, hs1⟩ := ty_c hs
      split at T
      · rename_i ct
        rw [Bool.and_eq_true, Bool.and_eq_true, decide_eq_true_eq, decide_eq_true_eq] at ct
        cases T
        have ea := ty_v_i ct.1.1 ha
        subst ea
        have E' : (if 0 ≤ a ∧ a ≤ 1000000 then some (xs, h_n (lm_of h) :: zs, h_w (lm_of h) a (fun _ => -1)) else none) = some (xs', st', h1) := E
        split at E'
        · rename_i hg
          cases E'
          have hq := am_new_ok (k := k) (l := a) (z := fun _ => -1) H hg.1 (Or.inr ⟨by omega, by omega, hg.2, fun j => by have := am_elok_d h k (by omega) (by omega); rwa [if_neg (by omega)] at this⟩)
          refine ⟨als, (2, am_n h) :: vs, am_new h k a (fun _ => -1), ?_, lm_of_new H.1 (Or.inr (by omega)), ty_l_mono H hq.2 hl, ⟨?_, ty_l_mono H hq.2 hs1⟩, ty_h_new H hh (fun k0 k1 => by omega)⟩
          · show (if 0 ≤ a ∧ a ≤ 1000000 then _ else _) = _
            rw [if_pos hg]
          · refine ty_v_k' (by omega) (by omega) (Or.inr ⟨H.1, ?_⟩)
            have e1 : am_k (am_new h k a (fun _ => -1)) (am_n h) = k := if_pos rfl
            show am_k (am_new h k a (fun _ => -1)) (am_n h) = _
            rw [e1]; omega
        · cases E'
      · cases T
    · cases T
  case new x =>
    simp only [ty_st] at T
    split at T
    · rename_i ci
      split at T
      · rename_i ct
        cases T
        cases E
        have hq := am_new_ok (k := ci) (l := am_fn ci.toNat) (z := am_z ci.toNat) H (by omega) (Or.inl ⟨by omega, by omega, fun j hj => am_z_ok h H.1 _ _ (by omega) hj⟩)
        refine ⟨als, (2, am_n h) :: ast, am_new h ci (am_fn ci.toNat) (am_z ci.toNat), rfl, lm_of_new H.1 (Or.inl ⟨by omega, by omega, rfl⟩), ty_l_mono H hq.2 hl, ⟨?_, ty_l_mono H hq.2 hs⟩, ty_h_new H hh (fun k0 k1 j hj h10 => ?_)⟩
        · refine ty_v_k' (by omega) (by omega) (Or.inr ⟨H.1, ?_⟩)
          have e1 : am_k (am_new h ci (am_fn ci.toNat) (am_z ci.toNat)) (am_n h) = ci := if_pos rfl
          show am_k (am_new h ci (am_fn ci.toNat) (am_z ci.toNat)) (am_n h) = _
          rw [e1]; omega
        · unfold am_z
          rw [Int.toNat_natCast]
          rcases ty_fk4 (ci := ci.toNat) (by omega) hj with ⟨e1, e2⟩ | ⟨e1, e2⟩ | ⟨e1, e2⟩ | ⟨e1, e2, e3⟩
          · omega
          · omega
          · omega
          · rw [if_pos e1]
      · cases T
    · cases T
  all_goals (simp only [ty_st] at T; cases T)
end
