set_option maxRecDepth 1000000
theorem ty_plx : (List.range 310).all (fun y => decide ((289 ≤ y ∧ y ≤ 300) ∨ y = 306 ∨ y = 307 ∨ (lm_pl y = (ty_pt y).map (fun t => decide (t = 1)) ∧ (ty_pt y).all (fun t => decide (t ≠ 3)) = true ∧ ty_cats (ty_pt y) ≤ am_ml y ∧ (am_rt y = 6 ∨ ty_rt y ≠ 3)))) = true := by decide +kernel
theorem ty_pl {y : Nat} (h : ty_in y) : lm_pl y = (ty_pt y).map (fun t => decide (t = 1)) ∧ (∀ t ∈ ty_pt y, t ≠ 3) ∧ ty_cats (ty_pt y) ≤ am_ml y ∧ (am_rt y = 6 ∨ ty_rt y ≠ 3) := by
  have e := of_decide_eq_true (List.all_eq_true.mp ty_plx y (List.mem_range.mpr h.1))
  unfold ty_in at h
  rcases e with e | e | e | e
  · omega
  · omega
  · omega
  · refine ⟨e.1, fun t ht => ?_, e.2.2.1, e.2.2.2⟩
    exact of_decide_eq_true (List.all_eq_true.mp e.2.1 t ht)
section
variable {L : Int} {X : Int → Int} {h : am_H}
theorem ty_exp : ∀ {ts : List Nat} {vs : List am_V} {zs : List Int}, ty_l h ts vs zs → (∀ t ∈ ts, t ≠ 3) → ∀ (us : List Nat) (ws : List am_V) (qs : List Int), ty_l h us ws qs → ty_l h (ts.flatMap (fun t => if t = 1 then [1, 3] else [t]) ++ us) (am_exp vs ++ ws) (lm_exp (ts.map (fun t => decide (t = 1))) zs ++ qs) := by
  intro ts
  induction ts with
  | nil => intro vs zs hl _ us ws qs hq; cases vs <;> cases zs <;> first | exact hq | cases hl
  | cons t ts ih =>
    intro vs zs hl h3 us ws qs hq
    cases vs with
    | nil => cases hl
    | cons v vs =>
      cases zs with
      | nil => cases hl
      | cons z zs =>
        have := ih hl.2 (fun t ht => h3 t (List.mem_cons_of_mem _ ht)) us ws qs hq
        by_cases c1 : t = 1
        · subst c1
          have ev : v = (1, z) := hl.1
          subst ev
          exact ⟨rfl, trivial, this⟩
        · have hv := hl.1
          have htag := ty_v_tag (h3 t List.mem_cons_self) hv
          obtain ⟨tg, y⟩ := v
          have hne : tg ≠ 1 := fun e => c1 (htag.mp e)
          have e1 : am_exp ((tg, y) :: vs) = (tg, y) :: am_exp vs := by
            rw [am_exp]
            intro x' hh; cases hh; exact absurd rfl hne
          have e2 : lm_exp ((t :: ts).map (fun t => decide (t = 1))) (z :: zs) = z :: lm_exp (ts.map (fun t => decide (t = 1))) zs := by
            rw [List.map_cons, decide_eq_false c1]
            rfl
          have e3 : (t :: ts).flatMap (fun t => if t = 1 then [1, 3] else [t]) = t :: ts.flatMap (fun t => if t = 1 then [1, 3] else [t]) := by
            rw [List.flatMap_cons, if_neg c1]
            rfl
          rw [e1, e2, e3]
          exact ⟨hv, this⟩
theorem ty_ent_eq (y : Nat) : ∀ ts : List Nat, ty_ent y ts = ts.flatMap (fun t => if t = 1 then [1, 3] else [t]) ++ List.replicate (am_ml y - ty_cats (ty_pt y)) 3 := by
  intro ts
  induction ts with
  | nil => rfl
  | cons t ts ih =>
    by_cases c1 : t = 1
    · subst c1
      show 1 :: 3 :: ty_ent y ts = _
      rw [ih]; rfl
    · have : ty_ent y (t :: ts) = t :: ty_ent y ts := by
        rw [ty_ent]
        intro hh; exact absurd hh c1
      rw [this, ih, List.flatMap_cons, if_neg c1]
      rfl
theorem ty_rep3 (n : Nat) : ty_l h (List.replicate n 3) (List.replicate n (3, 0)) (List.replicate n 0) := by
  induction n with
  | zero => trivial
  | succ n ih => exact ⟨trivial, ih⟩
theorem ty_exp_len : ∀ (ts : List Nat) (zs : List Int), zs.length = ts.length → (∀ t ∈ ts, t ≠ 3) → (lm_exp (ts.map (fun t => decide (t = 1))) zs).length = ty_cats ts := by
  intro ts
  induction ts with
  | nil => intro zs hz _; cases zs <;> rfl
  | cons t ts ih =>
    intro zs hz h3
    cases zs with
    | nil => simp at hz
    | cons z zs =>
      have hq := ih zs (by simpa using hz) (fun t ht => h3 t (List.mem_cons_of_mem _ ht))
      by_cases c1 : t = 1
      · subst c1
        show (z :: 0 :: lm_exp (ts.map (fun t => decide (t = 1))) zs).length = ty_cat 1 + ty_cats ts
        simp only [List.length_cons, hq]
        show _ = 2 + _
        omega
      · rw [List.map_cons, decide_eq_false c1]
        show (z :: lm_exp (ts.map (fun t => decide (t = 1))) zs).length = ty_cat t + ty_cats ts
        have e : ty_cat t = 1 := by unfold ty_cat; rw [if_neg c1, if_neg (h3 t List.mem_cons_self)]
        simp only [List.length_cons, hq, e]
        omega
theorem ty_entry {y : Nat} (hy : ty_in y) {as : List am_V} {zs : List Int} (hl : ty_l h (ty_pt y) as zs) : ty_l h (ty_ent y (ty_pt y)) (am_ent y as) (lm_ent y zs) := by
  obtain ⟨p1, p2, p3, -⟩ := ty_pl hy
  rw [ty_ent_eq]
  unfold am_ent lm_ent
  rw [p1, ty_exp_len _ _ (ty_l_len hl).2 p2]
  have e1 : (am_exp as).length = ty_cats (ty_pt y) := by
    rw [(am_exp_len (fm := .null) (Or.inl rfl) (ad := fun _ => 0) as).2]
    exact (ty_l_cats hl).2 p2
  rw [e1]
  exact ty_exp hl p2 _ _ _ (ty_rep3 _)
/-- what is shown of a run -/
def lm_ok (L : Int) (X : Int → Int) (f : Nat) : Prop := ∀ (d y : Nat) (l : List am_I) (ts tst : List Nat) (als ast : List am_V) (xs st : List Int) (h : am_H) (v : Int) (h1 : lm_H),
  lm_run f d y l xs st (lm_of h) = some (v, h1) → ty_in y → am_okL y l = true → ty_ck y l ts tst = true → ty_l h ts als xs → ty_l h tst ast st → am_hok L X h → ty_h h → am_lok (am_n h) als → am_lok (am_n h) ast → als.length = am_ml y →
  ∃ (w : Option am_V) (h2 : am_H), am_ev (d + 4) y l als ast h (w, h2) ∧ h1 = lm_of h2 ∧ am_hok L X h2 ∧ ty_h h2 ∧ am_mn h h2 ∧ ((am_rt y = 6 ∧ w = none) ∨ (am_rt y ≠ 6 ∧ ∃ u, w = some u ∧ ty_v h2 (ty_rt y) u v ∧ am_vok (am_n h2) u))
theorem ty_okB_get {y : Nat} : ∀ {cs : List (List am_I)} {bs : List (Option (List Nat × List Nat))}, ty_okB y cs bs = true → ∀ {b : Nat} {e : List Nat × List Nat}, bs.getD b none = some e → ty_ck y (cs.getD b []) e.1 e.2 = true ∧ e.1.length = am_ml y := by
  intro cs
  induction cs with
  | nil =>
    intro bs hb b e he
    cases bs with
    | nil => simp at he
    | cons c bs => cases hb
  | cons c cs ih =>
    intro bs hb b e he
    cases bs with
    | nil => cases hb
    | cons o bs =>
      cases o with
      | none =>
        cases b with
        | zero => simp at he
        | succ b =>
          have := ih (bs := bs) hb (b := b) (e := e) (by simpa using he)
          simpa using this
      | some e0 =>
        unfold ty_okB at hb
        rw [Bool.and_eq_true, Bool.and_eq_true, decide_eq_true_eq] at hb
        cases b with
        | zero => simp at he; subst he; exact ⟨hb.1.1, hb.1.2⟩
        | succ b =>
          have := ih (bs := bs) hb.2 (b := b) (e := e) (by simpa using he)
          simpa using this
theorem ty_jump {y : Nat} (hy : ty_in y) {ts tst : List Nat} {als ast : List am_V} {xs st : List Int} {b : Int} (ht : ty_to y ts tst b = true) (hl : ty_l h ts als xs) (hs : ty_l h tst ast st) : ∃ ts' tst', ty_ck y (am_blk y b.toNat) ts' tst' = true ∧ ty_l h ts' als xs ∧ ty_l h tst' ast st := by
  unfold ty_to at ht
  rw [Bool.and_eq_true] at ht
  obtain ⟨-, ht⟩ := ht
  split at ht
  · rename_i l0 s0 hb
    rw [Bool.and_eq_true] at ht
    have hM := ty_ok y hy
    unfold ty_okM at hM
    rw [Bool.and_eq_true] at hM
    obtain ⟨g1, -⟩ := ty_okB_get hM.1 (b := b.toNat) (e := (l0, s0)) hb
    exact ⟨l0, s0, g1, ty_les_l ht.1 hl, ty_les_l ht.2 hs⟩
  · cases ht
theorem am_lok_take {n : Int} {st : List am_V} (h : am_lok n st) (k : Nat) : am_lok n (st.take k) ∧ am_lok n (st.drop k) :=
  ⟨fun w hw => h w (List.mem_of_mem_take hw), fun w hw => h w (List.mem_of_mem_drop hw)⟩
end
