set_option maxRecDepth 1000000
/-! the law over the light machine -/
def lm_h0 (L : Int) (xs : Int → Int) : lm_H := (0, 0, fun a => if a = -2 then L else -1, am_v0 xs)
theorem lm_of_h0 (L : Int) (xs : Int → Int) : lm_of (am_h0 L xs) = lm_h0 L xs := by
  unfold lm_of lm_h0
  have : am_ln (am_h0 L xs) = fun a => if a = -2 then L else -1 := by
    funext a
    unfold am_ln
    have hk : am_k (am_h0 L xs) a = am_k0 a := rfl
    have hl : am_l (am_h0 L xs) a = am_l0 L a := rfl
    rw [hk, hl]
    by_cases c : a = -2
    · subst c; rfl
    · rw [if_neg c]
      by_cases c2 : a ≤ -10
      · rw [if_pos c2]
      · rw [if_neg c2]
        have : am_k0 a = -9 := by unfold am_k0; rw [if_neg c, if_neg (by omega)]
        rw [if_pos this]
  rw [this]
  rfl
def lm_LawOK : Prop := ∀ (L : Int) (xs : Int → Int), 0 ≤ L → L ≤ 384 → (∀ i, am_r32 (xs i)) → law_law 2044 (-2) (lm_h0 L xs) (fun v h' => v = 1 ∧ h_n h' ≤ 934287 ∧ h_m h' ≤ 6299387)
theorem lm_law_am (hO : ∀ y, y < 310 → am_okM y = true) (hw : lm_LawOK) : am_LawOK := by
  intro L xs h0 h1 hx
  obtain ⟨f, v, h', hr, e1, e2, e3⟩ := hw L xs h0 h1 hx
  subst e1
  rw [← lm_of_h0] at hr
  have hy : ty_in 309 := by unfold ty_in; omega
  have hM := ty_ok 309 hy
  unfold ty_okM at hM
  rw [Bool.and_eq_true, decide_eq_true_eq] at hM
  obtain ⟨gk, gl⟩ := ty_okB_get hM.1 (b := 0) (e := (ty_ent 309 (ty_pt 309), [])) hM.2
  have hl : ty_l (am_h0 L xs) (ty_pt 309) [(2, -2)] [-2] := ⟨⟨rfl, rfl⟩, trivial⟩
  have hent := ty_entry hy hl
  have hl0 : am_lok 0 [((2 : Nat), (-2 : Int))] := am_lok_c (am_vok_r (Or.inr (Or.inl rfl))) (fun v hv => by cases hv)
  have hth : ty_h (am_h0 L xs) := by
    intro a ha hk
    have : am_k (am_h0 L xs) a = -9 := by show am_k0 a = -9; unfold am_k0; rw [if_neg (by omega), if_neg (by omega)]
    omega
  obtain ⟨w, h2, g1, g2, g3, g4, g5, g6⟩ := lm_all (L := L) (X := xs) h0 (by omega) hx hO f 2044 309 (am_blk 309 0) _ [] (am_ent 309 [(2, -2)]) [] _ [] (am_h0 L xs) 1 h' hr hy (am_blk_ok (hO _ hy.1) 0) gk hent trivial (am_hok0 L xs) hth (am_lok_ent hl0 309) (fun v hv => by cases hv) (by rw [(ty_l_len hent).1]; exact gl)
  obtain ⟨f', g1⟩ := g1
  rcases g6 with ⟨g6, -⟩ | ⟨-, u, rfl, g7, -⟩
  · cases g6
  · have e4 := (ty_v_z (h := h2) (v := u) (x := 1) g7).1
    subst e4
    refine ⟨f', h2, g1, ?_, ?_⟩
    · rw [g2] at e2; exact e2
    · rw [g2] at e3; exact e3
