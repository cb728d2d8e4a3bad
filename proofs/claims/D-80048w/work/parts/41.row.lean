set_option maxRecDepth 100000
/-! states alike but for places written; allocation or none -/
def c_sm (W : Nat → Int → Prop) (c c' : cs_S) : Prop := c'.1 = c.1 ∧ c'.2.1 = c.2.1 ∧ c'.2.2.1 = c.2.2.1 ∧ c'.2.2.2.1 = c.2.2.2.1 ∧ ∀ q b j, ¬ W q b → c_v c' q b j = c_v c q b j
theorem c_sm.rf (W : Nat → Int → Prop) (c : cs_S) : c_sm W c c := ⟨rfl, rfl, rfl, rfl, fun _ _ _ _ => rfl⟩
theorem c_sm.tr {W : Nat → Int → Prop} {a b c : cs_S} (h1 : c_sm W a b) (h2 : c_sm W b c) : c_sm W a c :=
  ⟨h2.1.trans h1.1, h2.2.1.trans h1.2.1, h2.2.2.1.trans h1.2.2.1, h2.2.2.2.1.trans h1.2.2.2.1, fun q x j w => (h2.2.2.2.2 q x j w).trans (h1.2.2.2.2 q x j w)⟩
theorem c_sm.mono {W V : Nat → Int → Prop} {a b : cs_S} (h : c_sm W a b) (hw : ∀ q x, W q x → V q x) : c_sm V a b := ⟨h.1, h.2.1, h.2.2.1, h.2.2.2.1, fun q x j w => h.2.2.2.2 q x j (fun u => w (hw q x u))⟩
theorem c_sm.r {W : Nat → Int → Prop} {c c' : cs_S} (h : c_sm W c c') (a : Int) : c_r c' a = c_r c a := by
  unfold c_r; rw [h.1, h.2.2.1]
theorem c_sm.l {W : Nat → Int → Prop} {c c' : cs_S} (h : c_sm W c c') (a : Int) : c_l c' a = c_l c a := by
  unfold c_l; rw [h.2.2.2.1]
theorem c_sm.n {W : Nat → Int → Prop} {c c' : cs_S} (h : c_sm W c c') : c_n c' = c_n c := h.1
theorem c_sm.m {W : Nat → Int → Prop} {c c' : cs_S} (h : c_sm W c c') : c_m c' = c_m c := h.2.1
theorem c_sm.v {W : Nat → Int → Prop} {c c' : cs_S} (h : c_sm W c c') {q : Nat} {b : Int} (w : ¬ W q b) (j : Int) : c_v c' q b j = c_v c q b j := h.2.2.2.2 q b j w
theorem c_sm.u {W : Nat → Int → Prop} {q : Nat} {b : Int} (c : cs_S) (w : W q b) (j v : Int) : c_sm W c (c_u c q b j v) :=
  ⟨rfl, rfl, rfl, rfl, fun q' b' j' w' => by rw [c_v_u]; exact if_neg (fun u => w' (by rw [u.1, u.2.1]; exact w))⟩
theorem c_sm.c {W : Nat → Int → Prop} {rs rd : Nat} {t : Int} (c : cs_S) (w : W rd t) (s sp dp n : Int) : c_sm W c (c_c c rs s sp rd t dp n) :=
  ⟨rfl, rfl, rfl, rfl, fun q' b' j' w' => by rw [c_v_c]; exact if_neg (fun u => w' (by rw [u.1, u.2.1]; exact w))⟩
theorem c_u_eq (c : cs_S) (r : Nat) (a i v : Int) : c_v (c_u c r a i v) r a i = v := if_pos ⟨rfl, rfl, rfl⟩
theorem c_u_q {c : cs_S} {r q : Nat} (h : q ≠ r) (a i v b j : Int) : c_v (c_u c r a i v) q b j = c_v c q b j := if_neg (fun u => h u.1)
theorem c_u_b {c : cs_S} {r q : Nat} {a b : Int} (h : b ≠ a) (i v j : Int) : c_v (c_u c r a i v) q b j = c_v c q b j := if_neg (fun u => h u.2.1)
theorem c_u_j {c : cs_S} {r q : Nat} {i j : Int} (h : j ≠ i) (a b v : Int) : c_v (c_u c r a i v) q b j = c_v c q b j := if_neg (fun u => h u.2.2)
/-! rows -/
def rw_ok (c : cs_S) (r : Int) : Prop := c_r c r = 1001 ∧ c_v c 40 r 0 = r + 1 ∧ c_r c (r + 1) = 540 ∧ c_l c (r + 1) = 24
def rw_is (c : cs_S) (r : Int) (l : List (Option Int)) : Prop := rw_ok c r ∧ c_v c 42 r 0 = (l.length : Int) ∧ l.length ≤ 24 ∧ c_v c 41 r 0 = (rw_nm l : Int) ∧ ∀ (k : Nat) (x : Option Int), l[k]? = some x → c_v c 540 (r + 1) (k : Int) = rw_ov x
/-- what a row's acts write -/
def rw_w (r : Int) (q : Nat) (b : Int) : Prop := (b = r ∧ (q = 41 ∨ q = 42)) ∨ (b = r + 1 ∧ q = 540)
section
variable {c c' : cs_S} {r o : Int} {l m : List (Option Int)} {d : Nat} {Q : Int → cs_S → Prop}
theorem rw_ok.sm {W : Nat → Int → Prop} (h : rw_ok c r) (s : c_sm W c c') (w : ¬ W 40 r) : rw_ok c' r := by
  unfold rw_ok at *
  rw [s.r, s.r, s.l, s.v w]
  exact h
theorem rw_is.sm {W : Nat → Int → Prop} (h : rw_is c r l) (s : c_sm W c c') (w : ¬ W 40 r) (w1 : ¬ W 41 r) (w2 : ¬ W 42 r) (w3 : ¬ W 540 (r + 1)) : rw_is c' r l := by
  refine ⟨h.1.sm s w, ?_, h.2.2.1, ?_, fun k x hk => ?_⟩
  · rw [s.v w2]; exact h.2.1
  · rw [s.v w1]; exact h.2.2.2.1
  · rw [s.v w3]; exact h.2.2.2.2 k x hk
theorem rw_w_ne {r o : Int} (h : o ≠ r) (ho : o ≠ r + 1) (ho2 : o + 1 ≠ r) : ¬ rw_w r 40 o ∧ ¬ rw_w r 41 o ∧ ¬ rw_w r 42 o ∧ ¬ rw_w r 540 (o + 1) := by
  unfold rw_w
  omega
/-- another row stays as it is -/
theorem rw_is.other (h : rw_is c o m) (hr : rw_ok c r) (s : c_sm (rw_w r) c c') (hne : o ≠ r) : rw_is c' o m := by
  have h1 : o ≠ r + 1 := by intro e; subst e; have := hr.2.2.1; rw [h.1.1] at this; cases this
  have h2 : o + 1 ≠ r := by intro e; have := h.1.2.2.1; rw [e, hr.1] at this; cases this
  obtain ⟨a1, a2, a3, a4⟩ := rw_w_ne hne h1 h2
  exact h.sm s a1 a2 a3 a4
theorem rw_ok.self (h : rw_ok c r) (s : c_sm (rw_w r) c c') : rw_ok c' r := h.sm s (by unfold rw_w; omega)
theorem k_isNull (h : rw_is c r l) {k : Int} (h0 : 0 ≤ k) (h1 : k < 24) (kk : Q (if l[k.toNat]? = some none then 1 else 0) c) : krow_isNull d r k c Q := by
  refine u29_e ⟨h.1.1, fun w => ?_, fun w => ?_⟩
  · rw [h.2.2.2.1, rw_isn h.2.2.1 h0 (by omega)] at w
    refine u29_2 ?_
    rwa [if_neg (by intro e; rw [if_pos e] at w; exact w rfl)] at kk
  · rw [h.2.2.2.1, rw_isn h.2.2.1 h0 (by omega)] at w
    refine u29_2 ?_
    split at kk
    · exact kk
    · rename_i e; rw [if_neg e] at w; exact absurd (by decide) w
theorem k_size (h : rw_is c r l) (kk : Q (l.length : Int) c) : krow_size d r c Q := by
  refine u35_e ⟨h.1.1, ?_⟩
  rw [h.2.1]; exact kk
theorem k_value (h : rw_is c r l) {k : Nat} {x : Option Int} (hk : l[k]? = some x) (kk : Q (rw_ov x) c) : krow_value d r (k : Int) c Q := by
  have hlt : k < l.length := (List.getElem?_eq_some_iff.mp hk).1
  have := h.2.2.1
  refine u31_e ⟨h.1.1, ?_⟩
  rw [h.1.2.1, h.1.2.2.2, h.2.2.2.2 k x hk]
  exact ⟨h.1.2.2.1, by omega, by omega, kk⟩
theorem k_clear (h : rw_ok c r) (kk : ∀ c', c_sm (rw_w r) c c' → rw_is c' r [] → Q 0 c') : krow_clear d r c Q := by
  refine u27_e ⟨h.1, fun c1 e1 => ⟨by subst e1; exact h.1, fun c2 e2 => ?_⟩⟩
  have s1 : c_sm (rw_w r) c c1 := by subst e1; exact c_sm.u c (by unfold rw_w; omega) _ _
  have s2 : c_sm (rw_w r) c1 c2 := by subst e2; exact c_sm.u c1 (by unfold rw_w; omega) _ _
  refine kk c2 (s1.tr s2) ⟨h.self (s1.tr s2), ?_, by decide, ?_, fun k x hk => by simp at hk⟩
  · subst e2; subst e1; rw [c_u_q (by decide), c_u_eq]; rfl
  · subst e2; rw [c_u_eq]; rfl
theorem k_append (h : rw_is c r l) {v b most : Int} (hm : most ≤ 24) (hl : (l.length : Int) < most) (hb : b = 0 ∨ b = 1) (kk : ∀ c', c_sm (rw_w r) c c' → rw_is c' r (l ++ [if b = 0 then some v else none]) → Q (l.length + 1) c') : krow_append d r v b most c Q := by
  have h24 : l.length < 24 := by omega
  have key : ∀ z0 z2 : Int, z0 = (if b = 0 then v else 0) → cw d 30 (am_blk 30 3) [r, v, z2, b, most] [z0, (l.length : Int), r + 1] c Q := by
    intro z0 z2 hz
    refine u30_3 ⟨h.1.2.2.1, by omega, by rw [h.1.2.2.2]; omega, fun c1 e1 => ?_⟩
    have s1 : c_sm (rw_w r) c c1 := by subst e1; exact c_sm.u c (by unfold rw_w; omega) _ _
    have n1 : c_v c1 41 r 0 = (rw_nm l : Int) := by subst e1; rw [c_u_q (by decide)]; exact h.2.2.2.1
    have z1 : c_v c1 42 r 0 = (l.length : Int) := by subst e1; rw [c_u_q (by decide)]; exact h.2.1
    have key2 : ∀ w0 : Int, am_or (rw_nm l : Int) w0 = (rw_nm (l ++ [if b = 0 then some v else none]) : Int) → cw d 30 (am_blk 30 5) [r, v, z2, b, most] [w0, (rw_nm l : Int), r] c1 Q := by
      intro w0 hw
      refine u30_5 ⟨by rw [s1.r]; exact h.1.1, fun c2 e2 => ?_⟩
      have s2 : c_sm (rw_w r) c1 c2 := by subst e2; exact c_sm.u c1 (by unfold rw_w; omega) _ _
      have ro2 := (h.1.self s1).self s2
      refine ⟨ro2.1, ro2.1, fun c3 e3 => ?_⟩
      have s3 : c_sm (rw_w r) c2 c3 := by subst e3; exact c_sm.u c2 (by unfold rw_w; omega) _ _
      have ro3 := ro2.self s3
      have z3 : c_v c3 42 r 0 = (l.length + 1 : Int) := by
        subst e3
        rw [c_u_eq]
        subst e2
        rw [c_u_q (by decide), z1]
        exact am_w_in (by omega) (by omega)
      refine ⟨ro3.1, ?_⟩
      rw [z3]
      refine kk c3 ((s1.tr s2).tr s3) ⟨ro3, ?_, ?_, ?_, ?_⟩
      · rw [z3, List.length_append]; rfl
      · rw [List.length_append]; show l.length + 1 ≤ 24; omega
      · subst e3
        rw [c_u_q (by decide)]
        subst e2
        rw [c_u_eq]
        exact hw
      · intro k x hk
        subst e3
        rw [c_u_q (by decide)]
        subst e2
        rw [c_u_q (by decide)]
        subst e1
        rw [List.getElem?_append] at hk
        split at hk
        · rename_i hlt
          rw [c_u_j (by omega)]
          exact h.2.2.2.2 k x hk
        · rename_i hge
          have hk0 : k = l.length := by
            have := (List.getElem?_eq_some_iff.mp hk).1
            simp at this
            omega
          subst hk0
          rw [c_u_eq, hz]
          simp at hk
          subst hk
          split <;> rfl
    refine ⟨by rw [s1.r]; exact h.1.1, fun e => ?_, fun e => ⟨by rw [s1.r]; exact h.1.1, ?_⟩⟩
    · rw [n1]
      refine key2 0 ?_
      rw [if_pos e]
      exact rw_ors h24 v
    · rw [n1, z1]
      refine key2 _ ?_
      rw [if_neg e]
      exact rw_orn h24
  refine u30_e ⟨h.1.1, fun w => ⟨h.1.1, h.1.1, fun e => ?_, fun e => ?_⟩, fun w => absurd (by rw [h.2.1]; exact hl) w⟩
  · rw [h.2.1, h.1.2.1]
    exact key v 0 (by rw [if_pos e])
  · rw [h.2.1, h.1.2.1]
    exact key 0 0 (by rw [if_neg e])
theorem k_append_no (h : rw_is c r l) {v b most : Int} (hl : most ≤ (l.length : Int)) (kk : Q (-1) c) : krow_append d r v b most c Q :=
  u30_e ⟨h.1.1, fun w => absurd w (by rw [h.2.1]; omega), fun _ => kk⟩
/-- what stands behind place k comes behind -/
theorem k_join1 (ho : rw_is c o m) (hne : o ≠ r) : ∀ (n k : Nat) (c : cs_S) (l : List (Option Int)), k + n = m.length → rw_is c o m → rw_is c r l → l.length + n ≤ 24 → (∀ c', c_sm (rw_w r) c c' → rw_is c' r (l ++ m.drop k) → rw_is c' o m → Q 0 c') → cw (d + 1) 28 (am_blk 28 1) [r, o, (k : Int)] [] c Q := by
  intro n
  induction n with
  | zero =>
    intro k c l hk ho hr hn kk
    refine u28_1 ⟨ho.1.1, fun _ => ?_, fun w => absurd (by rw [ho.2.1]; omega) w⟩
    refine kk c (c_sm.rf _ c) ?_ ho
    rw [List.drop_eq_nil_of_le (by omega), List.append_nil]
    exact hr
  | succ n ih =>
    intro k c l hk ho hr hn kk
    have hlt : k < m.length := by omega
    have h24 := ho.2.2.1
    have hget : m[k]? = some m[k] := List.getElem?_eq_getElem hlt
    refine u28_1 ⟨ho.1.1, fun w => absurd w (by rw [ho.2.1]; omega), fun _ => ⟨ho.1.1, ?_⟩⟩
    rw [ho.1.2.1, ho.1.2.2.2, ho.2.2.2.2 k _ hget]
    refine ⟨ho.1.2.2.1, by omega, by omega, ho.1.1, k_isNull ho (by omega) (by omega) ⟨hr.1.1, ?_⟩⟩
    rw [Int.toNat_natCast, hget]
    refine k_append hr (by omega) (by omega) (by split <;> simp) (fun c1 s1 h1 => ?_)
    have ex : (if (if some m[k] = some none then (1 : Int) else 0) = 0 then some (rw_ov m[k]) else none) = m[k] := by
      cases hx : m[k] with
      | none => simp
      | some v => simp [rw_ov]
    rw [ex] at h1
    have ho1 := ho.other hr.1 s1 hne
    have ek : am_w ((k : Int) + 1) = ((k + 1 : Nat) : Int) := by rw [am_w_in (by omega) (by omega)]; omega
    rw [ek]
    refine ih (k + 1) c1 _ (by omega) ho1 h1 (by rw [List.length_append]; show l.length + 1 + n ≤ 24; omega) (fun c2 s2 h2 ho2 => kk c2 (s1.tr s2) ?_ ho2)
    rw [List.append_assoc, List.singleton_append, ← List.drop_eq_getElem_cons hlt] at h2
    exact h2
theorem k_join (ho : rw_is c o m) (hr : rw_is c r l) (hne : o ≠ r) (hn : l.length + m.length ≤ 24) (kk : ∀ c', c_sm (rw_w r) c c' → rw_is c' r (l ++ m) → rw_is c' o m → Q 0 c') : krow_join (d + 1) r o c Q := by
  refine u28_e (k_join1 ho hne m.length 0 c l (by omega) ho hr hn (fun c' s h1 h2 => kk c' s ?_ h2))
  rw [List.drop_zero] at h1
  exact h1
theorem k_take (ho : rw_is c o m) (hr : rw_ok c r) (hne : o ≠ r) (kk : ∀ c', c_sm (rw_w r) c c' → rw_is c' r m → rw_is c' o m → Q 0 c') : krow_take (d + 2) r o c Q := by
  refine u26_e ⟨hr.1, k_clear hr (fun c1 s1 h1 => ⟨h1.1.1, ?_⟩)⟩
  have ho1 := ho.other hr s1 hne
  exact k_join ho1 h1 hne (by simpa using ho.2.2.1) (fun c2 s2 h2 h3 => kk c2 (s1.tr s2) h2 h3)
theorem k_nulls1 : ∀ (n : Nat) (k w : Int) (c : cs_S) (l : List (Option Int)), k + n = w → 0 ≤ k → w ≤ 24 → rw_is c r l → l.length + n ≤ 24 → (∀ c', c_sm (rw_w r) c c' → rw_is c' r (l ++ List.replicate n none) → Q 0 c') → cw (d + 1) 34 (am_blk 34 1) [r, w, k] [] c Q := by
  intro n
  induction n with
  | zero =>
    intro k w c l hk h0 h24 hr hn kk
    refine u34_1 ⟨fun _ => ?_, fun w => absurd (by omega) w⟩
    refine kk c (c_sm.rf _ c) ?_
    simpa using hr
  | succ n ih =>
    intro k w c l hk h0 h24 hr hn kk
    refine u34_1 ⟨fun w => by omega, fun _ => ⟨hr.1.1, k_append hr (by omega) (by omega) (Or.inr rfl) (fun c1 s1 h1 => ?_)⟩⟩
    rw [am_w_in (by omega) (by omega)]
    refine ih (k + 1) w c1 _ (by omega) (by omega) h24 h1 (by rw [List.length_append]; show l.length + 1 + n ≤ 24; omega) (fun c2 s2 h2 => kk c2 (s1.tr s2) ?_)
    rw [List.append_assoc] at h2
    exact h2
theorem k_nulls (hr : rw_is c r l) {n : Nat} (hn : l.length + n ≤ 24) (kk : ∀ c', c_sm (rw_w r) c c' → rw_is c' r (l ++ List.replicate n none) → Q 0 c') : krow_nulls (d + 1) r (n : Int) c Q :=
  u34_e (k_nulls1 n 0 n c l (by omega) (by omega) (by omega) hr hn kk)
end
