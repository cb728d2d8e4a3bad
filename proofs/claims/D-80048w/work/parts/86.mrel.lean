set_option maxRecDepth 100000
/-! the model's relations: rows of cells -/
theorem am_i2b_nl (v : Option Int) : am_i2b (x_nl v) = x_nl v := by
  unfold x_nl; split <;> decide
def rm (s : ms_S) (a : Int) (l : rwt) : Prop := 0 ≤ a ∧ a + l.length ≤ 400000 ∧ ∀ k : Nat, k < l.length → s 85 (a + k) = rw_ov (l.getD k none) ∧ s 86 (a + k) = x_nl (l.getD k none)
/-- only what is beside the cells -/
def m_k (s s' : ms_S) : Prop := ∀ (q : Nat) (j : Int), q < 92 ∨ 99 < q → s' q j = s q j
/-- only cells from one on -/
def m_c (a : Int) (s s' : ms_S) : Prop := ∀ (q : Nat) (j : Int), (q ≠ 85 ∧ q ≠ 86) ∨ j < a → s' q j = s q j
def mF (U R : Int) (s s' : ms_S) : Prop := ∀ (q : Nat) (j : Int), (q < 85 ∨ 99 < q ∨ ((q = 85 ∨ q = 86) ∧ j < U) ∨ ((q = 88 ∨ q = 89 ∨ q = 90) ∧ j < R)) → s' q j = s q j
def m_r (r : Int) (s s' : ms_S) : Prop := ∀ (q : Nat) (j : Int), q ≠ 87 → (q ≠ 89 ∨ j ≠ r) → s' q j = s q j
def mRw (s : ms_S) (b : Int) (w : Nat) (L : List rwt) : Prop := ∀ (i : Nat) (l : rwt), L[i]? = some l → l.length = w ∧ rm s (b + ((i * w : Nat) : Int)) l
def mR (s : ms_S) (r : Int) (w : Nat) (L : List rwt) : Prop := (0 ≤ r ∧ r < s 91 0 ∧ s 91 0 ≤ 400 ∧ s 90 r = w ∧ s 89 r = L.length ∧ L.length ≤ 1000 ∧ w ≤ 24 ∧ 0 ≤ s 88 r ∧ s 88 r + ((L.length * w : Nat) : Int) ≤ s 87 0 ∧ s 87 0 ≤ 400000) ∧ mRw s (s 88 r) w L
def mO (s : ms_S) (r : Int) (w : Nat) (L : List rwt) : Prop := mR s r w L ∧ s 88 r + ((L.length * w : Nat) : Int) = s 87 0 ∧ r + 1 = s 91 0
def mP (s : ms_S) (r : Int) (w : Nat) (L : List rwt) (a : Int) : Prop := (0 ≤ r ∧ r + 1 = s 91 0 ∧ s 91 0 ≤ 400 ∧ s 90 r = w ∧ s 89 r = L.length + 1 ∧ L.length < 1000 ∧ w ≤ 24 ∧ 0 ≤ s 88 r ∧ s 88 r + ((L.length * w : Nat) : Int) = a ∧ s 87 0 = a + w ∧ a + w ≤ 400000) ∧ mRw s (s 88 r) w L
section
variable {s s' s2 : ms_S} {a b U R r : Int} {l m : rwt} {L : List rwt} {w : Nat} {d : Nat} {Q : Int → ms_S → Prop}
theorem m_n.k (h : m_n s s') : m_k s s' := fun q j hq => h q j (by omega)
theorem m_k.rf (s : ms_S) : m_k s s := fun _ _ _ => rfl
theorem m_k.tr (h1 : m_k s s') (h2 : m_k s' s2) : m_k s s2 := fun q j h => (h2 q j h).trans (h1 q j h)
theorem m_k.u (s : ms_S) {q : Nat} (i v : Int) (h : 92 ≤ q) (h9 : q ≤ 99) : m_k s (ms_u s q i v) := fun p j hp => ms_u_f i v j (by omega)
theorem m_c.rf (a : Int) (s : ms_S) : m_c a s s := fun _ _ _ => rfl
theorem m_c.tr (h1 : m_c a s s') (h2 : m_c a s' s2) : m_c a s s2 := fun q j h => (h2 q j h).trans (h1 q j h)
theorem m_c.le (h1 : m_c a s s') (h : b ≤ a) : m_c b s s' := fun q j hq => h1 q j (by omega)
theorem m_c.u (s : ms_S) {q : Nat} {i : Int} (v : Int) (hq : q = 85 ∨ q = 86) (hi : a ≤ i) : m_c a s (ms_u s q i v) := by
  intro p j hp
  by_cases e : p = q
  · subst e
    exact ms_u_i v (by omega)
  · exact ms_u_f i v j e
theorem mF.rf (U R : Int) (s : ms_S) : mF U R s s := fun _ _ _ => rfl
theorem mF.tr (h1 : mF U R s s') (h2 : mF U R s' s2) : mF U R s s2 := fun q j h => (h2 q j h).trans (h1 q j h)
theorem mF.le {U' R' : Int} (h : mF U R s s') (hu : U' ≤ U) (hr : R' ≤ R) : mF U' R' s s' := fun q j hq => h q j (by omega)
theorem mF.k (h : mF U R s s') (k : m_k s' s2) : mF U R s s2 := fun q j hq => (k q j (by omega)).trans (h q j hq)
theorem mF.c (h : mF U R s s') (k : m_c a s' s2) (ha : U ≤ a) : mF U R s s2 := fun q j hq => (k q j (by omega)).trans (h q j hq)
theorem mF.rr (h : mF U R s s') (k : m_r r s' s2) (ha : R ≤ r) : mF U R s s2 := fun q j hq => (k q j (by omega) (by omega)).trans (h q j hq)
theorem rm.eq (h : rm s a l) (he : ∀ k : Nat, k < l.length → s' 85 (a + k) = s 85 (a + k) ∧ s' 86 (a + k) = s 86 (a + k)) : rm s' a l := ⟨h.1, h.2.1, fun k hk => by rw [(he k hk).1, (he k hk).2]; exact h.2.2 k hk⟩
theorem rm.k (h : rm s a l) (k : m_k s s') : rm s' a l := h.eq (fun _ _ => ⟨k _ _ (by omega), k _ _ (by omega)⟩)
theorem rm.c (h : rm s a l) (k : m_c b s s') (hb : a + l.length ≤ b) : rm s' a l := h.eq (fun i hi => ⟨k _ _ (by omega), k _ _ (by omega)⟩)
theorem rm.rr (h : rm s a l) (k : m_r r s s') : rm s' a l := h.eq (fun i hi => ⟨k _ _ (by omega) (by omega), k _ _ (by omega) (by omega)⟩)
theorem rm.F (h : rm s a l) (k : mF U R s s') (hb : a + l.length ≤ U) : rm s' a l := h.eq (fun i hi => ⟨k _ _ (by omega), k _ _ (by omega)⟩)
theorem rm_app (h1 : rm s a l) (h2 : rm s (a + l.length) m) : rm s a (l ++ m) := by
  refine ⟨h1.1, by rw [List.length_append]; have := h2.2.1; omega, fun k hk => ?_⟩
  rw [List.length_append] at hk
  by_cases p : k < l.length
  · have e : (l ++ m).getD k none = l.getD k none := by rw [List.getD_eq_getElem?_getD, List.getD_eq_getElem?_getD, List.getElem?_append_left p]
    rw [e]; exact h1.2.2 k p
  · have e : (l ++ m).getD k none = m.getD (k - l.length) none := by rw [List.getD_eq_getElem?_getD, List.getD_eq_getElem?_getD, List.getElem?_append_right (by omega)]
    have := h2.2.2 (k - l.length) (by omega)
    have e2 : a + (l.length : Int) + ((k - l.length : Nat) : Int) = a + k := by omega
    rw [e2] at this
    rw [e]; exact this
theorem rm_nil (h0 : 0 ≤ a) (h1 : a ≤ 400000) : rm s a [] := ⟨h0, by simpa using h1, fun k hk => absurd hk (by simp)⟩
theorem rm_one {v : Option Int} (h0 : 0 ≤ a) (h1 : a < 400000) (e1 : s 85 a = rw_ov v) (e2 : s 86 a = x_nl v) : rm s a [v] := by
  refine ⟨h0, by simp; omega, fun k hk => ?_⟩
  have : k = 0 := by simp at hk; omega
  subst this
  simpa using ⟨e1, e2⟩
theorem mRw.F (h : mRw s b w L) (k : mF U R s s') (hb : b + ((L.length * w : Nat) : Int) ≤ U) : mRw s' b w L := by
  intro i l hl
  obtain ⟨h1, h2⟩ := h i l hl
  refine ⟨h1, h2.F k ?_⟩
  have hi := (List.getElem?_eq_some_iff.mp hl).1
  have : i * w + w ≤ L.length * w := by
    have := Nat.mul_le_mul_right w (show i + 1 ≤ L.length from hi)
    rw [Nat.add_mul, Nat.one_mul] at this
    exact this
  omega
theorem mRw.eq (h : mRw s b w L) (he : ∀ j, j < b + ((L.length * w : Nat) : Int) → s' 85 j = s 85 j ∧ s' 86 j = s 86 j) : mRw s' b w L := by
  intro i l hl
  obtain ⟨h1, h2⟩ := h i l hl
  refine ⟨h1, h2.eq (fun k hk => he _ ?_)⟩
  have hi := (List.getElem?_eq_some_iff.mp hl).1
  have : i * w + w ≤ L.length * w := by
    have := Nat.mul_le_mul_right w (show i + 1 ≤ L.length from hi)
    rw [Nat.add_mul, Nat.one_mul] at this
    exact this
  omega
theorem mR.F (h : mR s r w L) (k : mF (s 87 0) (s 91 0) s s') (h1 : s 91 0 ≤ s' 91 0) (h4 : s' 91 0 ≤ 400) (h2 : s 87 0 ≤ s' 87 0) (h3 : s' 87 0 ≤ 400000) : mR s' r w L := by
  obtain ⟨⟨g1, g2, g3, g4, g5, g6, g7, g8, g9, g10⟩, h⟩ := h
  refine ⟨⟨g1, by omega, h4, ?_, ?_, g6, g7, ?_, ?_, h3⟩, ?_⟩
  · rw [k _ _ (by omega)]; exact g4
  · rw [k _ _ (by omega)]; exact g5
  · rw [k _ _ (by omega)]; exact g8
  · rw [k 88 _ (by omega)]; omega
  · rw [k 88 _ (by omega)]
    exact h.F k g9
theorem mR.k (h : mR s r w L) (k : m_k s s') : mR s' r w L := by
  obtain ⟨h0, h⟩ := h
  refine ⟨?_, ?_⟩
  · rw [k 91 _ (by omega), k 90 _ (by omega), k 89 _ (by omega), k 88 _ (by omega), k 87 _ (by omega)]; exact h0
  · rw [k 88 _ (by omega)]
    exact h.eq (fun j _ => ⟨k _ _ (by omega), k _ _ (by omega)⟩)
theorem mO.k (h : mO s r w L) (k : m_k s s') : mO s' r w L := ⟨h.1.k k, by rw [k 88 _ (by omega), k 87 _ (by omega)]; exact h.2.1, by rw [k 91 _ (by omega)]; exact h.2.2⟩
theorem mP.k (h : mP s r w L a) (k : m_k s s') : mP s' r w L a := by
  obtain ⟨h0, h⟩ := h
  refine ⟨?_, ?_⟩
  · rw [k 91 _ (by omega), k 90 _ (by omega), k 89 _ (by omega), k 88 _ (by omega), k 87 _ (by omega)]; exact h0
  · rw [k 88 _ (by omega)]
    exact h.eq (fun j _ => ⟨k _ _ (by omega), k _ _ (by omega)⟩)
theorem mP.c (h : mP s r w L a) (k : m_c b s s') (hb : a ≤ b) : mP s' r w L a := by
  obtain ⟨h0, h⟩ := h
  refine ⟨?_, ?_⟩
  · rw [k 91 _ (by omega), k 90 _ (by omega), k 89 _ (by omega), k 88 _ (by omega), k 87 _ (by omega)]; exact h0
  · rw [k 88 _ (by omega)]
    exact h.eq (fun j _ => ⟨k _ _ (by omega), k _ _ (by omega)⟩)
theorem mP.fill (h : mP s r w L a) (hl : l.length = w) (hm : rm s a l) : mO s r w (L ++ [l]) := by
  obtain ⟨⟨g1, g2, g3, g4, g5, g6, g7, g8, g9, g10, g11⟩, h⟩ := h
  have e1 : (L ++ [l]).length = L.length + 1 := by simp
  have e2 : ((L.length + 1) * w : Nat) = L.length * w + w := by rw [Nat.add_mul, Nat.one_mul]
  refine ⟨⟨⟨g1, by omega, g3, g4, by rw [e1, g5]; omega, by omega, g7, g8, by rw [e1, e2]; omega, by omega⟩, ?_⟩, by rw [e1, e2]; omega, g2⟩
  intro i l' hl'
  rw [List.getElem?_append] at hl'
  split at hl'
  · exact h i l' hl'
  · rename_i q
    rw [List.getElem?_singleton] at hl'
    split at hl'
    · cases hl'
      have : i = L.length := by omega
      subst this
      rw [g9]
      exact ⟨hl, hm⟩
    · cases hl'
theorem mO.row (h : mO s r w L) {i : Nat} (hi : L[i]? = some l) : l.length = w ∧ rm s (s 88 r + ((i * w : Nat) : Int)) l := h.1.2 i l hi
theorem mR.row (h : mR s r w L) {i : Nat} (hi : L[i]? = some l) : l.length = w ∧ rm s (s 88 r + ((i * w : Nat) : Int)) l := h.2 i l hi
theorem mR.len (h : mR s r w L) (hl : l ∈ L) : l.length = w := by
  obtain ⟨i, hi⟩ := List.mem_iff_getElem?.mp hl
  exact (h.2 i l hi).1
theorem mR.le (h : mR s r w L) {i : Nat} (hi : i < L.length) : i * w + w ≤ L.length * w := by
  have := Nat.mul_le_mul_right w (show i + 1 ≤ L.length from hi)
  rw [Nat.add_mul, Nat.one_mul] at this
  exact this
/-! the small acts -/
theorem k_relation {w : Nat} (h1 : 0 ≤ s 91 0) (h2 : s 91 0 < 400) (h3 : 0 ≤ s 87 0) (h4 : s 87 0 ≤ 400000) (hw : w ≤ 24) {x : Int} (hx : x = w) (kk : ∀ s', mO s' (s 91 0) w [] → mF (s 87 0) (s 91 0) s s' → s' 87 0 = s 87 0 → s' 91 0 = s 91 0 + 1 → (∀ q j, 92 ≤ q → s' q j = s q j) → Q (s 91 0) s') : md_relation d x s Q := by
  subst hx
  refine w155_e (fun s1 e1 => ⟨h1, h2, fun s2 e2 => ⟨h1, h2, fun s3 e3 => ⟨h1, h2, fun s4 e4 => ?_⟩⟩⟩)
  have hw1 : am_w (s 91 0 + 1) = s 91 0 + 1 := am_w_in (by omega) (by omega)
  rw [hw1] at e1
  generalize hr : s 91 0 = r at *
  have f : ∀ (q : Nat) (j : Int), q ≠ 91 → (q < 88 ∨ 90 < q ∨ j ≠ r) → s4 q j = s q j := by
    intro q j h1 h2
    rw [e4, e3, e2, e1]
    by_cases c90 : q = 90
    · subst c90; rw [ms_u_i _ (by omega), ms_u_f _ _ _ (by omega), ms_u_f _ _ _ (by omega), ms_u_f _ _ _ (by omega)]
    · by_cases c89 : q = 89
      · subst c89; rw [ms_u_f _ _ _ (by omega), ms_u_i _ (by omega), ms_u_f _ _ _ (by omega), ms_u_f _ _ _ (by omega)]
      · by_cases c88 : q = 88
        · subst c88; rw [ms_u_f _ _ _ (by omega), ms_u_f _ _ _ (by omega), ms_u_i _ (by omega), ms_u_f _ _ _ (by omega)]
        · rw [ms_u_f _ _ _ c90, ms_u_f _ _ _ c89, ms_u_f _ _ _ c88, ms_u_f _ _ _ h1]
  have f91 : s4 91 0 = r + 1 := by
    rw [e4, e3, e2, e1, ms_u_f _ _ _ (by omega), ms_u_f _ _ _ (by omega), ms_u_f _ _ _ (by omega), ms_u_eq]
  have f90 : s4 90 r = w := by rw [e4, ms_u_eq]
  have f89 : s4 89 r = 0 := by rw [e4, ms_u_f _ _ _ (by omega), e3, ms_u_eq]
  have f88 : s4 88 r = s 87 0 := by rw [e4, ms_u_f _ _ _ (by omega), e3, ms_u_f _ _ _ (by omega), e2, ms_u_eq, e1, ms_u_f _ _ _ (by omega)]
  have f87 : s4 87 0 = s 87 0 := f _ _ (by omega) (by omega)
  refine kk s4 ⟨⟨⟨h1, by omega, by omega, f90, by rw [f89]; rfl, by simp, hw, by omega, ?_, by omega⟩, ?_⟩, ?_, by omega⟩ (fun q j hq => f q j (by omega) (by omega)) f87 f91 (fun q j hq => f q j (by omega) (by omega))
  · rw [f88, f87]; simp
  · intro i l hl; simp at hl
  · rw [f88, f87]; simp
theorem k_newRow (h : mO s r w L) (h1 : s 87 0 + w ≤ 400000) (h2 : L.length < 1000) (kk : ∀ s', mP s' r w L (s 87 0) → m_r r s s' → Q (s 87 0) s') : md_newRow d r s Q := by
  obtain ⟨⟨⟨g1, g2, g3, g4, g5, g6, g7, g8, g9, g10⟩, h⟩, g11, g12⟩ := h
  have hw1 : am_w (s 89 r + 1) = s 89 r + 1 := am_w_in (by omega) (by omega)
  refine w158_e ⟨g1, by omega, g1, by omega, fun s1 e1 => ⟨g1, by omega, fun s2 e2 => ⟨g1, by omega, ?_⟩⟩⟩
  rw [hw1] at e1
  have a1 : s1 87 0 = s 87 0 := by rw [e1, ms_u_f _ _ _ (by omega)]
  have a2 : s1 90 r = s 90 r := by rw [e1, ms_u_f _ _ _ (by omega)]
  rw [a1, a2, g4, am_w_in (by omega) (by omega)] at e2
  have b1 : s2 87 0 = s 87 0 + w := by rw [e2, ms_u_eq]
  have b2 : s2 90 r = w := by rw [e2, ms_u_f _ _ _ (by omega), a2, g4]
  have e3 : am_w (s2 87 0 - s2 90 r) = s 87 0 := by rw [b1, b2, am_w_in (by omega) (by omega)]; omega
  rw [e3]
  have f : m_r r s s2 := by
    intro q j hq hq2
    rw [e2, ms_u_f _ _ _ hq, e1]
    by_cases c : q = 89
    · subst c; exact ms_u_i _ (by omega)
    · exact ms_u_f _ _ _ c
  have b3 : s2 89 r = L.length + 1 := by rw [e2, ms_u_f _ _ _ (by omega), e1, ms_u_eq, g5]
  refine kk s2 ⟨⟨g1, ?_, ?_, b2, b3, h2, g7, ?_, ?_, b1, h1⟩, ?_⟩ f
  · rw [f 91 _ (by omega) (by omega)]; exact g12
  · rw [f 91 _ (by omega) (by omega)]; exact g3
  · rw [f 88 _ (by omega) (by omega)]; exact g8
  · rw [f 88 _ (by omega) (by omega)]; exact g11
  · rw [f 88 _ (by omega) (by omega)]
    exact h.eq (fun j _ => ⟨f _ _ (by omega) (by omega), f _ _ (by omega) (by omega)⟩)
theorem k_rowAt (h : mR s r w L) {i : Nat} {x : Int} (hx : x = i) (hi : i ≤ L.length) (kk : Q (s 88 r + ((i * w : Nat) : Int)) s) : md_rowAt d r x s Q := by
  subst hx
  obtain ⟨⟨g1, g2, g3, g4, g5, g6, g7, g8, g9, g10⟩, h⟩ := h
  have hm := Nat.mul_le_mul_right w hi
  refine w160_e ⟨g1, by omega, g1, by omega, ?_⟩
  rw [g4, ← Int.natCast_mul, am_w_in (x := ((i * w : Nat) : Int)) (by omega) (by omega), am_w_in (by omega) (by omega)]
  exact kk
theorem k_mcopy {n : Int} (h : rm s a l) (hn : n = l.length) (ha : a + l.length ≤ b) (hb : b + l.length ≤ 400000) (kk : ∀ s', m_c b s s' → rm s' b l → Q 0 s') : md_copy d a b n s Q := by
  subst hn
  have h0 := h.1
  have loop : ∀ (k : Nat) (s1 : ms_S) (j : Nat), j + k = l.length → m_c b s s1 → rm s1 b (l.take j) → mw d 161 (am_blk 161 1) [159, a, b, l.length, j] [] s1 Q := by
    intro k
    induction k with
    | zero =>
      intro s1 j hj hc hm
      have e : j = l.length := by omega
      rw [e, List.take_length] at hm
      exact w161_1 ⟨fun _ => kk s1 hc hm, fun w => absurd (by omega) w⟩
    | succ k ih =>
      intro s1 j hj hc hm
      have hjl : j < l.length := by omega
      have e1 : am_w (a + j) = a + j := am_w_in (by omega) (by omega)
      have e2 : am_w (b + j) = b + j := am_w_in (by omega) (by omega)
      have e3 : am_w ((j : Int) + 1) = ((j + 1 : Nat) : Int) := by rw [am_w_in (by omega) (by omega)]; omega
      refine w161_1 ⟨fun w => absurd w (by omega), fun _ => ?_⟩
      rw [e1, e2]
      refine ⟨by omega, by omega, by omega, by omega, fun s2 e4 => ⟨by omega, by omega, by omega, by omega, fun s3 e5 => ?_⟩⟩
      rw [e3]
      obtain ⟨v1, v2⟩ := h.2.2 j hjl
      have c1 : s1 85 (a + j) = rw_ov (l.getD j none) := by rw [hc _ _ (by omega)]; exact v1
      have c2 : s2 86 (a + j) = x_nl (l.getD j none) := by rw [e4, ms_u_f _ _ _ (by omega), hc _ _ (by omega)]; exact v2
      rw [c1] at e4
      rw [c2, am_i2b_nl] at e5
      have f : m_c (b + j) s1 s3 := by rw [e5, e4]; exact (m_c.u _ _ (Or.inl rfl) (Int.le_refl _)).tr (m_c.u _ _ (Or.inr rfl) (Int.le_refl _))
      refine ih s3 (j + 1) (by omega) (hc.tr (f.le (by omega))) ?_
      have hl : (l.take j).length = j := by rw [List.length_take]; omega
      have e6 : l.take (j + 1) = l.take j ++ [l.getD j none] := by
        rw [List.take_succ, List.getD_eq_getElem?_getD, List.getElem?_eq_getElem hjl]; rfl
      rw [e6]
      refine rm_app (hm.c f (by rw [hl]; exact Int.le_refl _)) ?_
      rw [hl]
      refine rm_one (by omega) (by omega) ?_ ?_
      · rw [e5, ms_u_f _ _ _ (by omega), e4, ms_u_eq]
      · rw [e5, ms_u_eq]
  have := loop l.length s 0 (by omega) (m_c.rf b s) (by rw [List.take_zero]; exact rm_nil (by omega) (by omega))
  exact w161_e this
theorem x_nl_0 {v : Option Int} (h : x_nl v = 0) : ∃ x, v = some x := by
  cases v with
  | none => exact absurd h (by decide)
  | some x => exact ⟨x, rfl⟩
theorem k_mcompare {v u : Option Int} {p q x y : Int} (h1 : p = rw_ov v) (h2 : q = x_nl v) (h3 : x = rw_ov u) (h4 : y = x_nl u) (kk : Q (r_oc v u) s) : md_compare d p q x y s Q := by
  subst h1 h2 h3 h4
  have ns : ∀ x : Int, x_nl (some x) = 0 := fun _ => rfl
  have nn : x_nl none = 1 := rfl
  cases v with
  | none =>
    cases u with
    | none => exact w175_e ⟨fun _ => w175_1 ⟨fun w => absurd w (by decide), fun _ => ⟨fun w => absurd w (by decide), fun _ => w175_4 kk⟩⟩, fun w => absurd (by decide) w⟩
    | some y => exact w175_e ⟨fun _ => w175_1 ⟨fun w => absurd w (by decide), fun _ => ⟨fun _ => w175_4 kk, fun w => absurd rfl w⟩⟩, fun w => absurd (by decide) w⟩
  | some x =>
    cases u with
    | none => exact w175_e ⟨fun w => absurd rfl w, fun _ => ⟨fun w => absurd w (by decide), fun _ => w175_1 ⟨fun _ => w175_4 kk, fun w => absurd rfl w⟩⟩⟩
    | some y =>
      have hr := r_oc_r (some x) (some y)
      have e0 : r_oc (some x) (some y) = am_lcmp x y := rfl
      rw [e0] at kk hr
      refine w175_e ⟨fun w => absurd rfl w, fun _ => ⟨fun _ => ⟨fun w1 => ⟨fun w2 => w175_8 ?_, fun w2 => w175_8 ?_⟩, fun w1 => w175_8 ?_⟩, fun w => absurd rfl w⟩⟩
      · have : am_lcmp x y = 0 := by have w1 : 0 ≤ am_lcmp x y := w1; have w2 : am_lcmp x y ≤ 0 := w2; omega
        rw [this] at kk; exact kk
      · have : am_lcmp x y = 1 := by have w2 : ¬ am_lcmp x y ≤ 0 := w2; omega
        rw [this] at kk; exact kk
      · have : am_lcmp x y = -1 := by have w2 : ¬ 0 ≤ am_lcmp x y := w1; omega
        rw [this] at kk; exact kk
theorem r_cmp_dr : ∀ (l m : rwt) (k : Nat), l.length = m.length → k < l.length → r_cmp (l.drop k) (m.drop k) = if r_oc (l.getD k none) (m.getD k none) = 0 then r_cmp (l.drop (k + 1)) (m.drop (k + 1)) else r_oc (l.getD k none) (m.getD k none) := by
  intro l m k h1 h2
  rw [List.drop_eq_getElem_cons h2, List.drop_eq_getElem_cons (show k < m.length by omega)]
  rw [List.getD_eq_getElem?_getD, List.getD_eq_getElem?_getD, List.getElem?_eq_getElem h2, List.getElem?_eq_getElem (show k < m.length by omega)]
  rfl
theorem k_compareRows {n : Int} (h1 : rm s a l) (h2 : rm s b m) (hn : n = l.length) (hm : m.length = l.length) (kk : Q (r_cmp l m) s) : md_compareRows (d + 1) a b n s Q := by
  subst hn
  have h0 := h1.1
  have h00 := h1.2.1
  have g0 := h2.1
  have g00 := h2.2.1
  have loop : ∀ (k : Nat) (j : Nat) (x5 : Int), j + k = l.length → r_cmp l m = r_cmp (l.drop j) (m.drop j) → mw (d + 1) 174 (am_blk 174 1) [159, a, b, l.length, j, x5] [] s Q := by
    intro k
    induction k with
    | zero =>
      intro j x5 hj hc
      have e : j = l.length := by omega
      refine w174_1 ⟨fun _ => ?_, fun w => absurd (by omega) w⟩
      rw [hc, List.drop_eq_nil_of_le (by omega), List.drop_eq_nil_of_le (by omega)] at kk
      exact kk
    | succ k ih =>
      intro j x5 hj hc
      have hjl : j < l.length := by omega
      have e1 : am_w (a + j) = a + j := am_w_in (by omega) (by omega)
      have e2 : am_w (b + j) = b + j := am_w_in (by omega) (by omega)
      have e3 : am_w ((j : Int) + 1) = ((j + 1 : Nat) : Int) := by rw [am_w_in (by omega) (by omega)]; omega
      refine w174_1 ⟨fun w => absurd w (by omega), fun _ => ?_⟩
      rw [e1, e2, e3]
      rw [r_cmp_dr l m j (by omega) hjl] at hc
      obtain ⟨v1, v2⟩ := h1.2.2 j hjl
      obtain ⟨u1, u2⟩ := h2.2.2 j (by omega)
      refine ⟨by omega, by omega, by omega, by omega, by omega, by omega, by omega, by omega, k_mcompare v1 v2 u1 u2 ⟨fun w => ?_, fun w => ?_⟩⟩
      · rw [if_pos w] at hc
        exact ih (j + 1) _ (by omega) hc
      · rw [if_neg w] at hc
        rw [hc] at kk
        exact kk
  exact w174_e (loop l.length 0 0 (by omega) rfl)
theorem k_hasRow {n : Int} (h : mR s r w L) (hm : rm s a m) (hw : m.length = w) {N : Nat} (hN : N ≤ L.length) (hn : n = N) (kk : Q (if m ∈ L.take N then 1 else 0) s) : md_hasRow (d + 2) r a n s Q := by
  subst hn
  have hh := h.1
  have loop : ∀ (k : Nat) (j : Nat), j + k = N → m ∉ L.take j → mw (d + 2) 178 (am_blk 178 1) [159, r, a, N, j] [] s Q := by
    intro k
    induction k with
    | zero =>
      intro j hj hc
      have e : j = N := by omega
      subst e
      rw [if_neg hc] at kk
      exact w178_1 ⟨fun _ => kk, fun w => absurd (by omega) w⟩
    | succ k ih =>
      intro j hj hc
      have hjl : j < L.length := by omega
      have e3 : am_w ((j : Int) + 1) = ((j + 1 : Nat) : Int) := by rw [am_w_in (by omega) (by omega)]; omega
      obtain ⟨hl, hr⟩ := h.row (List.getElem?_eq_getElem hjl)
      refine w178_1 ⟨fun w => absurd w (by omega), fun _ => k_rowAt h rfl (by omega) ⟨hh.1, by omega, ?_⟩⟩
      rw [hh.2.2.2.1]
      refine k_compareRows hr hm (by rw [hl]) (by rw [hl, hw]) ⟨fun w => ?_, fun w => ?_⟩
      · rw [e3]
        refine ih (j + 1) (by omega) ?_
        rw [List.take_succ, List.getElem?_eq_getElem hjl]
        intro q
        rcases List.mem_append.mp q with q | q
        · exact hc q
        · simp at q
          exact w ((r_cmp_0 (by rw [hl, hw])).mpr q.symm)
      · have e : L[j] = m := (r_cmp_0 (by rw [hl, hw])).mp (Classical.not_not.mp w)
        rw [if_pos] at kk
        · exact kk
        · rw [← e, List.mem_take_iff_getElem]
          exact ⟨j, by omega, rfl⟩
  exact w178_e (loop N 0 (by omega) (by simp))
end
