set_option maxRecDepth 100000
/-! nodes of a plan: how they lie, and what stands around them -/
/-- what isn't bags' business -/
def bw_k (o : Int → Int) (q : Nat) (a : Int) : Prop := q ≠ 80 ∧ q ≠ 81 ∧ q ≠ 580 ∧ q ≠ 240 ∧ q ≠ 241 ∧ q ≠ 242 ∧ q ≠ 243 ∧ q ≠ 741 ∧ q ≠ 742 ∧ q ≠ 40 ∧ ((q = 41 ∨ q = 42) → o a = -1) ∧ (q = 540 → o (a - 1) = -1)
section
variable {W : Nat → Int → Prop} {C : bw_C} {c c' : cs_S} {E : Int → bw_L} {P : List Int} {o : Int → Int} {j k : Int}
theorem BI.grow (h : BI C c E P o) (u : c_up W c c') (hw : ∀ q a, W q a → bw_k o q a) (hm : c_m c' = c_m c + k) (hn : c_n c' ≤ c_n c + j) : BI (C.1, C.2.1, C.2.2.1, C.2.2.2.1, C.2.2.2.2.1 + k, C.2.2.2.2.2 + j) c' E P o := by
  obtain ⟨i1, i2, i3, i4, i5, i6⟩ := id h
  obtain ⟨p1, p2⟩ := i1.up (o' := o) u (fun w => (hw _ _ w).1 rfl) (fun w => (hw _ _ w).2.1 rfl) (fun w => (hw _ _ w).2.2.1 rfl) (fun x hx w => (hw _ _ w).2.2.2.2.2.2.2.2.2.1 rfl) (fun x hx => (i1.2.2.2.2.2.2.2 x hx).2)
  have oth : ∀ a ∈ C.1, bw_B c' a (E a) o ∧ c_v c' 241 a 0 = c_v c 241 a 0 ∧ c_v c' 242 a 0 = c_v c 242 a 0 ∧ bw_ln c' a = bw_ln c a := by
    intro a ha
    refine (i2 a ha).up u (fun w => (hw _ _ w).2.2.2.1 rfl) (fun w => (hw _ _ w).2.2.2.2.1 rfl) (fun w => (hw _ _ w).2.2.2.2.2.1 rfl) (fun w => (hw _ _ w).2.2.2.2.2.2.1 rfl) (fun w => (hw _ _ w).2.2.2.2.2.2.2.1 rfl) (fun w => (hw _ _ w).2.2.2.2.2.2.2.2.1 rfl) (fun e he => ?_) (fun e he => ((i2 a ha).mem he).2)
    have h1 := ((i2 a ha).mem he).2
    have h2 := h.bm1 ha
    refine ⟨fun w => (hw _ _ w).2.2.2.2.2.2.2.2.2.1 rfl, fun w => ?_, fun w => ?_, fun w => ?_⟩
    · have := (hw _ _ w).2.2.2.2.2.2.2.2.2.2.1 (Or.inl rfl); omega
    · have := (hw _ _ w).2.2.2.2.2.2.2.2.2.2.1 (Or.inr rfl); omega
    · have := (hw _ _ w).2.2.2.2.2.2.2.2.2.2.2 rfl
      have e1 : e.1 + 1 - 1 = e.1 := by omega
      rw [e1] at this
      omega
  obtain ⟨r1, r2, r3, r4, r5, r6⟩ := i6
  have eln : b_sum (bw_ln c') C.1 = b_sum (bw_ln c) C.1 := b_sum_congr (fun a ha => (oth a ha).2.2.2)
  refine ⟨p1, fun a ha => (oth a ha).1, fun a ha a' ha' hne => ?_, fun y hy => ?_, i5, fun a ha => ?_, r2, r3, r4, ?_, ?_⟩
  · rw [(oth a ha).2.1, (oth a ha).2.2.1, (oth a' ha').2.1, (oth a' ha').2.2.1]; exact i3 a ha a' ha' hne
  · have := i4 y hy; have := u.1; omega
  · show _ ∧ _ ∧ _ ∧ _ ∧ bw_ln c' a ≤ _
    rw [(oth a ha).2.2.2]; exact r1 a ha
  · show c_m c' = C.2.2.2.2.1 + k + 27 * bw_T C E P + 4 * b_sum (bw_ln c') C.1 + 2 * bw_pl c'
    rw [eln, p2, hm, r5]; omega
  · show c_n c' ≤ C.2.2.2.2.2 + j + 2 * bw_T C E P + b_sum (bw_ln c') C.1 + bw_pl c'
    rw [eln, p2]; omega
theorem BI.keep (h : BI C c E P o) (s : c_sm W c c') (hw : ∀ q a, W q a → bw_k o q a) : BI C c' E P o := by
  have := h.grow (k := 0) (j := 0) s.up hw (by rw [s.m]; omega) (by rw [s.n]; omega)
  rw [Int.add_zero, Int.add_zero] at this
  exact this
/-- other room for bags -/
theorem BI.recap {cp : Int → Int} {m0 n0 R : Int} {bs : List Int} {lm cp0 : Int → Int} (h : BI (bs, cp0, lm, R, m0, n0) c E P o) (h1 : ∀ b ∈ bs, ((E b).length : Int) ≤ cp b ∧ cp b ≤ lm b) (h2 : b_sum cp bs ≤ R) : BI (bs, cp, lm, R, m0, n0) c E P o := by
  obtain ⟨i1, i2, i3, i4, i5, r1, r2, r3, r4, r5, r6⟩ := id h
  exact ⟨i1, i2, i3, i4, i5, fun a ha => ⟨(h1 a ha).1, (h1 a ha).2, (r1 a ha).2.2⟩, h2, r3, r4, r5, r6⟩
end
/-- how a node lies -/
def ns_C (c : cs_S) (n : Int) : Prop :=
  c_r c n = 1010 ∧ c_v c 401 n 0 = 7 ∧ c_v c 405 n 0 = n + 9 ∧ c_v c 406 n 0 = n + 12 ∧ c_v c 407 n 0 = n + 15 ∧ c_v c 408 n 0 = n + 18 ∧ c_v c 409 n 0 = n + 1 ∧ c_v c 410 n 0 = n + 3
  ∧ (c_v c 417 n 0 = n + 5 ∧ c_r c (n + 5) = 917 ∧ c_l c (n + 5) = 8) ∧ (c_v c 419 n 0 = n + 6 ∧ c_r c (n + 6) = 919 ∧ c_l c (n + 6) = 12) ∧ (c_v c 421 n 0 = n + 7 ∧ c_r c (n + 7) = 921 ∧ c_l c (n + 7) = 8)
  ∧ (c_r c (c_v c 426 n 0) = 926 ∧ 16 ≤ c_l c (c_v c 426 n 0) ∧ c_l c (c_v c 426 n 0) ≤ 1024) ∧ rw_ok c (n + 1) ∧ rw_ok c (n + 3) ∧ n + 21 ≤ c_n c
/-- what it is -/
def nd_C (c : cs_S) (ad : Int) (X : nt) (n : Int) : Prop :=
  c_v c 400 n 0 = ad ∧ c_v c 402 n 0 = n_kind X n ∧ c_v c 403 n 0 = n_left X n ∧ c_v c 404 n 0 = n_right X n ∧ c_v c 411 n 0 = n_strm X n ∧ c_v c 412 n 0 = n_keep X n ∧ c_v c 414 n 0 = n_cond X n ∧ c_v c 415 n 0 = n_isL X n ∧ c_v c 416 n 0 = n_wide X n
  ∧ (c_v c 418 n 0 = ((n_list X n).length : Int) ∧ ∀ (k e : Nat), (n_list X n)[k]? = some e → c_v c 917 (n + 5) k = e) ∧ (c_v c 420 n 0 = ((n_aggs X n).length : Int) ∧ ∀ (k e : Nat), (n_aggs X n)[k]? = some e → c_v c 919 (n + 6) k = e)
  ∧ (∀ (k : Nat) (b : Bool), (n_down X n)[k]? = some b → c_v c 921 (n + 7) k = if b then 1 else 0) ∧ c_v c 422 n 0 = n_most X n
/-- the rows of keys -/
def pk_y (c : cs_S) (i : Int) : Int := c_v c 582 (c_v c 82 7 0) i
def pk_K (c : cs_S) : Int := c_l c (c_v c 82 7 0)
def PK (c : cs_S) (S : List Int) (o : Int → Int) : Prop :=
  c_r c (c_v c 82 7 0) = 582 ∧ c_r c (c_v c 83 7 0) = 583 ∧ c_l c (c_v c 83 7 0) = pk_K c ∧ (pk_K c = 0 ∨ ∃ j : Nat, pk_K c = 64 * 2 ^ j) ∧ pk_K c ≤ 512
  ∧ ∀ i : Int, 0 ≤ i → i < pk_K c → rw_ok c (pk_y c i) ∧ o (pk_y c i) = -1 ∧ 237 ≤ pk_y c i ∧ (∀ n ∈ S, pk_y c i + 1 < n ∨ n + 21 ≤ pk_y c i) ∧ ∀ j : Int, 0 ≤ j → j < pk_K c → j ≠ i → pk_y c j ≠ pk_y c i
abbrev nG : Type := (List Int × List Int × Int) × (xt × (Nat → Int) × (Nat → Int) × Nat) × nt × (Nat → Nat) × (List Int × (Int → Int) × (Int → Int) × Int) × Int × Int
def gS (G : nG) : List Int := G.1.1
def gA (G : nG) : List Int := G.1.2.1
def gad (G : nG) : Int := G.1.2.2
def gT (G : nG) : xt := G.2.1.1
def gsl (G : nG) : Nat → Int := G.2.1.2.1
def gct (G : nG) : Nat → Int := G.2.1.2.2.1
def gN (G : nG) : Nat := G.2.1.2.2.2
def gX (G : nG) : nt := G.2.2.1
def gco (G : nG) : Nat → Nat := G.2.2.2.1
def gb (G : nG) : List Int := G.2.2.2.2.1.1
def gcp (G : nG) : Int → Int := G.2.2.2.2.1.2.1
def glm (G : nG) : Int → Int := G.2.2.2.2.1.2.2.1
def gR (G : nG) : Int := G.2.2.2.2.1.2.2.2
def gM (G : nG) : Int := G.2.2.2.2.2.1
def gK (G : nG) : Int := G.2.2.2.2.2.2
def n_ol (c : cs_S) (n : Int) : Int := c_l c (c_v c 426 n 0)
def NB (G : nG) (c : cs_S) (E : Int → bw_L) (P : List Int) (o : Int → Int) : Prop := ∃ m0 n0 : Int, BI (gb G, gcp G, glm G, gR G, m0, n0) c E P o ∧ m0 ≤ gM G + 2 * b_sum (n_ol c) (gS G) + 31 * pk_K c ∧ n0 ≤ gK G + b_sum (n_ol c) (gS G) + 3 * pk_K c
def NS (G : nG) (c : cs_S) (o : Int → Int) : Prop :=
  ex_K c (gad G) (gT G) (gsl G) (gN G) ∧ (∀ n ∈ gS G, ns_C c n ∧ 237 ≤ n ∧ o (n + 1) = -1 ∧ o (n + 3) = -1 ∧ n + 9 ∈ gb G ∧ n + 12 ∈ gb G ∧ n + 15 ∈ gb G ∧ n + 18 ∈ gb G) ∧ (∀ n ∈ gS G, ∀ n' ∈ gS G, n ≠ n' → n + 21 ≤ n' ∨ n' + 21 ≤ n) ∧ (∀ n ∈ gA G, n ∈ gS G ∧ nd_C c (gad G) (gX G) n) ∧ PK c (gS G) o ∧ x_T64 (gT G) ∧ 237 ≤ c_n c
def NI (G : nG) (c : cs_S) (E : Int → bw_L) (P : List Int) (o : Int → Int) : Prop := NB G c E P o ∧ NS G c o
/-- what nodes' acts write -/
def nw (o : Int → Int) (q : Nat) (a : Int) : Prop := bw_w o q a ∨ q = 212 ∨ ((q = 41 ∨ q = 42) ∧ 237 ≤ a) ∨ (q = 540 ∧ 238 ≤ a) ∨ q = 426 ∨ q = 423 ∨ q = 424 ∨ q = 425 ∨ q = 926 ∨ q = 82 ∨ q = 83 ∨ q = 582 ∨ q = 583
def nx (c : cs_S) (o : Int → Int) (c' : cs_S) (o' : Int → Int) : Prop := c_up (nw o) c c' ∧ ∀ x, x < c_n c → o x = -1 → o' x = -1
section
variable {W : Nat → Int → Prop} {G : nG} {c c' c2 : cs_S} {E E' : Int → bw_L} {P P' : List Int} {o o' o2 : Int → Int} {n r : Int} {l : rwt} {X : nt} {ad : Int} {S : List Int}
theorem nx.rf (c : cs_S) (o : Int → Int) : nx c o c o := ⟨c_up.rf _ c, fun _ _ h => h⟩
theorem nx.tr (h1 : nx c o c' o') (h2 : nx c' o' c2 o2) : nx c o c2 o2 := by
  refine ⟨⟨Int.le_trans h1.1.1 h2.1.1, fun a ha => ⟨(h2.1.2.1 a (Int.lt_of_lt_of_le ha h1.1.1)).1.trans (h1.1.2.1 a ha).1, (h2.1.2.1 a (Int.lt_of_lt_of_le ha h1.1.1)).2.trans (h1.1.2.1 a ha).2⟩, fun q a j ha hw => ?_⟩, fun y hy ho => h2.2 y (Int.lt_of_lt_of_le hy h1.1.1) (h1.2 y hy ho)⟩
  refine (h2.1.2.2 q a j (Int.lt_of_lt_of_le ha h1.1.1) (fun w2 => hw ?_)).trans (h1.1.2.2 q a j ha hw)
  have e1 : o a = -1 → o' a = -1 := h1.2 a ha
  have e2 : o (a - 1) = -1 → o' (a - 1) = -1 := h1.2 (a - 1) (by omega)
  unfold nw at w2 hw ⊢
  rcases w2 with w2 | w2
  · left
    unfold bw_w at w2 ⊢
    omega
  · exact Or.inr w2
theorem bx.nx (h : bx c o c' o') : nx c o c' o' := ⟨h.1.mono (fun q a w => Or.inl w), h.2⟩
theorem c_sm.nx (h : c_sm W c c') (hw : ∀ q a, W q a → nw o q a) : nx c o c' o := ⟨h.up.mono hw, fun _ _ w => w⟩
/-- a row of streams stays -/
theorem nx.row (h : nx c o c' o') (hr : rw_is c r l) (ho : o r = -1) (h2 : r < 237) : rw_is c' r l := by
  have e : r + 1 - 1 = r := by omega
  refine hr.up h.1 ?_ ?_ ?_ ?_ <;> (unfold nw bw_w; try rw [e]) <;> omega
/-- roles of what stands fast in nodes and expressions -/
def nq (q : Nat) : Prop := ex_q q ∨ q = 400 ∨ q = 401 ∨ q = 402 ∨ q = 403 ∨ q = 404 ∨ q = 405 ∨ q = 406 ∨ q = 407 ∨ q = 408 ∨ q = 409 ∨ q = 410 ∨ q = 411 ∨ q = 412 ∨ q = 414 ∨ q = 415 ∨ q = 416 ∨ q = 417 ∨ q = 418 ∨ q = 419 ∨ q = 420 ∨ q = 421 ∨ q = 422 ∨ q = 917 ∨ q = 919 ∨ q = 921 ∨ q = 40
def nq2 (q : Nat) : Prop := nq q ∨ q = 426 ∨ q = 82 ∨ q = 83 ∨ q = 582
theorem nd_C.up (h : nd_C c ad X n) (hs : ns_C c n) (u : c_up W c c') (hw : ∀ q a, nq q → ¬ W q a) : nd_C c' ad X n := by
  obtain ⟨h1, h2, h3, h4, h5, h6, h7, h8, h9, ⟨h10, h11⟩, ⟨h12, h13⟩, h14, h15⟩ := h
  have en : c_r c n ≠ 0 := by rw [hs.1]; decide
  have e5 : c_r c (n + 5) ≠ 0 := by rw [hs.2.2.2.2.2.2.2.2.1.2.1]; decide
  have e6 : c_r c (n + 6) ≠ 0 := by rw [hs.2.2.2.2.2.2.2.2.2.1.2.1]; decide
  have e7 : c_r c (n + 7) ≠ 0 := by rw [hs.2.2.2.2.2.2.2.2.2.2.1.2.1]; decide
  have v : ∀ {q : Nat} {a : Int}, c_r c a ≠ 0 → nq q → ∀ j, c_v c' q a j = c_v c q a j := fun ha hq j => u.v ha (hw _ _ hq) j
  refine ⟨?_, ?_, ?_, ?_, ?_, ?_, ?_, ?_, ?_, ⟨?_, fun k e hk => ?_⟩, ⟨?_, fun k e hk => ?_⟩, fun k b hk => ?_, ?_⟩
  · rw [v en (by unfold nq; omega)]; exact h1
  · rw [v en (by unfold nq; omega)]; exact h2
  · rw [v en (by unfold nq; omega)]; exact h3
  · rw [v en (by unfold nq; omega)]; exact h4
  · rw [v en (by unfold nq; omega)]; exact h5
  · rw [v en (by unfold nq; omega)]; exact h6
  · rw [v en (by unfold nq; omega)]; exact h7
  · rw [v en (by unfold nq; omega)]; exact h8
  · rw [v en (by unfold nq; omega)]; exact h9
  · rw [v en (by unfold nq; omega)]; exact h10
  · rw [v e5 (by unfold nq; omega)]; exact h11 k e hk
  · rw [v en (by unfold nq; omega)]; exact h12
  · rw [v e6 (by unfold nq; omega)]; exact h13 k e hk
  · rw [v e7 (by unfold nq; omega)]; exact h14 k b hk
  · rw [v en (by unfold nq; omega)]; exact h15
theorem ns_C.up (h : ns_C c n) (u : c_up W c c') (hw : ∀ q a, nq q → ¬ W q a) (ho : ¬ W 426 n) : ns_C c' n ∧ n_ol c' n = n_ol c n := by
  obtain ⟨h1, h2, h3, h4, h5, h6, h7, h8, ⟨h9, h10, h11⟩, ⟨h12, h13, h14⟩, ⟨h15, h16, h17⟩, ⟨h18, h19, h19b⟩, h20, h21, h22⟩ := h
  have en : c_r c n ≠ 0 := by rw [h1]; decide
  have e5 : c_r c (n + 5) ≠ 0 := by rw [h10]; decide
  have e6 : c_r c (n + 6) ≠ 0 := by rw [h13]; decide
  have e7 : c_r c (n + 7) ≠ 0 := by rw [h16]; decide
  have v : ∀ {q : Nat} {a : Int}, c_r c a ≠ 0 → nq q → ∀ j, c_v c' q a j = c_v c q a j := fun ha hq j => u.v ha (hw _ _ hq) j
  have eo : c_v c' 426 n 0 = c_v c 426 n 0 := u.v en ho 0
  have er : c_r c (c_v c 426 n 0) ≠ 0 := by rw [h18]; decide
  refine ⟨⟨u.r h1 (by decide), ?_, ?_, ?_, ?_, ?_, ?_, ?_, ⟨?_, u.r h10 (by decide), by rw [u.l e5]; exact h11⟩, ⟨?_, u.r h13 (by decide), by rw [u.l e6]; exact h14⟩, ⟨?_, u.r h16 (by decide), by rw [u.l e7]; exact h17⟩, ⟨by rw [eo]; exact u.r h18 (by decide), by rw [eo, u.l er]; exact h19, by rw [eo, u.l er]; exact h19b⟩, h20.up u (hw _ _ (by unfold nq; omega)), h21.up u (hw _ _ (by unfold nq; omega)), by have := u.1; omega⟩, by unfold n_ol; rw [eo, u.l er]⟩
  · rw [v en (by unfold nq; omega)]; exact h2
  · rw [v en (by unfold nq; omega)]; exact h3
  · rw [v en (by unfold nq; omega)]; exact h4
  · rw [v en (by unfold nq; omega)]; exact h5
  · rw [v en (by unfold nq; omega)]; exact h6
  · rw [v en (by unfold nq; omega)]; exact h7
  · rw [v en (by unfold nq; omega)]; exact h8
  · rw [v en (by unfold nq; omega)]; exact h9
  · rw [v en (by unfold nq; omega)]; exact h12
  · rw [v en (by unfold nq; omega)]; exact h15
theorem PK.up (h : PK c S o) (h7 : c_r c 7 = 1002) (u : c_up W c c') (hw : ∀ q a, nq2 q → ¬ W q a) (ho : ∀ x, x < c_n c → o x = -1 → o' x = -1) : PK c' S o' ∧ pk_K c' = pk_K c := by
  obtain ⟨h1, h2, h3, h4, h5, h6⟩ := h
  have e7 : c_r c 7 ≠ 0 := by rw [h7]; decide
  have v : ∀ {q : Nat} {a : Int}, c_r c a ≠ 0 → nq2 q → ∀ j, c_v c' q a j = c_v c q a j := fun ha hq j => u.v ha (hw _ _ hq) j
  have ek := v (q := 82) e7 (by unfold nq2; omega) 0
  have em := v (q := 83) e7 (by unfold nq2; omega) 0
  have nk : c_r c (c_v c 82 7 0) ≠ 0 := by rw [h1]; decide
  have nm : c_r c (c_v c 83 7 0) ≠ 0 := by rw [h2]; decide
  have eK : pk_K c' = pk_K c := by unfold pk_K; rw [ek, u.l nk]
  have ey : ∀ i, pk_y c' i = pk_y c i := by intro i; unfold pk_y; rw [ek, v nk (by unfold nq2; omega)]
  refine ⟨⟨by rw [ek]; exact u.r h1 (by decide), by rw [em]; exact u.r h2 (by decide), by rw [em, u.l nm, eK]; exact h3, by rw [eK]; exact h4, by rw [eK]; exact h5, fun i hi hi2 => ?_⟩, eK⟩
  rw [eK] at hi2
  rw [ey]
  obtain ⟨a1, a2, a3, a4, a5⟩ := h6 i hi hi2
  refine ⟨a1.up u (hw _ _ (by unfold nq2 nq; omega)), ho _ (c_r_in (by rw [a1.1]; decide)).2 a2, a3, a4, fun j hj hj2 hne => ?_⟩
  rw [ey]
  rw [eK] at hj2
  exact a5 j hj hj2 hne
theorem NS.up (h : NS G c o) (h7 : c_r c 7 = 1002) (u : c_up W c c') (hw : ∀ q a, nq2 q → ¬ W q a) (ho : ∀ x, x < c_n c → o x = -1 → o' x = -1) : NS G c' o' ∧ pk_K c' = pk_K c ∧ b_sum (n_ol c') (gS G) = b_sum (n_ol c) (gS G) := by
  obtain ⟨h1, h2, h3, h4, h5, h6, h237⟩ := h
  have hw1 : ∀ q a, nq q → ¬ W q a := fun q a hq => hw q a (Or.inl hq)
  obtain ⟨p1, p2⟩ := h5.up h7 u hw ho
  refine ⟨⟨h1.up u (fun q a hq => hw q a (Or.inl (Or.inl hq))), fun n hn => ?_, h3, fun n hn => ⟨(h4 n hn).1, (h4 n hn).2.up (h2 n (h4 n hn).1).1 u hw1⟩, p1, h6, by have := u.1; omega⟩, p2, b_sum_congr (fun n hn => ((h2 n hn).1.up u hw1 (hw _ _ (by unfold nq2; omega))).2)⟩
  obtain ⟨a1, a2, a3, a4, a5⟩ := h2 n hn
  exact ⟨(a1.up u hw1 (hw _ _ (by unfold nq2; omega))).1, a2, ho _ (c_r_in (by rw [a1.2.2.2.2.2.2.2.2.2.2.2.2.1.1]; decide)).2 a3, ho _ (c_r_in (by rw [a1.2.2.2.2.2.2.2.2.2.2.2.2.2.1.1]; decide)).2 a4, a5⟩
theorem NI.p7 (h : NI G c E P o) : c_r c 7 = 1002 := by obtain ⟨⟨m0, n0, hb, -⟩, -⟩ := h; exact hb.1.1
/-- bags' acts -/
theorem NI.bstep (h : NI G c E P o) (b : bx c o c' o') (hb : ∀ m0 n0, BI (gb G, gcp G, glm G, gR G, m0, n0) c E P o → BI (gb G, gcp G, glm G, gR G, m0, n0) c' E' P' o') : NI G c' E' P' o' := by
  obtain ⟨⟨m0, n0, h1, h2, h3⟩, h4⟩ := id h
  obtain ⟨g1, g2, g3⟩ := h4.up h.p7 b.1 (fun q a hq hw => by unfold nq2 nq ex_q at hq; unfold bw_w at hw; omega) b.2
  exact ⟨⟨m0, n0, hb m0 n0 h1, by rw [g2, g3]; exact h2, by rw [g2, g3]; exact h3⟩, g1⟩
/-- writing aside -/
theorem NI.sm (h : NI G c E P o) (s : c_sm W c c') (hw : ∀ q a, W q a → bw_k o q a ∧ ¬ nq2 q) : NI G c' E P o := by
  obtain ⟨⟨m0, n0, h1, h2, h3⟩, h4⟩ := id h
  obtain ⟨g1, g2, g3⟩ := h4.up (o' := o) h.p7 s.up (fun q a hq w => (hw q a w).2 hq) (fun _ _ w => w)
  exact ⟨⟨m0, n0, h1.keep s (fun q a w => (hw q a w).1), by rw [g2, g3]; exact h2, by rw [g2, g3]; exact h3⟩, g1⟩
end
