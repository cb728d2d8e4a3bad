set_option maxRecDepth 100000
/-! SELECTS and QUERIES as they were read, pure -/
abbrev vSrc : Type := (Option Nat × Nat × Int × Nat) × (Int × Bool × Int)
def o_q (x : vSrc) : Option Nat := x.1.1
def o_tok (x : vSrc) : Nat := x.1.2.1
def o_keep (x : vSrc) : Int := x.1.2.2.1
def o_nm (x : vSrc) : Nat := x.1.2.2.2
def o_jn (x : vSrc) : Int := x.2.1
def o_lf (x : vSrc) : Bool := x.2.2.1
def o_on (x : vSrc) : Int := x.2.2.2
abbrev vSel : Type := (Int × List (Nat × Int) × List vSrc) × (Int × Int × List (Nat × Nat) × Int) × List Nat
def s_dis (r : vSel) : Int := r.1.1
def s_its (r : vSel) : List (Nat × Int) := r.1.2.1
def s_src (r : vSel) : List vSrc := r.1.2.2
def s_whr (r : vSel) : Int := r.2.1.1
def s_grp (r : vSel) : Int := r.2.1.2.1
def s_grs (r : vSel) : List (Nat × Nat) := r.2.1.2.2.1
def s_hav (r : vSel) : Int := r.2.1.2.2.2
def s_ags (r : vSel) : List Nat := r.2.2
abbrev vQry : Type := List (Nat × Int × Int) × (Int × List (Nat × Bool) × Int)
def q_sls (r : vQry) : List (Nat × Int × Int) := r.1
def q_ord (r : vQry) : Int := r.2.1
def q_ors (r : vQry) : List (Nat × Bool) := r.2.2.1
def q_lim (r : vQry) : Int := r.2.2.2
/-! the component's SELECT -/
def sl_t : List (Nat × Int × Int) := [(362, 1, 8), (363, 2, 8), (364, 3, 8), (366, 4, 4), (367, 5, 4), (368, 6, 4), (369, 7, 4), (370, 8, 4), (371, 9, 4), (372, 10, 4), (373, 11, 4), (374, 12, 4), (375, 13, 4), (380, 14, 8), (381, 15, 8), (384, 16, 12)]
def slA (c : cs_S) (A : Int) : Prop := c_r c A = 1009 ∧ ∀ t ∈ sl_t, c_v c t.1 A 0 = A + t.2.1 ∧ c_r c (A + t.2.1) = t.1 + 500 ∧ c_l c (A + t.2.1) = t.2.2
def srcC (c : cs_S) (qa : Nat → Int) (A : Int) (k : Nat) (x : vSrc) : Prop :=
  (match o_q x with
    | some q => c_v c 866 (A + 4) k = qa q ∧ c_v c 867 (A + 5) k = (o_tok x : Int)
    | none => c_v c 866 (A + 4) k = -1 ∧ c_v c 868 (A + 6) k = (o_tok x : Int) ∧ c_v c 869 (A + 7) k = o_keep x)
  ∧ c_v c 870 (A + 8) k = (o_nm x : Int) ∧ c_v c 871 (A + 9) k = o_jn x ∧ c_v c 872 (A + 10) k = (if o_lf x = true then 1 else 0) ∧ (o_on x ≠ -2 → c_v c 873 (A + 11) k = o_on x)
/-- what was read of it, aggregates aside -/
def selC (c : cs_S) (qa : Nat → Int) (A : Int) (r : vSel) : Prop :=
  c_v c 360 A 0 = s_dis r
  ∧ (c_v c 361 A 0 = ((s_its r).length : Int) ∧ (s_its r).length ≤ 8 ∧ ∀ (k : Nat) (x : Nat × Int), (s_its r)[k]? = some x → c_v c 862 (A + 1) k = (x.1 : Int) ∧ c_v c 863 (A + 2) k = x.2)
  ∧ (c_v c 365 A 0 = ((s_src r).length : Int) ∧ (s_src r).length ≤ 3 ∧ (∀ (k : Nat) (x : vSrc), (s_src r)[k]? = some x → srcC c qa A k x) ∧ ∀ k : Nat, k < 4 → (s_src r).length ≤ k → c_v c 866 (A + 4) k = -1)
  ∧ c_v c 377 A 0 = s_whr r ∧ c_v c 378 A 0 = s_grp r
  ∧ (c_v c 379 A 0 = ((s_grs r).length : Int) ∧ (s_grs r).length ≤ 8 ∧ ∀ (k : Nat) (x : Nat × Nat), (s_grs r)[k]? = some x → c_v c 880 (A + 14) k = (x.1 : Int) ∧ c_v c 881 (A + 15) k = (x.2 : Int))
  ∧ c_v c 382 A 0 = s_hav r
def agS (c : cs_S) (A : Int) (g : List Nat) : Prop := c_v c 383 A 0 = (g.length : Int) ∧ g.length ≤ 12 ∧ ∀ (k e : Nat), g[k]? = some e → c_v c 884 (A + 16) k = (e : Int)
/-- one SELECT stays -/
def sAg (c c' : cs_S) (A : Int) : Prop := (∀ a, A ≤ a → a ≤ A + 16 → c_r c' a = c_r c a ∧ c_l c' a = c_l c a) ∧ ∀ (q : Nat) (a j : Int), A ≤ a → a ≤ A + 16 → ((360 ≤ q ∧ q ≤ 385) ∨ (862 ≤ q ∧ q ≤ 884)) → q ≠ 383 → q ≠ 884 → c_v c' q a j = c_v c q a j
def sAg2 (c c' : cs_S) (A : Int) : Prop := sAg c c' A ∧ (∀ j, c_v c' 383 A j = c_v c 383 A j) ∧ ∀ j, c_v c' 884 (A + 16) j = c_v c 884 (A + 16) j
section
variable {c c' c2 : cs_S} {A : Int} {qa : Nat → Int} {r : vSel} {g : List Nat} {W : Nat → Int → Prop} {x : vSrc} {k : Nat}
theorem sl_t_in {t : Nat × Int × Int} (h : t ∈ sl_t) : 362 ≤ t.1 ∧ t.1 ≤ 384 ∧ 1 ≤ t.2.1 ∧ t.2.1 ≤ 16 ∧ t.1 ≠ 383 := by
  revert h t
  decide
theorem slA.ag (h : slA c A) (s : sAg c c' A) : slA c' A := by
  refine ⟨by rw [(s.1 A (by omega) (by omega)).1]; exact h.1, fun t ht => ?_⟩
  have hb := sl_t_in ht
  obtain ⟨h1, h2, h3⟩ := h.2 t ht
  refine ⟨?_, by rw [(s.1 _ (by omega) (by omega)).1]; exact h2, by rw [(s.1 _ (by omega) (by omega)).2]; exact h3⟩
  rw [s.2 _ _ _ (by omega) (by omega) (by omega) (by omega) (by omega)]
  exact h1
theorem srcC.ag (h : srcC c qa A k x) (s : sAg c c' A) : srcC c' qa A k x := by
  have v : ∀ (q : Nat) (a j : Int), A ≤ a → a ≤ A + 16 → 862 ≤ q → q < 884 → c_v c' q a j = c_v c q a j := fun q a j h1 h2 h3 h4 => s.2 q a j h1 h2 (by omega) (by omega) (by omega)
  unfold srcC at h ⊢
  cases hq : o_q x with
  | some q =>
    rw [hq] at h
    simp only at h ⊢
    rw [v _ _ _ (by omega) (by omega) (by omega) (by omega), v _ _ _ (by omega) (by omega) (by omega) (by omega), v _ _ _ (by omega) (by omega) (by omega) (by omega), v _ _ _ (by omega) (by omega) (by omega) (by omega), v _ _ _ (by omega) (by omega) (by omega) (by omega), v _ _ _ (by omega) (by omega) (by omega) (by omega)]
    exact h
  | none =>
    rw [hq] at h
    simp only at h ⊢
    rw [v _ _ _ (by omega) (by omega) (by omega) (by omega), v _ _ _ (by omega) (by omega) (by omega) (by omega), v _ _ _ (by omega) (by omega) (by omega) (by omega), v _ _ _ (by omega) (by omega) (by omega) (by omega), v _ _ _ (by omega) (by omega) (by omega) (by omega), v _ _ _ (by omega) (by omega) (by omega) (by omega), v _ _ _ (by omega) (by omega) (by omega) (by omega)]
    exact h
theorem selC.ag (h : selC c qa A r) (s : sAg c c' A) : selC c' qa A r := by
  have u : ∀ q : Nat, 360 ≤ q → q ≤ 382 → c_v c' q A 0 = c_v c q A 0 := fun q h1 h2 => s.2 q A 0 (by omega) (by omega) (by omega) (by omega) (by omega)
  have v : ∀ (q : Nat) (a j : Int), A ≤ a → a ≤ A + 16 → 862 ≤ q → q < 884 → c_v c' q a j = c_v c q a j := fun q a j h1 h2 h3 h4 => s.2 q a j h1 h2 (by omega) (by omega) (by omega)
  obtain ⟨h1, ⟨a1, a2, a3⟩, ⟨b1, b2, b3, b4⟩, h4, h5, ⟨d1, d2, d3⟩, h7⟩ := h
  refine ⟨by rw [u _ (by omega) (by omega)]; exact h1, ⟨by rw [u _ (by omega) (by omega)]; exact a1, a2, fun k x hx => by rw [v _ _ _ (by omega) (by omega) (by omega) (by omega), v _ _ _ (by omega) (by omega) (by omega) (by omega)]; exact a3 k x hx⟩, ⟨by rw [u _ (by omega) (by omega)]; exact b1, b2, fun k x hx => (b3 k x hx).ag s, fun k h1 h2 => by rw [v _ _ _ (by omega) (by omega) (by omega) (by omega)]; exact b4 k h1 h2⟩, by rw [u _ (by omega) (by omega)]; exact h4, by rw [u _ (by omega) (by omega)]; exact h5, ⟨by rw [u _ (by omega) (by omega)]; exact d1, d2, fun k x hx => by rw [v _ _ _ (by omega) (by omega) (by omega) (by omega), v _ _ _ (by omega) (by omega) (by omega) (by omega)]; exact d3 k x hx⟩, by rw [u _ (by omega) (by omega)]; exact h7⟩
theorem agS.ag (h : agS c A g) (s : sAg2 c c' A) : agS c' A g := ⟨by rw [s.2.1]; exact h.1, h.2.1, fun k e he => by rw [s.2.2]; exact h.2.2 k e he⟩
theorem sAg.up (u : c_up W c c') (hA : A + 16 < c_n c) (hw : ∀ (q : Nat) (a : Int), A ≤ a → a ≤ A + 16 → ((360 ≤ q ∧ q ≤ 385) ∨ (862 ≤ q ∧ q ≤ 884)) → q ≠ 383 → q ≠ 884 → ¬ W q a) : sAg c c' A :=
  ⟨fun a h1 h2 => u.2.1 a (by omega), fun q a j h1 h2 h3 h4 h5 => u.2.2 q a j (by omega) (hw q a h1 h2 h3 h4 h5)⟩
theorem sAg2.up (u : c_up W c c') (hA : A + 16 < c_n c) (hw : ∀ (q : Nat) (a : Int), A ≤ a → a ≤ A + 16 → ((360 ≤ q ∧ q ≤ 385) ∨ (862 ≤ q ∧ q ≤ 884)) → ¬ W q a) : sAg2 c c' A :=
  ⟨sAg.up u hA (fun q a h1 h2 h3 _ _ => hw q a h1 h2 h3), fun j => u.2.2 _ _ _ (by omega) (hw _ _ (by omega) (by omega) (by omega)), fun j => u.2.2 _ _ _ (by omega) (hw _ _ (by omega) (by omega) (by omega))⟩
theorem slA.n (h : slA c A) : 0 ≤ A ∧ A + 16 < c_n c := by
  have h1 := c_r_in (c := c) (a := A) (by rw [h.1]; decide)
  have h2 := (h.2 (384, 16, 12) (by decide)).2.1
  have h3 := c_r_in (c := c) (a := A + 16) (by rw [show A + 16 = A + (384, (16 : Int), (12 : Int)).2.1 from rfl, h2]; decide)
  omega
end
/-! the component's QUERY -/
def qr_t : List (Nat × Int × Int) := [(326, 4, 8), (327, 5, 8), (330, 6, 8), (331, 7, 8)]
def qrA (c : cs_S) (A : Int) : Prop := c_r c A = 1008 ∧ (∀ t ∈ qr_t, c_v c t.1 A 0 = A + t.2.1 ∧ c_r c (A + t.2.1) = t.1 + 500 ∧ c_l c (A + t.2.1) = t.2.2)
  ∧ (c_r c (c_v c 320 A 0) = 820 ∧ c_r c (c_v c 321 A 0) = 821 ∧ c_r c (c_v c 322 A 0) = 822)
  ∧ c_l c (c_v c 321 A 0) = c_l c (c_v c 320 A 0) ∧ c_l c (c_v c 322 A 0) = c_l c (c_v c 320 A 0) ∧ (c_l c (c_v c 320 A 0) = 2 ∨ c_l c (c_v c 320 A 0) = 4)
def qryC (c : cs_S) (sa : Nat → Int) (A : Int) (r : vQry) : Prop :=
  (c_v c 323 A 0 = ((q_sls r).length : Int) ∧ (q_sls r).length ≤ 4 ∧ ((q_sls r).length : Int) ≤ c_l c (c_v c 320 A 0) ∧ ∀ (k : Nat) (x : Nat × Int × Int), (q_sls r)[k]? = some x → c_v c 820 (c_v c 320 A 0) k = sa x.1 ∧ c_v c 821 (c_v c 321 A 0) k = x.2.1 ∧ c_v c 822 (c_v c 322 A 0) k = x.2.2)
  ∧ c_v c 324 A 0 = q_ord r
  ∧ (c_v c 325 A 0 = ((q_ors r).length : Int) ∧ (q_ors r).length ≤ 8 ∧ ∀ (k : Nat) (x : Nat × Bool), (q_ors r)[k]? = some x → c_v c 826 (A + 4) k = (x.1 : Int) ∧ c_v c 827 (A + 5) k = (if x.2 = true then 1 else 0))
  ∧ (q_ord r ≠ -1 → q_lim r ≠ -2 → c_v c 328 A 0 = q_lim r)
/-- the model's SELECT -/
def m_pl (b : Int → Int) (n : Nat) (t : Int) : Int := if t = -1 then -1 else (tk_p b n t.toNat : Int)
def m_src (s : ms_S) (b : Int → Int) (n : Nat) (o : Int) (x : vSrc) : Prop :=
  (match o_q x with
    | some q => s 49 o = -1 ∧ s 53 o = (q : Int) ∧ s 54 o = (tk_p b n (o_tok x) : Int)
    | none => s 49 o = (tk_w b n (o_tok x)).getD 1 0 - 48 ∧ s 50 o = (tk_p b n (o_tok x) : Int) ∧ s 51 o = (if 0 ≤ o_keep x then 1 else 0) ∧ (0 ≤ o_keep x → s 52 o = o_keep x))
  ∧ s 55 o = (o_nm x : Int) ∧ s 57 o = m_pl b n (o_jn x) ∧ s 56 o = (if o_lf x = true then 1 else 0) ∧ (o_on x ≠ -2 → s 58 o = o_on x)
def mSel (s : ms_S) (b : Int → Int) (n : Nat) (i : Nat) (r : vSel) : Prop :=
  s 35 i = m_pl b n (s_dis r)
  ∧ (s 36 i = ((s_its r).length : Int) ∧ ∀ (k : Nat) (x : Nat × Int), (s_its r)[k]? = some x → s 44 ((8 * i + k : Nat) : Int) = (x.1 : Int) ∧ s 45 ((8 * i + k : Nat) : Int) = x.2)
  ∧ (s 37 i = ((s_src r).length : Int) ∧ ∀ (k : Nat) (x : vSrc), (s_src r)[k]? = some x → m_src s b n ((3 * i + k : Nat) : Int) x)
  ∧ s 38 i = s_whr r ∧ s 40 i = m_pl b n (s_grp r)
  ∧ (s 39 i = ((s_grs r).length : Int) ∧ ∀ (k : Nat) (x : Nat × Nat), (s_grs r)[k]? = some x → s 47 ((8 * i + k : Nat) : Int) = (x.1 : Int) ∧ s 48 ((8 * i + k : Nat) : Int) = (x.2 : Int))
  ∧ s 41 i = s_hav r
def mAgs (s : ms_S) (b : Int → Int) (n : Nat) (B : Nat → Nat × Nat) (i : Nat) (g : List Nat) : Prop := s 42 i = (g.length : Int) ∧ s 43 i = g_fst b n B g
def mQry (s : ms_S) (b : Int → Int) (n : Nat) (i : Nat) (r : vQry) : Prop :=
  (s 60 i = ((q_sls r).length : Int) ∧ ∀ (k : Nat) (x : Nat × Int × Int), (q_sls r)[k]? = some x → s 61 ((5 * i + k : Nat) : Int) = (x.1 : Int) ∧ (0 < k → s 62 ((5 * i + k : Nat) : Int) = x.2.2 - 5 ∧ s 63 ((5 * i + k : Nat) : Int) = m_pl b n x.2.1))
  ∧ s 65 i = m_pl b n (q_ord r)
  ∧ (s 64 i = ((q_ors r).length : Int) ∧ ∀ (k : Nat) (x : Nat × Bool), (q_ors r)[k]? = some x → s 66 ((8 * i + k : Nat) : Int) = (x.1 : Int) ∧ s 67 ((8 * i + k : Nat) : Int) = (if x.2 = true then 1 else 0))
  ∧ (q_ord r ≠ -1 → q_lim r ≠ -2 → s 68 i = q_lim r)
