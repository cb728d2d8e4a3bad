set_option maxRecDepth 100000
/-! positions in a text: bytes, EXPRS, SELECTS, QUERIES, streams; what was read stands between them -/
abbrev pP : Type := Nat × Nat × Nat × Nat × Nat
def p_y (p : pP) : Nat := p.1
def p_e (p : pP) : Nat := p.2.1
def p_s (p : pP) : Nat := p.2.2.1
def p_q (p : pP) : Nat := p.2.2.2.1
def p_c (p : pP) : Nat := p.2.2.2.2
def pW (w : Nat) (lo hi : pP) : Prop := p_y lo + w ≤ p_y hi ∧ p_e hi = p_e lo ∧ p_s hi = p_s lo ∧ p_q hi = p_q lo ∧ p_c hi = p_c lo
def p_le (lo hi : pP) : Prop := p_y lo ≤ p_y hi ∧ p_e lo ≤ p_e hi ∧ p_s lo ≤ p_s hi ∧ p_q lo ≤ p_q hi ∧ p_c lo ≤ p_c hi
abbrev tT : Type := (xt × (Nat → Nat × Nat)) × (Nat → vSel) × (Nat → vQry)
def tX (Y : tT) : xt := Y.1.1
def tB (Y : tT) : Nat → Nat × Nat := Y.1.2
def tS (Y : tT) : Nat → vSel := Y.2.1
def tQ (Y : tT) : Nat → vQry := Y.2.2
/-- an EXPR, with so many bytes -/
def xB (Y : tT) (K : Nat) (g : List Nat) (w : Nat) (lo hi : pP) (x : Nat) : Prop := p_e lo ≤ x ∧ p_e hi = x + 1 ∧ p_y lo + w ≤ p_y hi ∧ p_s hi = p_s lo ∧ p_q hi = p_q lo ∧ p_c hi = p_c lo ∧ xo (tX Y) (p_e lo) (p_e hi) (fun e => e + 1 = p_e hi) ∧ ∀ e, p_e lo ≤ e → e < p_e hi → x_p (tX Y) K (p_e lo) e ∧ (tB Y e).1 ≤ K ∧ (tB Y e).2 ≤ K ∧ (25 ≤ x_act (tX Y) e → e ∈ g)
def xL (Y : tT) (K : Nat) (g : List Nat) (w : Nat) : List Nat → pP → pP → Prop
  | [], lo, hi => hi = lo
  | x :: l, lo, hi => ∃ m, xB Y K g w lo m x ∧ xL Y K g w l m hi
def tk_st (b : Int → Int) (n k : Nat) : Prop := tk_nm b n k ∧ ∃ d, tk_w b n k = [115, d] ∧ 48 ≤ d ∧ d ≤ 57
abbrev tPq : Type := Nat → pP → pP → Prop
/-- a SOURCE -/
def srB (K : Nat) (b : Int → Int) (n : Nat) (P : tPq) (lo hi : pP) (x : vSrc) : Prop := o_nm x ≤ K ∧ o_tok x ≤ K ∧ (match o_q x with
  | some q => ∃ m m', pW 1 lo m ∧ p_q m = q ∧ P q m m' ∧ pW 4 m' hi
  | none => p_y lo + 5 ≤ p_y hi ∧ p_e hi = p_e lo ∧ p_s hi = p_s lo ∧ p_q hi = p_q lo ∧ p_c hi = p_c lo + 1 ∧ tk_st b n (o_tok x) ∧ -1 ≤ o_keep x ∧ o_keep x ≤ 9223372036854775807)
def jnB (Y : tT) (K : Nat) (b : Int → Int) (n : Nat) (P : tPq) (lo hi : pP) (x : vSrc) : Prop := 0 ≤ o_jn x ∧ o_jn x ≤ K ∧ ∃ (m1 m2 m3 : pP) (e : Nat), pW 4 lo m1 ∧ srB K b n P m1 m2 x ∧ pW 2 m2 m3 ∧ o_on x = (e : Int) ∧ xB Y K [] 1 m3 hi e
def jnL (Y : tT) (K : Nat) (b : Int → Int) (n : Nat) (P : tPq) : List vSrc → pP → pP → Prop
  | [], lo, hi => hi = lo
  | x :: l, lo, hi => ∃ m, jnB Y K b n P lo m x ∧ jnL Y K b n P l m hi
def whB (Y : tT) (K : Nat) (g : List Nat) (w : Nat) (lo hi : pP) (x : Int) : Prop := (x = -1 ∧ hi = lo) ∨ ∃ (m : pP) (e : Nat), x = (e : Int) ∧ pW w lo m ∧ xB Y K g 1 m hi e
def grB (Y : tT) (K : Nat) (lo hi : pP) (x : Int) (l : List (Nat × Nat)) : Prop := (x = -1 ∧ l = [] ∧ hi = lo) ∨ (0 ≤ x ∧ x ≤ K ∧ l ≠ [] ∧ (∀ t ∈ l, t.2 ≤ K) ∧ ∃ m, pW 7 lo m ∧ xL Y K [] 4 (l.map Prod.fst) m hi)
/-- the head of a SELECT -/
def hdB (K : Nat) (lo hi : pP) (d : Int) : Prop := p_y lo + 6 + (if d = -1 then 0 else 8) ≤ p_y hi ∧ p_e hi = p_e lo ∧ p_s hi = p_s lo + 1 ∧ p_q hi = p_q lo ∧ p_c hi = p_c lo ∧ (d = -1 ∨ (0 ≤ d ∧ d ≤ K))
def itB (Y : tT) (K : Nat) (g : List Nat) (lo hi : pP) (l : List (Nat × Int)) : Prop := xL Y K g 1 (l.map Prod.fst) lo hi ∧ l ≠ [] ∧ l.length ≤ 8 ∧ ∀ t ∈ l, -1 ≤ t.2 ∧ t.2 ≤ K
def frB (Y : tT) (K : Nat) (b : Int → Int) (n : Nat) (P : tPq) (lo hi : pP) (l : List vSrc) : Prop := ∃ (x0 : vSrc) (l' : List vSrc) (ma mb : pP), l = x0 :: l' ∧ l'.length ≤ 2 ∧ pW 4 lo ma ∧ srB K b n P ma mb x0 ∧ jnL Y K b n P l' mb hi
def slB (Y : tT) (K : Nat) (b : Int → Int) (n : Nat) (P : tPq) (r : vSel) (lo hi : pP) : Prop := ∃ m0 m1 m2 m3 m4 : pP, hdB K lo m0 (s_dis r) ∧ itB Y K (s_ags r) m0 m1 (s_its r) ∧ frB Y K b n P m1 m2 (s_src r) ∧ whB Y K [] 5 m2 m3 (s_whr r) ∧ (grB Y K m3 m4 (s_grp r) (s_grs r) ∧ (s_grs r).length ≤ 8) ∧ whB Y K (s_ags r) 6 m4 hi (s_hav r) ∧ (s_ags r).length ≤ 12 ∧ ∀ e ∈ s_ags r, 25 ≤ x_act (tX Y) e ∧ ((p_e m0 ≤ e ∧ e < p_e m1) ∨ (p_e m4 ≤ e ∧ e < p_e hi))
def stL (Y : tT) (K : Nat) (b : Int → Int) (n : Nat) (P : tPq) : List (Nat × Int × Int) → pP → pP → Prop
  | [], lo, hi => hi = lo
  | x :: l, lo, hi => (0 ≤ x.2.1 ∧ x.2.1 ≤ K ∧ 6 ≤ x.2.2 ∧ x.2.2 ≤ 9) ∧ ∃ m m', pW 5 lo m ∧ x.1 = p_s m ∧ slB Y K b n P (tS Y x.1) m m' ∧ stL Y K b n P l m' hi
def orB (Y : tT) (K : Nat) (r : vQry) (lo hi : pP) : Prop := (q_ord r = -1 ∧ hi = lo) ∨ ((0 ≤ q_ord r ∧ q_ord r ≤ K) ∧ (q_ors r ≠ [] ∧ (q_ors r).length ≤ 8) ∧ (0 ≤ q_lim r ∧ q_lim r ≤ 100) ∧ ∃ m m', pW 7 lo m ∧ xL Y K [] 1 ((q_ors r).map Prod.fst) m m' ∧ pW 6 m' hi)
def qrB (Y : tT) (K : Nat) (b : Int → Int) (n : Nat) : Nat → Nat → pP → pP → Prop
  | 0, _, _, _ => False
  | f + 1, q, lo, hi => q = p_q lo ∧ ∃ (m0 m1 m2 : pP) (x0 : Nat × Int × Int) (l : List (Nat × Int × Int)), (p_y m0 = p_y lo ∧ p_e m0 = p_e lo ∧ p_s m0 = p_s lo ∧ p_q m0 = p_q lo + 1 ∧ p_c m0 = p_c lo) ∧ q_sls (tQ Y q) = x0 :: l ∧ x0.1 = p_s m0 ∧ slB Y K b n (qrB Y K b n f) (tS Y x0.1) m0 m1 ∧ stL Y K b n (qrB Y K b n f) l m1 m2 ∧ orB Y K (tQ Y q) m2 hi
/-- tables alike between two positions -/
def tAg (Y Y' : tT) (lo hi : pP) : Prop := (∀ e, e < p_e hi → tX Y' e = tX Y e ∧ tB Y' e = tB Y e) ∧ (∀ i, p_s lo ≤ i → i < p_s hi → tS Y' i = tS Y i) ∧ ∀ i, p_q lo ≤ i → i < p_q hi → tQ Y' i = tQ Y i
section
variable {Y Y' : tT} {K n w x q : Nat} {b : Int → Int} {g g' : List Nat} {lo hi m m' lo' hi' : pP} {P P' : tPq} {l : List Nat}
theorem p_le.rf (p : pP) : p_le p p := ⟨Nat.le_refl _, Nat.le_refl _, Nat.le_refl _, Nat.le_refl _, Nat.le_refl _⟩
theorem p_le.tr (h : p_le lo m) (h' : p_le m hi) : p_le lo hi := by unfold p_le at *; omega
theorem pW.le (h : pW w lo hi) : p_le lo hi := by unfold pW at h; unfold p_le; omega
theorem xB.le (h : xB Y K g w lo hi x) : p_le lo hi := by
  obtain ⟨h1, h2, h3, h4, h5, h6, -⟩ := h
  unfold p_le; omega
theorem xL.le : ∀ {l : List Nat} {lo : pP}, xL Y K g w l lo hi → p_le lo hi := by
  intro l
  induction l with
  | nil => intro lo h; have h : hi = lo := h; rw [h]; exact p_le.rf _
  | cons x l ih => intro lo ⟨m, h1, h2⟩; exact h1.le.tr (ih h2)
theorem srB.le {x : vSrc} (hP : ∀ q lo hi, P q lo hi → p_le lo hi) (h : srB K b n P lo hi x) : p_le lo hi := by
  obtain ⟨-, -, h⟩ := h
  cases hq : o_q x with
  | some q => rw [hq] at h; obtain ⟨m, m', h1, -, h2, h3⟩ := h; exact h1.le.tr ((hP _ _ _ h2).tr h3.le)
  | none => rw [hq] at h; obtain ⟨h1, h2, h3, h4, h5, -⟩ := h; unfold p_le; omega
theorem jnB.le {x : vSrc} (hP : ∀ q lo hi, P q lo hi → p_le lo hi) (h : jnB Y K b n P lo hi x) : p_le lo hi := by
  obtain ⟨-, -, m1, m2, m3, e, h1, h2, h3, -, h4⟩ := h
  exact h1.le.tr ((h2.le hP).tr (h3.le.tr h4.le))
theorem jnL.le (hP : ∀ q lo hi, P q lo hi → p_le lo hi) : ∀ {l : List vSrc} {lo : pP}, jnL Y K b n P l lo hi → p_le lo hi := by
  intro l
  induction l with
  | nil => intro lo h; have h : hi = lo := h; rw [h]; exact p_le.rf _
  | cons x l ih => intro lo ⟨m, h1, h2⟩; exact (h1.le hP).tr (ih h2)
theorem whB.le {x : Int} (h : whB Y K g w lo hi x) : p_le lo hi := by
  rcases h with ⟨-, h⟩ | ⟨m, e, -, h1, h2⟩
  · rw [h]; exact p_le.rf _
  · exact h1.le.tr h2.le
theorem grB.le {x : Int} {l : List (Nat × Nat)} (h : grB Y K lo hi x l) : p_le lo hi := by
  rcases h with ⟨-, -, h⟩ | ⟨-, -, -, -, m, h1, h2⟩
  · rw [h]; exact p_le.rf _
  · exact h1.le.tr h2.le
theorem hdB.le {d : Int} (h : hdB K lo hi d) : p_le lo hi := by
  obtain ⟨h1, h2, h3, h4, h5, -⟩ := h
  unfold p_le; omega
theorem frB.le {l : List vSrc} (hP : ∀ q lo hi, P q lo hi → p_le lo hi) (h : frB Y K b n P lo hi l) : p_le lo hi := by
  obtain ⟨x0, l', ma, mb, -, -, h1, h2, h3⟩ := h
  exact h1.le.tr ((h2.le hP).tr (h3.le hP))
theorem slB.le {r : vSel} (hP : ∀ q lo hi, P q lo hi → p_le lo hi) (h : slB Y K b n P r lo hi) : p_le lo hi ∧ p_s lo < p_s hi := by
  obtain ⟨m0, m1, m2, m3, m4, h1, h2, h3, h4, h5, h6, -⟩ := h
  have a := h2.1.le.tr ((h3.le hP).tr (h4.le.tr (h5.1.le.tr h6.le)))
  refine ⟨h1.le.tr a, ?_⟩
  have := h1.2.2.1
  have := a.2.2.1
  omega
theorem stL.le (hP : ∀ q lo hi, P q lo hi → p_le lo hi) : ∀ {l : List (Nat × Int × Int)} {lo : pP}, stL Y K b n P l lo hi → p_le lo hi := by
  intro l
  induction l with
  | nil => intro lo h; have h : hi = lo := h; rw [h]; exact p_le.rf _
  | cons x l ih => intro lo ⟨_, m, m', h1, _, h2, h3⟩; exact h1.le.tr ((h2.le hP).1.tr (ih h3))
theorem orB.le {r : vQry} (h : orB Y K r lo hi) : p_le lo hi := by
  rcases h with ⟨-, h⟩ | ⟨-, -, -, m, m', h1, h2, h3⟩
  · rw [h]; exact p_le.rf _
  · exact h1.le.tr (h2.le.tr h3.le)
theorem qrB.le : ∀ {f q : Nat} {lo hi : pP}, qrB Y K b n f q lo hi → p_le lo hi ∧ p_q lo < p_q hi := by
  intro f
  induction f with
  | zero => intro q lo hi h; exact h.elim
  | succ f ih =>
    intro q lo hi ⟨_, m0, m1, m2, x0, l, h0, _, _, h1, h2, h3⟩
    have a := (h1.le (fun q lo hi h => (ih h).1)).1.tr ((h2.le (fun q lo hi h => (ih h).1)).tr h3.le)
    unfold p_le at a ⊢
    omega
theorem tAg.sub (h : tAg Y Y' lo hi) (h1 : p_le lo lo') (h2 : p_le hi' hi) : tAg Y Y' lo' hi' := by
  obtain ⟨a1, a2, a3, a4, a5⟩ := h1
  obtain ⟨b1, b2, b3, b4, b5⟩ := h2
  exact ⟨fun e he => h.1 e (by omega), fun i h1 h2 => h.2.1 i (by omega) (by omega), fun i h1 h2 => h.2.2 i (by omega) (by omega)⟩
theorem xB.cg (h : xB Y K g w lo hi x) (a : tAg Y Y' lo hi) : xB Y' K g w lo hi x := by
  obtain ⟨h1, h2, h3, h4, h5, h6, h7, h8⟩ := h
  refine ⟨h1, h2, h3, h4, h5, h6, h7.of_eq (fun i hi => (a.1 i hi).1), fun e g1 g2 => ?_⟩
  obtain ⟨c1, c2, c3, c4⟩ := h8 e g1 g2
  rw [(a.1 e g2).2]
  refine ⟨c1.of_eq (fun i hi => (a.1 i (by omega)).1) (Nat.le_refl _), c2, c3, ?_⟩
  unfold x_act
  rw [(a.1 e g2).1]
  exact c4
theorem xB.ag (h : xB Y K g w lo hi x) (hg : ∀ e ∈ g, e ∈ g') : xB Y K g' w lo hi x := by
  obtain ⟨h1, h2, h3, h4, h5, h6, h7, h8⟩ := h
  exact ⟨h1, h2, h3, h4, h5, h6, h7, fun e g1 g2 => ⟨(h8 e g1 g2).1, (h8 e g1 g2).2.1, (h8 e g1 g2).2.2.1, fun q => hg e ((h8 e g1 g2).2.2.2 q)⟩⟩
theorem xL.cg : ∀ {l : List Nat} {lo : pP}, xL Y K g w l lo hi → tAg Y Y' lo hi → xL Y' K g w l lo hi := by
  intro l
  induction l with
  | nil => intro lo h _; exact h
  | cons x l ih => intro lo ⟨m, h1, h2⟩ a; exact ⟨m, h1.cg (a.sub (p_le.rf _) h2.le), ih h2 (a.sub h1.le (p_le.rf _))⟩
theorem xL.ag (hg : ∀ e ∈ g, e ∈ g') : ∀ {l : List Nat} {lo : pP}, xL Y K g w l lo hi → xL Y K g' w l lo hi := by
  intro l
  induction l with
  | nil => intro lo h; exact h
  | cons x l ih => intro lo ⟨m, h1, h2⟩; exact ⟨m, h1.ag hg, ih h2⟩
theorem xL.snoc {x : Nat} : ∀ {l : List Nat} {lo : pP}, xL Y K g w l lo m → xB Y K g w m hi x → xL Y K g w (l ++ [x]) lo hi := by
  intro l
  induction l with
  | nil => intro lo h h2; have h : m = lo := h; rw [h] at h2; exact ⟨hi, h2, rfl⟩
  | cons x l ih => intro lo ⟨m, h1, h2⟩ h3; exact ⟨m, h1, ih h2 h3⟩
theorem srB.cg {x : vSrc} (hm : ∀ q lo hi, P q lo hi → p_le lo hi) (hP : ∀ q lo hi, P q lo hi → tAg Y Y' lo hi → P' q lo hi) (h : srB K b n P lo hi x) (a : tAg Y Y' lo hi) : srB K b n P' lo hi x := by
  obtain ⟨h1, h2, h⟩ := h
  refine ⟨h1, h2, ?_⟩
  cases hq : o_q x with
  | some q =>
    rw [hq] at h
    obtain ⟨m, m', h1, h2, h3, h4⟩ := h
    exact ⟨m, m', h1, h2, hP _ _ _ h3 (a.sub h1.le h4.le), h4⟩
  | none => rw [hq] at h; exact h
theorem jnB.cg {x : vSrc} (hm : ∀ q lo hi, P q lo hi → p_le lo hi) (hP : ∀ q lo hi, P q lo hi → tAg Y Y' lo hi → P' q lo hi) (h : jnB Y K b n P lo hi x) (a : tAg Y Y' lo hi) : jnB Y' K b n P' lo hi x := by
  obtain ⟨a1, a2, m1, m2, m3, e, h1, h2, h3, a3, h4⟩ := h
  exact ⟨a1, a2, m1, m2, m3, e, h1, h2.cg hm hP (a.sub h1.le (h3.le.tr h4.le)), h3, a3, h4.cg (a.sub (h1.le.tr ((h2.le hm).tr h3.le)) (p_le.rf _))⟩
theorem jnL.cg (hm : ∀ q lo hi, P q lo hi → p_le lo hi) (hP : ∀ q lo hi, P q lo hi → tAg Y Y' lo hi → P' q lo hi) : ∀ {l : List vSrc} {lo : pP}, jnL Y K b n P l lo hi → tAg Y Y' lo hi → jnL Y' K b n P' l lo hi := by
  intro l
  induction l with
  | nil => intro lo h _; exact h
  | cons x l ih => intro lo ⟨m, h1, h2⟩ a; exact ⟨m, h1.cg hm hP (a.sub (p_le.rf _) (h2.le hm)), ih h2 (a.sub (h1.le hm) (p_le.rf _))⟩
theorem jnL.snoc {x : vSrc} : ∀ {l : List vSrc} {lo : pP}, jnL Y K b n P l lo m → jnB Y K b n P m hi x → jnL Y K b n P (l ++ [x]) lo hi := by
  intro l
  induction l with
  | nil => intro lo h h2; have h : m = lo := h; rw [h] at h2; exact ⟨hi, h2, rfl⟩
  | cons x l ih => intro lo ⟨m, h1, h2⟩ h3; exact ⟨m, h1, ih h2 h3⟩
theorem whB.cg {x : Int} (h : whB Y K g w lo hi x) (a : tAg Y Y' lo hi) : whB Y' K g w lo hi x := by
  rcases h with h | ⟨m, e, h0, h1, h2⟩
  · exact Or.inl h
  · exact Or.inr ⟨m, e, h0, h1, h2.cg (a.sub h1.le (p_le.rf _))⟩
theorem grB.cg {x : Int} {l : List (Nat × Nat)} (h : grB Y K lo hi x l) (a : tAg Y Y' lo hi) : grB Y' K lo hi x l := by
  rcases h with h | ⟨c1, c2, c3, c4, m, h1, h2⟩
  · exact Or.inl h
  · exact Or.inr ⟨c1, c2, c3, c4, m, h1, h2.cg (a.sub h1.le (p_le.rf _))⟩
theorem itB.cg {l : List (Nat × Int)} (h : itB Y K g lo hi l) (a : tAg Y Y' lo hi) : itB Y' K g lo hi l := ⟨h.1.cg a, h.2⟩
theorem frB.cg {l : List vSrc} (hm : ∀ q lo hi, P q lo hi → p_le lo hi) (hP : ∀ q lo hi, P q lo hi → tAg Y Y' lo hi → P' q lo hi) (h : frB Y K b n P lo hi l) (a : tAg Y Y' lo hi) : frB Y' K b n P' lo hi l := by
  obtain ⟨x0, l', ma, mb, h0, h0', h1, h2, h3⟩ := h
  exact ⟨x0, l', ma, mb, h0, h0', h1, h2.cg hm hP (a.sub h1.le (h3.le hm)), h3.cg hm hP (a.sub (h1.le.tr (h2.le hm)) (p_le.rf _))⟩
theorem slB.cg {r : vSel} (hm : ∀ q lo hi, P q lo hi → p_le lo hi) (hP : ∀ q lo hi, P q lo hi → tAg Y Y' lo hi → P' q lo hi) (h : slB Y K b n P r lo hi) (a : tAg Y Y' lo hi) : slB Y' K b n P' r lo hi := by
  obtain ⟨m0, m1, m2, m3, m4, h1, h2, h3, h4, ⟨h5, h5'⟩, h6, h7, h8⟩ := h
  have l2 := h2.1.le
  have l3 := h3.le hm
  have l4 := h4.le
  have l5 := h5.le
  have l6 := h6.le
  refine ⟨m0, m1, m2, m3, m4, h1, h2.cg (a.sub h1.le (l3.tr (l4.tr (l5.tr l6)))), h3.cg hm hP (a.sub (h1.le.tr l2) (l4.tr (l5.tr l6))), h4.cg (a.sub (h1.le.tr (l2.tr l3)) (l5.tr l6)), ⟨h5.cg (a.sub (h1.le.tr (l2.tr (l3.tr l4))) l6), h5'⟩, h6.cg (a.sub (h1.le.tr (l2.tr (l3.tr (l4.tr l5)))) (p_le.rf _)), h7, fun e he => ?_⟩
  have k1 := (l3.tr (l4.tr (l5.tr l6))).2.1
  obtain ⟨c1, c2⟩ := h8 e he
  refine ⟨?_, c2⟩
  unfold x_act
  rw [(a.1 e (by omega)).1]
  exact c1
theorem stL.cg (hm : ∀ q lo hi, P q lo hi → p_le lo hi) (hP : ∀ q lo hi, P q lo hi → tAg Y Y' lo hi → P' q lo hi) : ∀ {l : List (Nat × Int × Int)} {lo : pP}, stL Y K b n P l lo hi → tAg Y Y' lo hi → stL Y' K b n P' l lo hi := by
  intro l
  induction l with
  | nil => intro lo h _; exact h
  | cons x l ih =>
    intro lo ⟨c, m, m', h1, h0, h2, h3⟩ a
    have l2 := h2.le hm
    have l3 := h3.le hm
    have e : tS Y' x.1 = tS Y x.1 := a.2.1 _ (by have := h1.2.2.1; omega) (by have := l2.2; have := l3.2.2.1; omega)
    exact ⟨c, m, m', h1, h0, by rw [e]; exact h2.cg hm hP (a.sub h1.le l3), ih h3 (a.sub (h1.le.tr l2.1) (p_le.rf _))⟩
theorem stL.snoc {x : Nat × Int × Int} {m' : pP} (hx : 0 ≤ x.2.1 ∧ x.2.1 ≤ K ∧ 6 ≤ x.2.2 ∧ x.2.2 ≤ 9) : ∀ {l : List (Nat × Int × Int)} {lo : pP}, stL Y K b n P l lo m → pW 5 m m' → x.1 = p_s m' → slB Y K b n P (tS Y x.1) m' hi → stL Y K b n P (l ++ [x]) lo hi := by
  intro l
  induction l with
  | nil => intro lo h h1 h2 h3; have h : m = lo := h; rw [h] at h1; exact ⟨hx, m', hi, h1, h2, h3, rfl⟩
  | cons y l ih => intro lo ⟨c, m, m', h1, h0, h2, h3⟩ g1 g2 g3; exact ⟨c, m, m', h1, h0, h2, ih h3 g1 g2 g3⟩
theorem orB.cg {r : vQry} (h : orB Y K r lo hi) (a : tAg Y Y' lo hi) : orB Y' K r lo hi := by
  rcases h with h | ⟨c1, c2, c3, m, m', h1, h2, h3⟩
  · exact Or.inl h
  · exact Or.inr ⟨c1, c2, c3, m, m', h1, h2.cg (a.sub h1.le h3.le), h3⟩
theorem qrB.cg : ∀ {f q : Nat} {lo hi : pP}, qrB Y K b n f q lo hi → tAg Y Y' lo hi → qrB Y' K b n f q lo hi := by
  intro f
  induction f with
  | zero => intro q lo hi h _; exact h.elim
  | succ f ih =>
    intro q lo hi ⟨hq, m0, m1, m2, x0, l, h0, e1, e2, h1, h2, h3⟩ a
    have hm : ∀ q lo hi, qrB Y K b n f q lo hi → p_le lo hi := fun q lo hi h => h.le.1
    have l1 := h1.le hm
    have l2 := h2.le hm
    have l3 := h3.le
    have l0 : p_le lo m0 := by unfold p_le; omega
    have lq : p_q lo < p_q hi := by have := (l1.1.tr (l2.tr l3)).2.2.2.1; omega
    have eq : tQ Y' q = tQ Y q := a.2.2 q (by omega) (by omega)
    have es : tS Y' x0.1 = tS Y x0.1 := a.2.1 _ (by omega) (by have := l1.2; have := (l2.tr l3).2.2.1; omega)
    refine ⟨hq, m0, m1, m2, x0, l, h0, by rw [eq]; exact e1, e2, by rw [es]; exact h1.cg hm (fun q lo hi h a => ih h a) (a.sub l0 (l2.tr l3)), h2.cg hm (fun q lo hi h a => ih h a) (a.sub (l0.tr l1.1) l3), by rw [eq]; exact h3.cg (a.sub (l0.tr (l1.1.tr l2)) (p_le.rf _))⟩
end
/-! bytes of words -/
section
variable {b : Int → Int} {n k j K : Nat} {w : List Int}
theorem tk_is_y (h : tk_is b n k w) (hw : w ≠ []) : tk_p b n k + w.length ≤ tk_p b n (k + 1) := by
  have hl : w.length = tk_e b n k - tk_p b n k := by rw [← h.2]; unfold tk_w tk_tx; simp
  have hp : tk_p b n k < n := by
    rcases tk_form (b := b) (n := n) (k := k) with q | q
    · exact absurd (h.2.symm.trans q.2.2) hw
    · exact q.1
  have := tk_e_le hp
  have := this.2.2.2
  have : 0 < w.length := List.length_pos_iff.mpr hw
  omega
theorem tk_p_1 (h : tk_K b n K) (hk : k < K) : tk_p b n k + 1 ≤ tk_p b n (k + 1) := by
  have := tk_e_le (h.lt hk)
  omega
theorem tk_p_mono (h : tk_K b n K) : ∀ (m k : Nat), k + m ≤ K → tk_p b n k + m ≤ tk_p b n (k + m) := by
  intro m
  induction m with
  | zero => intro k _; exact Nat.le_refl _
  | succ m ih =>
    intro k hk
    have h1 := ih k (by omega)
    have h2 := tk_p_1 h (k := k + m) (by omega)
    have : k + (m + 1) = k + m + 1 := by omega
    rw [this]; omega
theorem tk_p_le (h : tk_K b n K) (h1 : k ≤ j) (h2 : j ≤ K) : tk_p b n k + (j - k) ≤ tk_p b n j := by
  have := tk_p_mono h (j - k) k (by omega)
  rw [show k + (j - k) = j by omega] at this
  exact this
end
