set_option maxRecDepth 100000
/-! what was read stays when objects come -/
section
variable {c c' : cs_S} {pl R ad t : Int} {b : Int → Int} {n K : Nat} {V : pV} {W : Nat → Int → Prop} {g : List Nat}
theorem tkA.up (h : tkA c t) (u : c_up W c c') (hw : ∀ q a, W q a → q < 160 ∨ 166 < q) : tkA c' t := by
  obtain ⟨h0, ⟨a1, a2, a3⟩, ⟨b1, b2, b3⟩, ⟨d1, d2, d3⟩, ⟨e1, e2, e3⟩, ⟨f1, f2, f3⟩, ⟨g1, g2, g3⟩⟩ := h
  have z0 : c_r c t ≠ 0 := by rw [h0]; decide
  have v : ∀ q : Nat, 160 ≤ q → q ≤ 166 → c_v c' q t 0 = c_v c q t 0 := fun q h1 h2 => u.v z0 (fun w => by have := hw _ _ w; omega) 0
  refine ⟨u.r h0 (by decide), ⟨by rw [v _ (by omega) (by omega)]; exact a1, u.r a2 (by decide), by rw [u.l (by rw [a2]; decide)]; exact a3⟩, ⟨by rw [v _ (by omega) (by omega)]; exact b1, u.r b2 (by decide), by rw [u.l (by rw [b2]; decide)]; exact b3⟩, ⟨by rw [v _ (by omega) (by omega)]; exact d1, u.r d2 (by decide), by rw [u.l (by rw [d2]; decide)]; exact d3⟩, ⟨by rw [v _ (by omega) (by omega)]; exact e1, u.r e2 (by decide), by rw [u.l (by rw [e2]; decide)]; exact e3⟩, ⟨by rw [v _ (by omega) (by omega)]; exact f1, u.r f2 (by decide), by rw [u.l (by rw [f2]; decide)]; exact f3⟩, ⟨by rw [v _ (by omega) (by omega)]; exact g1, u.r g2 (by decide), by rw [u.l (by rw [g2]; decide)]; exact g3⟩⟩
theorem tkC.up (h : tkC c t b n K) (u : c_up W c c') (hw : ∀ q a, W q a → q < 160 ∨ (166 < q ∧ q < 660) ∨ 666 < q) : tkC c' t b n K := by
  obtain ⟨⟨hA, h1, h2, h3, h4⟩, h5, h6⟩ := h
  obtain ⟨h0, ⟨a1, a2, a3⟩, ⟨b1, b2, b3⟩, ⟨d1, d2, d3⟩, ⟨e1, e2, e3⟩, ⟨f1, f2, f3⟩, ⟨g1, g2, g3⟩⟩ := id hA
  refine ⟨⟨hA.up u (fun q a w => by have := hw q a w; omega), by rw [u.v (by rw [h0]; decide) (fun w => by have := hw _ _ w; omega)]; exact h1, h2, fun i hi => by rw [u.v (by rw [a2]; decide) (fun w => by have := hw _ _ w; omega)]; exact h3 i hi, h4⟩, h5, fun k hk => ?_⟩
  obtain ⟨r1, r2, r3, r4, r5⟩ := h6 k hk
  unfold tkR
  rw [u.v (a := t + 2) (by rw [b2]; decide) (fun w => by have := hw _ _ w; omega), u.v (a := t + 3) (by rw [d2]; decide) (fun w => by have := hw _ _ w; omega), u.v (a := t + 4) (by rw [e2]; decide) (fun w => by have := hw _ _ w; omega), u.v (a := t + 5) (by rw [f2]; decide) (fun w => by have := hw _ _ w; omega), u.v (a := t + 6) (by rw [g2]; decide) (fun w => by have := hw _ _ w; omega)]
  exact ⟨r1, r2, r3, r4, r5⟩
theorem xpA.up (h : xpA c ad) (u : c_up W c c') (hw : ∀ q a, W q a → q < 201 ∨ 211 < q) : xpA c' ad := by
  obtain ⟨h0, ⟨a1, a2, a3⟩, ⟨b1, b2, b3⟩, ⟨d1, d2, d3⟩, ⟨e1, e2, e3⟩, ⟨f1, f2, f3⟩, ⟨g1, g2, g3⟩, ⟨i1, i2, i3⟩, ⟨j1, j2, j3⟩, ⟨k1, k2, k3⟩, ⟨l1, l2, l3⟩, ⟨m1, m2, m3⟩⟩ := h
  have z0 : c_r c ad ≠ 0 := by rw [h0]; decide
  have v : ∀ q : Nat, 201 ≤ q → q ≤ 211 → c_v c' q ad 0 = c_v c q ad 0 := fun q h1 h2 => u.v z0 (fun w => by have := hw _ _ w; omega) 0
  exact ⟨u.r h0 (by decide), ⟨by rw [v _ (by omega) (by omega)]; exact a1, u.r a2 (by decide), by rw [u.l (by rw [a2]; decide)]; exact a3⟩, ⟨by rw [v _ (by omega) (by omega)]; exact b1, u.r b2 (by decide), by rw [u.l (by rw [b2]; decide)]; exact b3⟩, ⟨by rw [v _ (by omega) (by omega)]; exact d1, u.r d2 (by decide), by rw [u.l (by rw [d2]; decide)]; exact d3⟩, ⟨by rw [v _ (by omega) (by omega)]; exact e1, u.r e2 (by decide), by rw [u.l (by rw [e2]; decide)]; exact e3⟩, ⟨by rw [v _ (by omega) (by omega)]; exact f1, u.r f2 (by decide), by rw [u.l (by rw [f2]; decide)]; exact f3⟩, ⟨by rw [v _ (by omega) (by omega)]; exact g1, u.r g2 (by decide), by rw [u.l (by rw [g2]; decide)]; exact g3⟩, ⟨by rw [v _ (by omega) (by omega)]; exact i1, u.r i2 (by decide), by rw [u.l (by rw [i2]; decide)]; exact i3⟩, ⟨by rw [v _ (by omega) (by omega)]; exact j1, u.r j2 (by decide), by rw [u.l (by rw [j2]; decide)]; exact j3⟩, ⟨by rw [v _ (by omega) (by omega)]; exact k1, u.r k2 (by decide), by rw [u.l (by rw [k2]; decide)]; exact k3⟩, ⟨by rw [v _ (by omega) (by omega)]; exact l1, u.r l2 (by decide), by rw [u.l (by rw [l2]; decide)]; exact l3⟩, ⟨by rw [v _ (by omega) (by omega)]; exact m1, u.r m2 (by decide), by rw [u.l (by rw [m2]; decide)]; exact m3⟩⟩
theorem xE.up (h : xE c ad V) (hA : xpA c ad) (u : c_up W c c') (hw : ∀ q a, W q a → q ≠ 200 ∧ (q < 701 ∨ 711 < q)) : xE c' ad V := by
  obtain ⟨h0, ⟨a1, a2, a3⟩, ⟨b1, b2, b3⟩, ⟨d1, d2, d3⟩, ⟨e1, e2, e3⟩, ⟨f1, f2, f3⟩, ⟨g1, g2, g3⟩, ⟨i1, i2, i3⟩, ⟨j1, j2, j3⟩, ⟨k1, k2, k3⟩, ⟨l1, l2, l3⟩, ⟨m1, m2, m3⟩⟩ := hA
  have v : ∀ (q : Nat) (a j : Int), c_r c a ≠ 0 → 701 ≤ q → q ≤ 711 → c_v c' q a j = c_v c q a j := fun q a j h0 h1 h2 => u.v h0 (fun w => by have := (hw _ _ w).2; omega) j
  obtain ⟨h1, h2, h3, h4, h5⟩ := h
  refine ⟨by rw [u.v (by rw [h0]; decide) (fun w => (hw _ _ w).1 rfl)]; exact h1, h2, h3, fun e he => by rw [v _ _ _ (by rw [g2]; decide) (by omega) (by omega)]; exact h4 e he, fun e he => ?_⟩
  unfold xrow
  rw [v _ (ad + 1) _ (by rw [a2]; decide) (by omega) (by omega), v _ (ad + 2) _ (by rw [b2]; decide) (by omega) (by omega), v _ (ad + 3) _ (by rw [d2]; decide) (by omega) (by omega), v _ (ad + 4) _ (by rw [e2]; decide) (by omega) (by omega), v _ (ad + 5) _ (by rw [f2]; decide) (by omega) (by omega), v _ (ad + 6) _ (by rw [g2]; decide) (by omega) (by omega), v _ (ad + 7) _ (by rw [i2]; decide) (by omega) (by omega), v _ (ad + 8) _ (by rw [j2]; decide) (by omega) (by omega), v _ (ad + 9) _ (by rw [k2]; decide) (by omega) (by omega), v _ (ad + 10) _ (by rw [l2]; decide) (by omega) (by omega), v _ (ad + 11) _ (by rw [m2]; decide) (by omega) (by omega)]
  exact h5 e he
/-- all but the SELECT that is read -/
def CX (c : cs_S) (pl : Int) (b : Int → Int) (n K : Nat) (V : pV) : Prop := pA c pl ∧ tkC c (pl + 1) b n K ∧ cur c pl K V ∧ xE c (pl + 8) V
theorem CE.cx (h : CE c pl b n K R V) : CX c pl b n K V := ⟨h.1, h.2.1, h.2.2.1, h.2.2.2.1⟩
theorem CX.up (h : CX c pl b n K V) (u : c_up W c c') (hw : ∀ q a, W q a → q = 140 ∨ q = 141 ∨ q = 138 ∨ q = 139 ∨ q = 133 ∨ (320 ≤ q ∧ q < 500) ∨ 636 ≤ q ∧ q ≤ 640 ∨ 820 ≤ q) : CX c' pl b n K V := by
  obtain ⟨⟨p0, p1, p2, p3⟩, h2, h3, h4⟩ := h
  have z0 : c_r c pl ≠ 0 := by rw [p0]; decide
  have v : ∀ q : Nat, 120 ≤ q → q ≤ 126 ∨ q = 134 → c_v c' q pl 0 = c_v c q pl 0 := fun q h1 h2 => u.v z0 (fun w => by have := hw _ _ w; omega) 0
  refine ⟨⟨u.r p0 (by decide), by rw [v _ (by omega) (by omega)]; exact p1, by rw [v _ (by omega) (by omega)]; exact p2, p3.up u (fun q a w => by have := hw q a w; omega)⟩, h2.up u (fun q a w => by have := hw q a w; omega), ?_, h4.up p3 u (fun q a w => by have := hw q a w; omega)⟩
  unfold cur
  rw [v _ (by omega) (by omega), v _ (by omega) (by omega), v _ (by omega) (by omega), v _ (by omega) (by omega), v _ (by omega) (by omega)]
  exact h3
end
/-! room: how much was taken by objects of texts -/
def sumN (f : Nat → Int) : Nat → Int
  | 0 => 0
  | n + 1 => sumN f n + f n
theorem sumN_congr {f g : Nat → Int} : ∀ n : Nat, (∀ i, i < n → f i = g i) → sumN f n = sumN g n := by
  intro n
  induction n with
  | zero => intro _; rfl
  | succ n ih => intro h; show sumN f n + f n = sumN g n + g n; rw [ih (fun i hi => h i (by omega)), h n (by omega)]
theorem sumN_upd {f g : Nat → Int} {k : Nat} {d : Int} : ∀ n : Nat, k < n → (∀ i, i < n → i ≠ k → g i = f i) → g k = f k + d → sumN g n = sumN f n + d := by
  intro n
  induction n with
  | zero => intro h; omega
  | succ n ih =>
    intro hk h1 h2
    show sumN g n + g n = sumN f n + f n + d
    by_cases c : k = n
    · subst c
      rw [sumN_congr k (fun i hi => h1 i (by omega) (by omega)), h2]; omega
    · rw [ih (by omega) (fun i hi hne => h1 i (by omega) hne) h2, h1 n (by omega) (fun e => c e.symm)]; omega
/-- objects of texts: where SELECTS, where QUERIES, how many of each -/
abbrev gZ : Type := (Nat → Int) × (Nat → Int) × Nat × Nat
def zs (Z : gZ) : Nat → Int := Z.1
def zq (Z : gZ) : Nat → Int := Z.2.1
def zS (Z : gZ) : Nat := Z.2.2.1
def zQ (Z : gZ) : Nat := Z.2.2.2
def q_ln (c : cs_S) (A : Int) : Int := c_l c (c_v c 320 A 0)
def z_m (c : cs_S) (pl : Int) (Z : gZ) : Int := 118 * (zS Z : Int) + sumN (fun i => 39 + 6 * q_ln c (zq Z i)) (zQ Z) + 2 * c_l c (c_v c 140 pl 0) + 2 * c_l c (c_v c 138 pl 0)
def z_n (c : cs_S) (pl : Int) (Z : gZ) : Int := 17 * (zS Z : Int) + sumN (fun i => 4 + 2 * q_ln c (zq Z i)) (zQ Z) + c_l c (c_v c 140 pl 0) + c_l c (c_v c 138 pl 0)
/-- how they lie -/
def TS (c : cs_S) (pl : Int) (Z : gZ) : Prop := c_r c (c_v c 140 pl 0) = 640 ∧ (8 ≤ c_l c (c_v c 140 pl 0) ∧ c_l c (c_v c 140 pl 0) ≤ 128) ∧ (((zS Z : Nat) : Int) ≤ c_l c (c_v c 140 pl 0) ∧ zS Z ≤ 53) ∧ (∀ i : Nat, i < zS Z → c_v c 640 (c_v c 140 pl 0) i = zs Z i ∧ slA c (zs Z i)) ∧ (∀ i : Nat, zS Z ≤ i → (i : Int) < c_l c (c_v c 140 pl 0) → c_v c 640 (c_v c 140 pl 0) i = -1) ∧ (∀ i j : Nat, i < j → j < zS Z → zs Z i + 17 ≤ zs Z j ∨ zs Z j + 17 ≤ zs Z i) ∧ ∀ i : Nat, i < zS Z → 237 ≤ zs Z i
def qNe (c : cs_S) (A B : Int) : Prop := A ≠ B ∧ c_v c 320 A 0 ≠ c_v c 320 B 0 ∧ c_v c 321 A 0 ≠ c_v c 321 B 0 ∧ c_v c 322 A 0 ≠ c_v c 322 B 0
def TQ (c : cs_S) (pl : Int) (Z : gZ) : Prop := c_r c (c_v c 138 pl 0) = 638 ∧ (8 ≤ c_l c (c_v c 138 pl 0) ∧ c_l c (c_v c 138 pl 0) ≤ 128) ∧ (((zQ Z : Nat) : Int) ≤ c_l c (c_v c 138 pl 0) ∧ zQ Z ≤ 53) ∧ (∀ i : Nat, i < zQ Z → c_v c 638 (c_v c 138 pl 0) i = zq Z i ∧ qrA c (zq Z i)) ∧ (∀ i : Nat, zQ Z ≤ i → (i : Int) < c_l c (c_v c 138 pl 0) → c_v c 638 (c_v c 138 pl 0) i = -1) ∧ ∀ i j : Nat, i < zQ Z → j < zQ Z → i ≠ j → qNe c (zq Z i) (zq Z j)
