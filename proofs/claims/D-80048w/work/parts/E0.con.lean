set_option maxRecDepth 100000
/-! readers of SOURCES, SELECTS, QUERIES: contracts -/
def wX (U U' : tV) : Prop := (vA (wV U) ≤ vA (wV U') ∧ vN (wV U) ≤ vN (wV U') ∧ ∀ e, e < vN (wV U) → vT (wV U') e = vT (wV U) e ∧ vB (wV U') e = vB (wV U) e) ∧ (wm U ≤ wm U' ∧ ∀ j, j < wm U → wS U' j = wS U j) ∧ (wq U ≤ wq U' ∧ ∀ j, j < wq U → wQ U' j = wQ U j) ∧ vD (wV U') = vD (wV U) ∧ vM (wV U') = vM (wV U) ∧ vG (wV U') = vG (wV U)
/-- room for SELECTS within -/
def bd2 (U : tV) (L : Nat) : Prop := vS (wV U) ≤ 3 ∧ wm U + L * (4 - vS (wV U)) ≤ 52 ∧ wq U ≤ wm U
def bd3 (U U' : tV) (L : Nat) : Prop := vS (wV U) ≤ vS (wV U') ∧ vS (wV U') ≤ 3 ∧ wm U' ≤ wm U + L * (vS (wV U') - vS (wV U)) ∧ wq U' + wm U ≤ wq U + wm U'
section
variable {U U' U2 : tV} {L a b : Nat}
theorem wX.rf (U : tV) : wX U U := ⟨⟨Nat.le_refl _, Nat.le_refl _, fun _ _ => ⟨rfl, rfl⟩⟩, ⟨Nat.le_refl _, fun _ _ => rfl⟩, ⟨Nat.le_refl _, fun _ _ => rfl⟩, rfl, rfl, rfl⟩
theorem wX.tr (h : wX U U') (h' : wX U' U2) : wX U U2 := by
  obtain ⟨⟨a1, a2, a3⟩, ⟨b1, b2⟩, ⟨c1, c2⟩, d1, d2, d3⟩ := h
  obtain ⟨⟨e1, e2, e3⟩, ⟨f1, f2⟩, ⟨g1, g2⟩, i1, i2, i3⟩ := h'
  refine ⟨⟨by omega, by omega, fun e he => ?_⟩, ⟨by omega, fun j hj => ?_⟩, ⟨by omega, fun j hj => ?_⟩, by omega, i2.trans d2, i3.trans d3⟩
  · rw [(e3 e (by omega)).1, (e3 e (by omega)).2]; exact a3 e he
  · rw [f2 j (by omega)]; exact b2 j hj
  · rw [g2 j (by omega)]; exact c2 j hj
theorem bd2.nx (h : bd2 U L) (h' : bd3 U U' L) : bd2 U' L := by
  obtain ⟨h1, h2, h3⟩ := h
  obtain ⟨g1, g2, g3, g4⟩ := h'
  refine ⟨g2, ?_, by omega⟩
  have e : L * (vS (wV U') - vS (wV U)) + L * (4 - vS (wV U')) = L * (4 - vS (wV U)) := by rw [← Nat.mul_add]; congr 1; omega
  omega
theorem bd3.rf (h : vS (wV U) ≤ 3) : bd3 U U L := ⟨Nat.le_refl _, h, by omega, by omega⟩
theorem bd3.tr (h : bd3 U U' L) (h' : bd3 U' U2 L) : bd3 U U2 L := by
  obtain ⟨g1, g2, g3, g4⟩ := h
  obtain ⟨f1, f2, f3, f4⟩ := h'
  refine ⟨by omega, f2, ?_, by omega⟩
  have e : L * (vS (wV U') - vS (wV U)) + L * (vS (wV U2) - vS (wV U')) = L * (vS (wV U2) - vS (wV U)) := by rw [← Nat.mul_add]; congr 1; omega
  omega
theorem bd3.up (h : bd3 U U' L) : bd3 U U' (L + 1) := by
  obtain ⟨g1, g2, g3, g4⟩ := h
  refine ⟨g1, g2, ?_, g4⟩
  rw [Nat.succ_mul]
  omega
end
/-- the model on its way -/
def mGo (Pre : ms_S → Prop) (mX : mN) (B : Nat) (Rel : ms_S → ms_S → Prop) (N : mN) : Prop := ∀ (s : ms_S) (d' : Nat) (P : Int → ms_S → Prop), Pre s → B ≤ d' → (∀ s1, Rel s s1 → N d' s1 P) → mX (d' + 1) s P
def mEn (Pre : ms_S → Prop) (mX : mN) (B : Nat) (Post : ms_S → Int → ms_S → Prop) : Prop := ∀ (s : ms_S) (D : Nat) (P : Int → ms_S → Prop), Pre s → B ≤ D → (∀ v s1, Post s v s1 → P v s1) → mX D s P
section
variable {Pre : ms_S → Prop} {mX N N' : mN} {B : Nat} {Rel Rel' : ms_S → ms_S → Prop} {Post : ms_S → Int → ms_S → Prop}
theorem mGo.go (h : mGo Pre mX B Rel N) (k : ∀ (s0 s : ms_S) (d' : Nat) (P : Int → ms_S → Prop), Pre s0 → Rel s0 s → B ≤ d' → (∀ s1, Rel' s0 s1 → N' d' s1 P) → N d' s P) : mGo Pre mX B Rel' N' :=
  fun s d' P hP hd hk => h s d' P hP hd (fun s1 hr => k s s1 d' P hP hr hd hk)
theorem mGo.en (h : mGo Pre mX B Rel N) (k : ∀ (s0 s : ms_S) (d' : Nat) (P : Int → ms_S → Prop), Pre s0 → Rel s0 s → B ≤ d' → (∀ v s1, Post s0 v s1 → P v s1) → N d' s P) : mEn Pre mX (B + 1) Post := by
  intro s D P hP hD hk
  obtain ⟨d', rfl⟩ : ∃ d', D = d' + 1 := ⟨D - 1, by omega⟩
  exact h s d' P hP (by omega) (fun s1 hr => k s s1 d' P hP hr (by omega) hk)
end
/-- the model, before a QUERY -/
def QM (s : ms_S) (b : Int → Int) (n K : Nat) (U : tV) : Prop := ME s b n K 0 60 (wV U) ∧ (s 34 0 = (wm U : Int) ∧ s 59 0 = (wq U : Int) ∧ s 73 0 = 0) ∧ vM (wV U) = false
/-- how readers end -/
def qP (L B0 : Nat) (pl : Int) (b : Int → Int) (n K : Nat) (Z : gZ) (U : tV) (R v : Int) (c' : cs_S) (Z' : gZ) : Prop :=
  (∃ U', QE c' pl b n K Z' U' ∧ c_v c' 133 pl 0 = R ∧ tC c' Z' U' (wm U) (wq U) ∧ wX U U' ∧ qrB (wY U') K b n (L + 1) (wq U) (wP b n U) (wP b n U') ∧ (bd3 U U' (L + 1) ∧ vS (wV U) < vS (wV U')) ∧ v = zq Z' (wq U) ∧ mEn (fun s => QM s b n K U) md_queryOf B0 (fun s v s' => v = (wq U : Int) ∧ QM s' b n K U' ∧ mT s' b n U' (wm U) (wq U) ∧ qF (wm U) (wq U) s s'))
  ∨ ∃ f p, CF c' pl f p ∧ mEn (fun s => QM s b n K U) md_queryOf B0 (fun s _ s' => MF s' f p ∧ qF (wm U) (wq U) s s')
def qX (B0 L : Nat) : Prop := ∀ (pl : Int) (b : Int → Int) (n K : Nat) (Z : gZ) (U : tV) (OS : Int → Prop) (OQ : Nat → Int → Prop) (c : cs_S) (D : Nat) (Q : Int → cs_S → Prop), QE c pl b n K Z U → vD (wV U) + L = 12 → bd2 U (L + 1) → vM (wV U) = false → cov OS OQ c pl Z (wm U) (wq U) → B0 ≤ D → (∀ v c' Z', tU pl OS OQ c Z c' Z' → cov OS OQ c' pl Z' (wm U) (wq U) → ZT c' pl Z' → qP L B0 pl b n K Z U (c_v c 133 pl 0) v c' Z' → Q v c') → kplan_readQuery D pl c Q
/-- a SOURCE of a SELECT -/
def oP (L B0 : Nat) (pl : Int) (b : Int → Int) (n K : Nat) (U : tV) (i : Nat) (r : vSel) (k0 : Nat) (jn : Int) (lf : Bool) (c' : cs_S) (Z' : gZ) : Prop :=
  (∃ U' x, SE c' pl b n K Z' U' i (r_src r x) k0 ∧ wX U U' ∧ (o_jn x = jn ∧ o_lf x = lf ∧ o_on x = -2) ∧ srB K b n (qrB (wY U') K b n L) (wP b n U) (wP b n U') x ∧ (bd3 U U' L ∧ vS (wV U) < vS (wV U')) ∧ mEn (fun s => SM s b n K U i r k0) (fun D s P => md_source D i (if lf = true then 1 else 0) (m_pl b n jn) s P) B0 (fun s _ s' => SM s' b n K U' i (r_src r x) k0 ∧ qF i k0 s s'))
  ∨ ∃ f p, CF c' pl f p ∧ mEn (fun s => SM s b n K U i r k0) (fun D s P => md_source D i (if lf = true then 1 else 0) (m_pl b n jn) s P) B0 (fun s _ s' => MF s' f p ∧ qF i k0 s s')
def oX (B0 L : Nat) : Prop := ∀ (pl : Int) (b : Int → Int) (n K : Nat) (Z : gZ) (U : tV) (i : Nat) (r : vSel) (k0 m00 k00 : Nat) (jn : Int) (lf : Bool) (OS : Int → Prop) (OQ : Nat → Int → Prop) (c : cs_S) (D : Nat) (Q : Int → cs_S → Prop), SE c pl b n K Z U i r k0 → vD (wV U) + L = 12 → bd2 U L → vM (wV U) = false → (s_src r).length ≤ vS (wV U) → (m00 ≤ i ∧ k00 ≤ k0 ∧ k0 ≤ wq U) → cov OS OQ c pl Z m00 k00 → B0 ≤ D → (∀ c' Z', tU pl OS OQ c Z c' Z' → cov OS OQ c' pl Z' m00 k00 → ZT c' pl Z' → oP L B0 pl b n K U i r k0 jn lf c' Z' → Q 0 c') → kplan_readSource D pl (zs Z i) jn (if lf = true then 1 else 0) c Q
/-- a SELECT -/
def lP (L B0 : Nat) (pl : Int) (b : Int → Int) (n K : Nat) (U : tV) (k0 : Nat) (R v : Int) (c' : cs_S) (Z' : gZ) : Prop :=
  v = zs Z' (wm U) ∧ wm U < zS Z' ∧
  ((∃ U', QE c' pl b n K Z' U' ∧ c_v c' 133 pl 0 = R ∧ tC c' Z' U' (wm U) (wq U) ∧ wX U U' ∧ slB (wY U') K b n (qrB (wY U') K b n L) (wS U' (wm U)) (wP b n U) (wP b n U') ∧ (bd3 U U' (L + 1) ∧ vS (wV U) < vS (wV U') ∧ wq U' + wm U + 1 ≤ wq U + wm U') ∧ mEn (fun s => QM s b n K U) md_selectOf B0 (fun s v s' => v = (wm U : Int) ∧ QM s' b n K U' ∧ mT s' b n U' (wm U) (wq U) ∧ qF (wm U) (wq U) s s'))
  ∨ ∃ f p, CF c' pl f p ∧ mEn (fun s => QM s b n K U) md_selectOf B0 (fun s _ s' => MF s' f p ∧ qF (wm U) (wq U) s s'))
def lX (B0 L : Nat) : Prop := ∀ (pl : Int) (b : Int → Int) (n K : Nat) (Z : gZ) (U : tV) (m00 k00 : Nat) (OS : Int → Prop) (OQ : Nat → Int → Prop) (c : cs_S) (D : Nat) (Q : Int → cs_S → Prop), QE c pl b n K Z U → vD (wV U) + L = 12 → (vS (wV U) ≤ 3 ∧ wm U + (L + 1) * (4 - vS (wV U)) ≤ 52 ∧ wq U ≤ wm U + 1) → vM (wV U) = false → (m00 ≤ wm U ∧ k00 ≤ wq U) → cov OS OQ c pl Z m00 k00 → B0 ≤ D → (∀ v c' Z', tU pl OS OQ c Z c' Z' → cov OS OQ c' pl Z' m00 k00 → ZT c' pl Z' → lP L B0 pl b n K U k00 (c_v c 133 pl 0) v c' Z' → Q v c') → kplan_readSelect D pl c Q
