set_option maxRecDepth 100000
/-! a text with its SELECTS and QUERIES: the component -/
abbrev tV : Type := pV × (Nat → vSel) × (Nat → vQry) × Nat × Nat
def wV (W : tV) : pV := W.1
def wS (W : tV) : Nat → vSel := W.2.1
def wQ (W : tV) : Nat → vQry := W.2.2.1
def wm (W : tV) : Nat := W.2.2.2.1
def wq (W : tV) : Nat := W.2.2.2.2
def wY (W : tV) : tT := ((vT (wV W), vB (wV W)), wS W, wQ W)
def wP (b : Int → Int) (n : Nat) (W : tV) : pP := (tk_p b n (vA (wV W)), vN (wV W), wm W, wq W, vS (wV W))
def w_v (W : tV) (V : pV) : tV := (V, W.2)
/-- where writing is allowed -/
def oS (c : cs_S) (Z : gZ) (m : Nat) (a : Int) : Prop := c_n c ≤ a ∨ ∃ i, m ≤ i ∧ i < zS Z ∧ zs Z i ≤ a ∧ a ≤ zs Z i + 16
def oQ1 (c : cs_S) (A : Int) (q : Nat) (a : Int) : Prop := (q < 360 ∧ a = A) ∨ (q = 820 ∧ a = c_v c 320 A 0) ∨ (q = 821 ∧ a = c_v c 321 A 0) ∨ (q = 822 ∧ a = c_v c 322 A 0) ∨ (q = 826 ∧ a = A + 4) ∨ (q = 827 ∧ a = A + 5) ∨ (q = 830 ∧ a = A + 6) ∨ (q = 831 ∧ a = A + 7)
def oQ (c : cs_S) (pl : Int) (Z : gZ) (k : Nat) (q : Nat) (a : Int) : Prop := c_n c ≤ a ∨ (q = 638 ∧ a = c_v c 138 pl 0) ∨ (q = 640 ∧ a = c_v c 140 pl 0) ∨ ∃ i, k ≤ i ∧ i < zQ Z ∧ oQ1 c (zq Z i) q a
def tW (pl : Int) (OS : Int → Prop) (OQ : Nat → Int → Prop) (q : Nat) (a : Int) : Prop :=
  (a = pl ∧ ((122 ≤ q ∧ q ≤ 126) ∨ q = 133 ∨ q = 134 ∨ (138 ≤ q ∧ q ≤ 141)))
  ∨ (a = pl + 8 ∧ q = 200) ∨ (pl + 9 ≤ a ∧ a ≤ pl + 19 ∧ 701 ≤ q ∧ q ≤ 711)
  ∨ (a < 237 ∧ (q = 383 ∨ q = 884))
  ∨ (((360 ≤ q ∧ q < 400) ∨ (860 ≤ q ∧ q < 900)) ∧ OS a) ∨ (((320 ≤ q ∧ q < 360) ∨ (820 ≤ q ∧ q < 860) ∨ q = 638 ∨ q = 640) ∧ OQ q a)
def cov (OS : Int → Prop) (OQ : Nat → Int → Prop) (c : cs_S) (pl : Int) (Z : gZ) (m k : Nat) : Prop := (∀ a, oS c Z m a → OS a) ∧ ∀ q a, oQ c pl Z k q a → OQ q a
def zE (Z Z' : gZ) : Prop := zS Z ≤ zS Z' ∧ zQ Z ≤ zQ Z' ∧ (∀ i, i < zS Z → zs Z' i = zs Z i) ∧ ∀ i, i < zQ Z → zq Z' i = zq Z i
def zR (pl : Int) (c : cs_S) (Z : gZ) (c' : cs_S) (Z' : gZ) : Prop := c_m c' - z_m c' pl Z' ≤ c_m c - z_m c pl Z ∧ c_n c' - z_n c' pl Z' ≤ c_n c - z_n c pl Z
def tU (pl : Int) (OS : Int → Prop) (OQ : Nat → Int → Prop) (c : cs_S) (Z : gZ) (c' : cs_S) (Z' : gZ) : Prop := c_up (tW pl OS OQ) c c' ∧ zE Z Z' ∧ zR pl c Z c' Z'
/-- what stands in place while nothing is made -/
def fW (q : Nat) : Prop := q = 140 ∨ q = 138 ∨ q = 640 ∨ q = 638 ∨ q ∈ qr_f ∨ ∃ t ∈ sl_t, q = t.1
def ZT (c : cs_S) (pl : Int) (Z : gZ) : Prop := c_r c pl = 1003 ∧ 237 ≤ c_n c ∧ TS c pl Z ∧ TQ c pl Z
section
variable {c c' c2 : cs_S} {pl A : Int} {Z Z' Z2 : gZ} {OS OS' : Int → Prop} {OQ OQ' : Nat → Int → Prop} {m k m1 k1 : Nat} {W : Nat → Int → Prop}
theorem fW_no {q : Nat} (h : ¬ fW q) : q ≠ 140 ∧ q ≠ 138 ∧ q ≠ 640 ∧ q ≠ 638 ∧ (∀ f ∈ qr_f, q ≠ f) ∧ ∀ t ∈ sl_t, q ≠ t.1 := by
  refine ⟨fun e => h (Or.inl e), fun e => h (Or.inr (Or.inl e)), fun e => h (Or.inr (Or.inr (Or.inl e))), fun e => h (Or.inr (Or.inr (Or.inr (Or.inl e)))), fun f hf e => h (Or.inr (Or.inr (Or.inr (Or.inr (Or.inl (by rw [e]; exact hf)))))), fun t ht e => h (Or.inr (Or.inr (Or.inr (Or.inr (Or.inr ⟨t, ht, e⟩)))))⟩
theorem zE.rf (Z : gZ) : zE Z Z := ⟨Nat.le_refl _, Nat.le_refl _, fun _ _ => rfl, fun _ _ => rfl⟩
theorem zE.tr (h : zE Z Z') (h' : zE Z' Z2) : zE Z Z2 := ⟨Nat.le_trans h.1 h'.1, Nat.le_trans h.2.1 h'.2.1, fun i hi => (h'.2.2.1 i (Nat.lt_of_lt_of_le hi h.1)).trans (h.2.2.1 i hi), fun i hi => (h'.2.2.2 i (Nat.lt_of_lt_of_le hi h.2.1)).trans (h.2.2.2 i hi)⟩
theorem zR.rf : zR pl c Z c Z := ⟨Int.le_refl _, Int.le_refl _⟩
theorem zR.tr (h : zR pl c Z c' Z') (h' : zR pl c' Z' c2 Z2) : zR pl c Z c2 Z2 := ⟨Int.le_trans h'.1 h.1, Int.le_trans h'.2 h.2⟩
theorem tU.tr (h : tU pl OS OQ c Z c' Z') (h' : tU pl OS OQ c' Z' c2 Z2) : tU pl OS OQ c Z c2 Z2 := ⟨h.1.tr h'.1, h.2.1.tr h'.2.1, h.2.2.tr h'.2.2⟩
theorem tU.rf : tU pl OS OQ c Z c Z := ⟨c_up.rf _ _, zE.rf _, zR.rf⟩
/-- an act that makes nothing -/
theorem ZT.up (h : ZT c pl Z) (u : c_up W c c') (hw : ∀ q a, W q a → ¬ fW q) : ZT c' pl Z ∧ z_m c' pl Z = z_m c pl Z ∧ z_n c' pl Z = z_n c pl Z ∧ c_v c' 140 pl 0 = c_v c 140 pl 0 ∧ c_v c' 138 pl 0 = c_v c 138 pl 0 ∧ ∀ i, i < zQ Z → q_pt c c' (zq Z i) := by
  obtain ⟨h1, h2, h3, h4⟩ := h
  have n : ∀ q a, fW q → ¬ W q a := fun q a hq w => hw q a w hq
  have a := h3.up h1 u (n _ _ (Or.inl rfl)) (n _ _ (Or.inr (Or.inr (Or.inl rfl)))) (fun i _ t ht => n _ _ (Or.inr (Or.inr (Or.inr (Or.inr (Or.inr ⟨t, ht, rfl⟩))))))
  have b := h4.up h1 u (n _ _ (Or.inr (Or.inl rfl))) (n _ _ (Or.inr (Or.inr (Or.inr (Or.inl rfl))))) (fun i _ f hf => n _ _ (Or.inr (Or.inr (Or.inr (Or.inr (Or.inl hf))))))
  refine ⟨⟨u.r h1 (by decide), by have := u.1; omega, a.1, b.1⟩, ?_, ?_, a.2.1, b.2.2.2, fun i hi => (h4.2.2.2.1 i hi).2.pt u (fun f hf => n _ _ (Or.inr (Or.inr (Or.inr (Or.inr (Or.inl hf))))))⟩
  · have := b.2.1
    unfold z_mq at this
    unfold z_m
    rw [a.2.1, a.2.2]
    omega
  · have := b.2.2.1
    unfold z_nq at this
    unfold z_n
    rw [a.2.1, a.2.2]
    omega
theorem tU.sm (h : ZT c pl Z) (s : c_sm W c c') (hw : ∀ q a, W q a → ¬ fW q) (hi : ∀ q a, W q a → tW pl OS OQ q a) : tU pl OS OQ c Z c' Z := by
  have z := h.up s.up hw
  exact ⟨s.up.mono hi, zE.rf _, by rw [z.2.1, s.m]; exact Int.le_refl _, by rw [z.2.2.1, s.n]; exact Int.le_refl _⟩
theorem cov.sm (hc : cov OS OQ c pl Z m k) (h : ZT c pl Z) (s : c_sm W c c') (hw : ∀ q a, W q a → ¬ fW q) : cov OS OQ c' pl Z m k := by
  have z := h.up s.up hw
  refine ⟨fun a ha => hc.1 a (by unfold oS at ha ⊢; rw [s.n] at ha; exact ha), fun q a ha => hc.2 q a ?_⟩
  unfold oQ at ha ⊢
  rw [s.n, z.2.2.2.1, z.2.2.2.2.1] at ha
  rcases ha with ha | ha | ha | ⟨i, h1, h2, h3⟩
  · exact Or.inl ha
  · exact Or.inr (Or.inl ha)
  · exact Or.inr (Or.inr (Or.inl ha))
  · refine Or.inr (Or.inr (Or.inr ⟨i, h1, h2, ?_⟩))
    have p := z.2.2.2.2.2 i h2
    unfold oQ1 at h3 ⊢
    rw [p.1, p.2.1, p.2.2] at h3
    exact h3
theorem cov.rf (c : cs_S) (pl : Int) (Z : gZ) (m k : Nat) : cov (oS c Z m) (oQ c pl Z k) c pl Z m k := ⟨fun _ h => h, fun _ _ h => h⟩
theorem oS.mono {a : Int} (h : oS c Z m1 a) (hm : m ≤ m1) : oS c Z m a := by
  rcases h with h | ⟨i, h1, h2⟩
  · exact Or.inl h
  · exact Or.inr ⟨i, by omega, h2⟩
theorem oQ.mono {q : Nat} {a : Int} (h : oQ c pl Z k1 q a) (hk : k ≤ k1) : oQ c pl Z k q a := by
  rcases h with h | h | h | ⟨i, h1, h2⟩
  · exact Or.inl h
  · exact Or.inr (Or.inl h)
  · exact Or.inr (Or.inr (Or.inl h))
  · exact Or.inr (Or.inr (Or.inr ⟨i, by omega, h2⟩))
theorem tW.mono {q : Nat} {a : Int} (h : tW pl OS' OQ' q a) (h1 : ∀ a, OS' a → OS a) (h2 : ∀ q a, OQ' q a → OQ q a) : tW pl OS OQ q a := by
  rcases h with h | h | h | h | h | h
  · exact Or.inl h
  · exact Or.inr (Or.inl h)
  · exact Or.inr (Or.inr (Or.inl h))
  · exact Or.inr (Or.inr (Or.inr (Or.inl h)))
  · exact Or.inr (Or.inr (Or.inr (Or.inr (Or.inl ⟨h.1, h1 _ h.2⟩))))
  · exact Or.inr (Or.inr (Or.inr (Or.inr (Or.inr ⟨h.1, h2 _ _ h.2⟩))))
/-- others' SELECTS, QUERIES aren't among these -/
theorem oS_no {i : Nat} {a : Int} (h : TS c pl Z) (hi : i < m) (him : i < zS Z) (h1 : zs Z i ≤ a) (h2 : a ≤ zs Z i + 16) : ¬ oS c Z m a := by
  obtain ⟨t1, t2, t3, t4, t5, t6, t7⟩ := h
  have n := (t4 i him).2.n
  rintro (q | ⟨j, q1, q2, q3, q4⟩)
  · omega
  · have := t6 i j (by omega) q2; omega
theorem oQ_no {i q : Nat} {a : Int} (h : TQ c pl Z) (hi : i < k) (hik : i < zQ Z) (h1 : oQ1 c (zq Z i) q a) (hq : (320 ≤ q ∧ q < 360) ∨ (820 ≤ q ∧ q < 860)) (hlt : a < c_n c) : ¬ oQ c pl Z k q a := by
  obtain ⟨t1, t2, t3, t4, t5, t6⟩ := h
  rintro (w | w | w | ⟨j, w1, w2, w3⟩)
  · omega
  · omega
  · omega
  · have ne := t6 i j hik w2 (by omega)
    unfold qNe at ne
    unfold oQ1 at h1 w3
    omega
theorem oQ1_lt {i q : Nat} {a : Int} (h : TQ c pl Z) (hik : i < zQ Z) (h1 : oQ1 c (zq Z i) q a) : a < c_n c := by
  have g := (h.2.2.2.1 i hik).2
  obtain ⟨z0, z1, z2, z3⟩ := g.nz
  have n0 := c_r_in z0
  have n1 := c_r_in z1
  have n2 := c_r_in z2
  have n3 := c_r_in z3
  have g7 := (g.2.1 (331, 7, 8) (by decide)).2.1
  have n7 := c_r_in (c := c) (a := zq Z i + 7) (by rw [show zq Z i + 7 = zq Z i + (331, (7 : Int), (8 : Int)).2.1 from rfl, g7]; decide)
  unfold oQ1 at h1
  omega
/-- an inner act's freedom is within the outer's -/
theorem cov.inn (hc : cov OS OQ c pl Z m k) (hm : m ≤ m1) (hk : k ≤ k1) (h : ZT c pl Z) (hmz : m1 ≤ zS Z) (hkz : k1 ≤ zQ Z) (u : tU pl (oS c Z m1) (oQ c pl Z k1) c Z c' Z') (hc' : cov (oS c Z m1) (oQ c pl Z k1) c' pl Z' m1 k1) : tU pl OS OQ c Z c' Z' ∧ cov OS OQ c' pl Z' m k := by
  refine ⟨⟨u.1.mono (fun q a w => w.mono (fun a h => hc.1 a (h.mono hm)) (fun q a h => hc.2 q a (h.mono hk))), u.2.1, u.2.2⟩, fun a ha => ?_, fun q a ha => ?_⟩
  · rcases ha with ha | ⟨i, h1, h2, h3⟩
    · exact hc.1 a (Or.inl (by have := u.1.1; omega))
    · by_cases ci : m1 ≤ i
      · exact hc.1 a ((hc'.1 a (Or.inr ⟨i, ci, h2, h3⟩)).mono hm)
      · rw [u.2.1.2.2.1 i (by omega)] at h3
        exact hc.1 a (Or.inr ⟨i, h1, by omega, h3⟩)
  · rcases ha with ha | ha | ha | ⟨i, h1, h2, h3⟩
    · exact hc.2 q a (Or.inl (by have := u.1.1; omega))
    · exact hc.2 q a ((hc'.2 q a (Or.inr (Or.inl ha))).mono hk)
    · exact hc.2 q a ((hc'.2 q a (Or.inr (Or.inr (Or.inl ha)))).mono hk)
    · by_cases ci : k1 ≤ i
      · exact hc.2 q a ((hc'.2 q a (Or.inr (Or.inr (Or.inr ⟨i, ci, h2, h3⟩)))).mono hk)
      · have hiz : i < zQ Z := by omega
        rw [u.2.1.2.2.2 i hiz] at h3
        have g := (h.2.2.2.2.2.2.1 i hiz).2
        have hpl := h.1
        have hf : ∀ f ∈ qr_f, 320 ≤ f ∧ f < 360 := by decide
        have p := g.pt u.1 (fun f hf' w => by
          have := hf f hf'
          have no := oQ_no h.2.2.2 (k := k1) (q := f) (a := zq Z i) (i := i) (by omega) hiz (Or.inl ⟨by omega, rfl⟩) (Or.inl this) (c_r_in g.nz.1).2
          rcases w with w | w | w | w | w | w
          · omega
          · omega
          · omega
          · omega
          · omega
          · exact no w.2)
        refine hc.2 q a (Or.inr (Or.inr (Or.inr ⟨i, h1, hiz, ?_⟩)))
        unfold oQ1 at h3 ⊢
        rw [p.1, p.2.1, p.2.2] at h3
        exact h3
end
