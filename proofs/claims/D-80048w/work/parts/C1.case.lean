set_option maxRecDepth 100000
/-! readers: ONE: brackets, case, span -/
/-- within one more -/
def bt (K : Nat) (V W : pV) : Prop := eY K (vN V) V W ∧ vA V < vA W ∧ vA W ≤ K ∧ vD W = vD V + 1 ∧ vS W = vS V ∧ vM W = vM V ∧ (vM V = false → vG W = vG V)
section
variable {K k : Nat} {V W W' : pV}
theorem bt.at (h : bt K V W) (h1 : vA W ≤ k) (h2 : k ≤ K) : bt K V (v_at W k) := by
  obtain ⟨a1, a2, a3, a4, a5, a6, a7⟩ := h
  exact ⟨a1.tr (eY.at W h1), by show vA V < k; omega, h2, a4, a5, a6, a7⟩
theorem bt.ex (h : bt K V W) (x : eX K W W') : bt K V W' ∧ vN W < vN W' ∧ vN V ≤ vN W := by
  obtain ⟨a1, a2, a3, a4, a5, a6, a7⟩ := h
  obtain ⟨b1, b2, b3, b4, b5, b6, b7, b8, -⟩ := x
  have := a1.2.1
  exact ⟨⟨a1.tr (b1.lw this), by omega, b3, by omega, by omega, by rw [b7]; exact a6, fun q => by rw [b8 (by rw [a6]; exact q)]; exact a7 q⟩, b4, this⟩
theorem bt.fin {r : Int × Int × Int × Int × Int × Int} {tok beg : Nat} (h : bt K V W) (hp : x_p (x_up (vT W) (vN W) r) K (vN V) (vN W)) (h25 : r.1 < 25) (h3 : r.1 ≠ 3) (hn : r.2.2.2.2.1 = -1) (ht : tok ≤ K) (hb : beg ≤ K) (hxo : xo (x_up (vT W) (vN W) r) (vN V) (vN W + 1) (fun e => e + 1 = vN W + 1)) : eX K V (v_add (v_deep W (vD V)) r tok beg) := by
  obtain ⟨a1, a2, a3, a4, a5, a6, a7⟩ := h
  exact eX.fin (W := v_deep W (vD V)) (a1.tr (eY.deep W)) a2 a3 rfl a5 a6 a7 hp h25 h3 hn ht hb hxo
theorem bt.st (hK : vA V < K) : bt K V (v_at (v_deep V (vD V + 1)) (vA V + 1)) := ⟨(eY.deep V).tr (eY.at _ (by show vA V ≤ vA V + 1; omega)), by show vA V < vA V + 1; omega, by show vA V + 1 ≤ K; omega, rfl, rfl, rfl, fun _ => rfl⟩
end
/-! the component: case -/
section
variable (d : Nat) (pl va : Int) (Q : Int → cs_S → Prop)
def oc6 (v2 v3 v4 : Int) (c9 : cs_S) : Prop := c_r c9 pl = 1003 ∧ c_r c9 pl = 1003 ∧ ∀ c10, c10 = c_u c9 125 pl 0 (am_w ((c_v c9 125 pl 0) - 1)) → c_r c10 pl = 1003 ∧ kplan_node d pl 23 v2 v3 v4 va c10 (fun v5 c11 => Q v5 c11)
def oc5 (v2 v3 v4 : Int) (c8 : cs_S) : Prop := c_r c8 pl = 1003 ∧ kplan_want d pl (-56) c8 (fun _ c9 => oc6 d pl va Q v2 v3 v4 c9)
def oc4 (v2 v3 : Int) (c7 : cs_S) : Prop := c_r c7 pl = 1003 ∧ kplan_readExpression d pl c7 (fun v4 c8 => oc5 d pl va Q v2 v3 v4 c8)
def oc3 (v2 v3 : Int) (c6 : cs_S) : Prop := c_r c6 pl = 1003 ∧ kplan_want d pl (-54) c6 (fun _ c7 => oc4 d pl va Q v2 v3 c7)
def oc2 (v2 : Int) (c5 : cs_S) : Prop := c_r c5 pl = 1003 ∧ kplan_readExpression d pl c5 (fun v3 c6 => oc3 d pl va Q v2 v3 c6)
def oc1 (v2 : Int) (c4 : cs_S) : Prop := c_r c4 pl = 1003 ∧ kplan_want d pl (-52) c4 (fun _ c5 => oc2 d pl va Q v2 c5)
def oc0 (c3 : cs_S) : Prop := c_r c3 pl = 1003 ∧ kplan_readExpression d pl c3 (fun v2 c4 => oc1 d pl va Q v2 c4)
def os4 (v2 v3 : Int) (c7 : cs_S) : Prop := c_r c7 pl = 1003 ∧ c_r c7 pl = 1003 ∧ ∀ c8, c8 = c_u c7 125 pl 0 (am_w ((c_v c7 125 pl 0) - 1)) → c_r c8 pl = 1003 ∧ kplan_node d pl 24 v2 v3 (-1) va c8 (fun v4 c9 => Q v4 c9)
def os3 (v2 v3 : Int) (c6 : cs_S) : Prop := c_r c6 pl = 1003 ∧ kplan_want d pl (-48) c6 (fun _ c7 => os4 d pl va Q v2 v3 c7)
def os2 (v2 : Int) (c5 : cs_S) : Prop := c_r c5 pl = 1003 ∧ kplan_readExpression d pl c5 (fun v3 c6 => os3 d pl va Q v2 v3 c6)
def os1 (v2 : Int) (c4 : cs_S) : Prop := c_r c4 pl = 1003 ∧ kplan_want d pl (-58) c4 (fun _ c5 => os2 d pl va Q v2 c5)
def os0 (c3 : cs_S) : Prop := c_r c3 pl = 1003 ∧ kplan_readExpression d pl c3 (fun v2 c4 => os1 d pl va Q v2 c4)
end
section
variable {d : Nat} {pl va R f p : Int} {Q : Int → cs_S → Prop} {c : cs_S} {v2 v3 v4 : Int}
theorem CF.deep {x : Int} (h : CF c pl f p) : CF (c_u c 125 pl 0 x) pl f p := by
  obtain ⟨f1, f2, f3, f4, f5, f6⟩ := h
  exact ⟨f1, by rw [c_u_q (by omega)]; exact f2, by rw [c_u_q (by omega)]; exact f3, f4, by rw [c_u_q (by omega)]; exact f5, by rw [c_u_q (by omega)]; exact f6⟩
theorem oc6_f (hd : 9 ≤ d) (h : CF c pl f p) (hq : ∀ c', c_sm (eW pl R) c c' → CF c' pl f p → Q 0 c') : oc6 d pl va Q v2 v3 v4 c := ⟨h.1, h.1, fun c10 e10 => by rw [e10]; exact ⟨h.deep.1, k_node0 h.deep (by omega) (hq _ (c_sm.u _ (by unfold eW; omega) _ _) h.deep)⟩⟩
theorem oc5_f (hd : 9 ≤ d) (h : CF c pl f p) (hq : ∀ c', c_sm (eW pl R) c c' → CF c' pl f p → Q 0 c') : oc5 d pl va Q v2 v3 v4 c := ⟨h.1, k_want0 h (by omega) (oc6_f hd h hq)⟩
theorem oc4_f (hd : 9 ≤ d) (h : CF c pl f p) (hq : ∀ c', c_sm (eW pl R) c c' → CF c' pl f p → Q 0 c') : oc4 d pl va Q v2 v3 c := ⟨h.1, f_or pl f p c d _ h hd (oc5_f hd h hq)⟩
theorem oc3_f (hd : 9 ≤ d) (h : CF c pl f p) (hq : ∀ c', c_sm (eW pl R) c c' → CF c' pl f p → Q 0 c') : oc3 d pl va Q v2 v3 c := ⟨h.1, k_want0 h (by omega) (oc4_f hd h hq)⟩
theorem oc2_f (hd : 9 ≤ d) (h : CF c pl f p) (hq : ∀ c', c_sm (eW pl R) c c' → CF c' pl f p → Q 0 c') : oc2 d pl va Q v2 c := ⟨h.1, f_or pl f p c d _ h hd (oc3_f hd h hq)⟩
theorem oc1_f (hd : 9 ≤ d) (h : CF c pl f p) (hq : ∀ c', c_sm (eW pl R) c c' → CF c' pl f p → Q 0 c') : oc1 d pl va Q v2 c := ⟨h.1, k_want0 h (by omega) (oc2_f hd h hq)⟩
theorem oc0_f (hd : 9 ≤ d) (h : CF c pl f p) (hq : ∀ c', c_sm (eW pl R) c c' → CF c' pl f p → Q 0 c') : oc0 d pl va Q c := ⟨h.1, f_or pl f p c d _ h hd (oc1_f hd h hq)⟩
theorem os4_f (hd : 9 ≤ d) (h : CF c pl f p) (hq : ∀ c', c_sm (eW pl R) c c' → CF c' pl f p → Q 0 c') : os4 d pl va Q v2 v3 c := ⟨h.1, h.1, fun c10 e10 => by rw [e10]; exact ⟨h.deep.1, k_node0 h.deep (by omega) (hq _ (c_sm.u _ (by unfold eW; omega) _ _) h.deep)⟩⟩
theorem os3_f (hd : 9 ≤ d) (h : CF c pl f p) (hq : ∀ c', c_sm (eW pl R) c c' → CF c' pl f p → Q 0 c') : os3 d pl va Q v2 v3 c := ⟨h.1, k_want0 h (by omega) (os4_f hd h hq)⟩
theorem os2_f (hd : 9 ≤ d) (h : CF c pl f p) (hq : ∀ c', c_sm (eW pl R) c c' → CF c' pl f p → Q 0 c') : os2 d pl va Q v2 c := ⟨h.1, f_or pl f p c d _ h hd (os3_f hd h hq)⟩
theorem os1_f (hd : 9 ≤ d) (h : CF c pl f p) (hq : ∀ c', c_sm (eW pl R) c c' → CF c' pl f p → Q 0 c') : os1 d pl va Q v2 c := ⟨h.1, k_want0 h (by omega) (os2_f hd h hq)⟩
theorem os0_f (hd : 9 ≤ d) (h : CF c pl f p) (hq : ∀ c', c_sm (eW pl R) c c' → CF c' pl f p → Q 0 c') : os0 d pl va Q c := ⟨h.1, f_or pl f p c d _ h hd (os1_f hd h hq)⟩
end
/-! what the model has yet to do -/
abbrev mN : Type := Nat → ms_S → (Int → ms_S → Prop) → Prop
/-- the model comes to a point, with what was read so far -/
def mTo (b : Int → Int) (n K : Nat) (R : Int) (B : Nat) (V W : pV) (mX N : mN) : Prop := ∀ (si : Nat) (s : ms_S) (d' : Nat) (P : Int → ms_S → Prop), ME s b n K R si V → B ≤ d' → (∀ s1, ME s1 b n K R si W → eF si s s1 → N d' s1 P) → mX (d' + 1) s P
/-- it ends with a fault -/
def mFa (b : Int → Int) (n K : Nat) (R : Int) (B : Nat) (V : pV) (mX : mN) (f p : Int) : Prop := ∀ (si : Nat) (s : ms_S) (d' : Nat) (P : Int → ms_S → Prop), ME s b n K R si V → B ≤ d' → (∀ v' s', MF s' f p → eF si s s' → P v' s') → mX (d' + 1) s P
section
variable {b : Int → Int} {n K : Nat} {R : Int} {B : Nat} {V W W' : pV} {mX N N' : mN} {f p : Int}
theorem mTo.go (h : mTo b n K R B V W mX N) (k : ∀ (si : Nat) (s0 s : ms_S) (d' : Nat) (P : Int → ms_S → Prop), ME s b n K R si W → B ≤ d' → (∀ s1, ME s1 b n K R si W' → eF si s s1 → N' d' s1 P) → N d' s P) : mTo b n K R B V W' mX N' :=
  fun si s d' P hME hd' hP => h si s d' P hME hd' (fun s1 hME1 he1 => k si s s1 d' P hME1 hd' (fun s2 hME2 he2 => hP s2 hME2 (he1.tr he2)))
theorem mTo.fa (h : mTo b n K R B V W mX N) (k : ∀ (si : Nat) (s0 s : ms_S) (d' : Nat) (P : Int → ms_S → Prop), ME s b n K R si W → B ≤ d' → eF si s0 s → (∀ v' s', MF s' f p → eF si s0 s' → P v' s') → N d' s P) : mFa b n K R B V mX f p :=
  fun si s d' P hME hd' hP => h si s d' P hME hd' (fun s1 hME1 he1 => k si s s1 d' P hME1 hd' he1 hP)
theorem mFa.rP {bg : (Int → Int) → Nat → Nat → Bool → Prop} {pl v : Int} {c' : cs_S} (h : mFa b n K R B V mX f p) (hf : CF c' pl f p) : rP bg mX (B + 1) pl b n K R V v c' := by
  refine Or.inr ⟨f, p, hf, fun si s D P hME hD hP => ?_⟩
  obtain ⟨d', rfl⟩ : ∃ d', D = d' + 1 := ⟨D - 1, by omega⟩
  exact h si s d' P hME (by omega) hP
end
