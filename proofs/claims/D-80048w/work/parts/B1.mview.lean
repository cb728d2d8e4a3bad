set_option maxRecDepth 100000
/-! the model: a text that is read -/
def mr (s : ms_S) (e : Int) (r : Int × Int × Int × Int × Int × Int) : Prop := s 23 e = mk_kind r.1 r.2.2.2.2.2 ∧ (r.1 = 0 → s 28 e = r.2.2.2.2.2) ∧ (7 ≤ r.1 → r.1 ≤ 16 → s 27 e = mk_how r.1) ∧ (r.1 ≠ 3 → s 24 e = r.2.1 ∧ s 25 e = r.2.2.1) ∧ s 26 e = r.2.2.2.1 ∧ s 32 e = r.2.2.2.2.1 ∧ (r.1 = 3 → s 30 e = r.2.1 ∧ s 27 e = r.2.2.1) ∧ -1 ≤ r.2.2.2.2.1 ∧ -1 ≤ r.2.2.1
def mEx (s : ms_S) (b : Int → Int) (n : Nat) (V : pV) : Prop := s 22 0 = (vN V : Int) ∧ vN V ≤ 120 ∧ ∀ e : Nat, e < vN V → mr s e (vT V e) ∧ s 29 e = (tk_p b n (vB V e).2 : Int)
def g_fst (b : Int → Int) (n : Nat) (B : Nat → Nat × Nat) : List Nat → Int
  | [] => -1
  | e :: _ => (tk_p b n (B e).1 : Int)
def mAg (s : ms_S) (b : Int → Int) (n : Nat) (R : Int) (si : Nat) (V : pV) : Prop := vM V = true → (s 71 0 = (si : Int) ∧ si < 60 ∧ s 42 si = ((vG V).length : Int) ∧ s 43 si = g_fst b n (vB V) (vG V) ∧ ∀ e ∈ vG V, e < vN V)
def mMay (s : ms_S) (V : pV) : Prop := (s 72 0 = 0 ∨ s 72 0 = 1) ∧ (s 73 0 = 0 ∨ s 73 0 = 1) ∧ (vM V = true ↔ (s 72 0 = 1 ∧ s 73 0 = 0))
def ME (s : ms_S) (b : Int → Int) (n K : Nat) (R : Int) (si : Nat) (V : pV) : Prop := mkT s b n K ∧ (s 18 0 = (vA V : Int) ∧ vA V ≤ K ∧ s 21 0 = 1 ∧ s 70 0 = (vD V : Int) ∧ vD V ≤ 12 ∧ s 69 0 = (vS V : Int)) ∧ mEx s b n V ∧ mAg s b n R si V ∧ mMay s V
/-- what readers of expressions leave -/
def eF (si : Nat) (s s' : ms_S) : Prop := ∀ (q : Nat) (j : Int), (q < 18 ∨ q = 31 ∨ (33 ≤ q ∧ q ≠ 42 ∧ q ≠ 43 ∧ q ≠ 70 ∧ q ≠ 74) ∨ ((q = 42 ∨ q = 43) ∧ j ≠ (si : Int) ∧ 0 ≤ j ∧ j < 60)) → s' q j = s q j
section
variable {s s' s2 : ms_S} {b : Int → Int} {d D n k K e si : Nat} {R : Int} {V : pV} {Q : Int → ms_S → Prop} {x y f p : Int} {w : List Int}
theorem eF.rf (s : ms_S) : eF si s s := fun _ _ _ => rfl
theorem eF.tr (h1 : eF si s s') (h2 : eF si s' s2) : eF si s s2 := fun q j h => (h2 q j h).trans (h1 q j h)
theorem eF.u {q : Nat} {j v : Int} (h : ¬ (q < 18 ∨ q = 31 ∨ (33 ≤ q ∧ q ≠ 42 ∧ q ≠ 43 ∧ q ≠ 70 ∧ q ≠ 74) ∨ ((q = 42 ∨ q = 43) ∧ j ≠ (si : Int) ∧ 0 ≤ j ∧ j < 60))) : eF si s (ms_u s q j v) := by
  intro q' j' h'
  unfold ms_u
  rw [if_neg]
  rintro ⟨rfl, rfl⟩
  exact h h'
theorem eF.fl : eF si s (m_fl s f p) := fun q j h => m_fl_f (by omega) (by omega) (by omega)
theorem ME.le (h : ME s b n K R si V) : vA V ≤ K ∧ K ≤ 2000 := ⟨h.2.1.2.1, by have := h.1.le; omega⟩
theorem ME.mf (h : ME s b n K R si V) : MF (m_fl s f p) f p := by
  have hl := h.le
  exact m_fl_MF (by rw [h.2.1.1]; omega) (by rw [h.2.1.1]; omega)
theorem ME.ct {V' : pV} (h : ME s b n K R si V) (e : ∀ (q : Nat) (j : Int), q ≠ 18 → q ≠ 69 → q ≠ 70 → q ≠ 74 → s' q j = s q j) (h18 : s' 18 0 = (vA V' : Int)) (hA : vA V' ≤ K) (h70 : s' 70 0 = (vD V' : Int)) (h12 : vD V' ≤ 12) (h69 : s' 69 0 = (vS V' : Int)) (hM : vM V' = vM V) (h2 : V'.2 = V.2) : ME s' b n K R si V' := by
  obtain ⟨p1, ⟨q1, q2, q3, q4, q5, q6⟩, ⟨g1, g2, g3⟩, aa, ⟨m1, m2, m3⟩⟩ := h
  have eN : vN V' = vN V := by unfold vN; rw [h2]
  have eT : vT V' = vT V := by unfold vT; rw [h2]
  have eB : vB V' = vB V := by unfold vB; rw [h2]
  have eG : vG V' = vG V := by unfold vG; rw [h2]
  refine ⟨p1.fr (fun q j hq => e q j (by omega) (by omega) (by omega) (by omega)), ⟨h18, hA, by rw [e _ _ (by omega) (by omega) (by omega) (by omega)]; exact q3, h70, h12, h69⟩, ⟨?_, by rw [eN]; exact g2, fun i hi => ?_⟩, fun hq => ?_, ?_⟩
  · rw [e _ _ (by omega) (by omega) (by omega) (by omega), eN]; exact g1
  · rw [eN] at hi
    have := g3 i hi
    unfold mr at this ⊢
    rw [eT, eB, e _ _ (by omega) (by omega) (by omega) (by omega), e _ _ (by omega) (by omega) (by omega) (by omega), e _ _ (by omega) (by omega) (by omega) (by omega), e _ _ (by omega) (by omega) (by omega) (by omega), e _ _ (by omega) (by omega) (by omega) (by omega), e _ _ (by omega) (by omega) (by omega) (by omega), e _ _ (by omega) (by omega) (by omega) (by omega), e _ _ (by omega) (by omega) (by omega) (by omega), e _ _ (by omega) (by omega) (by omega) (by omega)]
    exact this
  · rw [eG, eB, eN, e _ _ (by omega) (by omega) (by omega) (by omega), e _ _ (by omega) (by omega) (by omega) (by omega), e _ _ (by omega) (by omega) (by omega) (by omega)]
    exact aa (by rw [← hM]; exact hq)
  · unfold mMay
    rw [hM, e _ _ (by omega) (by omega) (by omega) (by omega), e _ _ (by omega) (by omega) (by omega) (by omega)]
    exact ⟨m1, m2, m3⟩
theorem ME.at (h : ME s b n K R si V) (hk : k ≤ K) : ME (ms_u s 18 0 k) b n K R si (v_at V k) :=
  h.ct (fun q j h1 h2 h3 h4 => ms_u_f _ _ _ h1) (ms_u_eq _ _ _ _) hk (by rw [ms_u_f _ _ _ (by omega)]; exact h.2.1.2.2.2.1) h.2.1.2.2.2.2.1 (by rw [ms_u_f _ _ _ (by omega)]; exact h.2.1.2.2.2.2.2) rfl rfl
theorem ME.deep (h : ME s b n K R si V) (hk : k ≤ 12) : ME (ms_u s 70 0 k) b n K R si (v_deep V k) :=
  h.ct (fun q j h1 h2 h3 h4 => ms_u_f _ _ _ h3) (by rw [ms_u_f _ _ _ (by omega)]; exact h.2.1.1) h.2.1.2.1 (ms_u_eq _ _ _ _) hk (by rw [ms_u_f _ _ _ (by omega)]; exact h.2.1.2.2.2.2.2) rfl rfl
theorem ME.sp (h : ME s b n K R si V) : ME (ms_u s 74 0 x) b n K R si V :=
  h.ct (fun q j h1 h2 h3 h4 => ms_u_f _ _ _ h4) (by rw [ms_u_f _ _ _ (by omega)]; exact h.2.1.1) h.2.1.2.1 (by rw [ms_u_f _ _ _ (by omega)]; exact h.2.1.2.2.2.1) h.2.1.2.2.2.2.1 (by rw [ms_u_f _ _ _ (by omega)]; exact h.2.1.2.2.2.2.2) rfl rfl
theorem MF.fr (h : MF s f p) (e : ∀ q : Nat, 18 ≤ q → q ≤ 21 → s' q 0 = s q 0) : MF s' f p := by
  unfold MF
  rw [e 21 (by omega) (by omega), e 19 (by omega) (by omega), e 20 (by omega) (by omega), e 18 (by omega) (by omega)]
  exact h
/-! words and signs at hand -/
theorem ME.pl (h : ME s b n K R si V) : s 15 (s 18 0) = (tk_p b n (vA V) : Int) := by rw [h.2.1.1]; exact (h.1.2.2.2 _ h.le.1).2.1
theorem ME.so (h : ME s b n K R si V) : s 14 (s 18 0) = tk_s b n (vA V) := by rw [h.2.1.1]; exact (h.1.2.2.2 _ h.le.1).1
theorem ME.isW1 (h : ME s b n K R si V) (hD : 2 ≤ D) (tw : tk_is b n (vA V) w ↔ (tk_s b n (vA V) = 1 ∧ tk_w b n (vA V) = st_str y)) (hy : st_is y) (hi : tk_is b n (vA V) w) (kk : Q 1 s) : md_isWord D y s Q := by
  obtain ⟨d, rfl⟩ : ∃ d', D = d' + 2 := ⟨D - 2, by omega⟩
  exact k_misWord h.1 h.2.1.1 h.le.1 h.2.1.2.2.1 hy (fun _ => kk) (fun q => absurd (tw.mp hi) q)
theorem ME.isW0 (h : ME s b n K R si V) (hD : 2 ≤ D) (tw : tk_is b n (vA V) w ↔ (tk_s b n (vA V) = 1 ∧ tk_w b n (vA V) = st_str y)) (hy : st_is y) (hi : ¬ tk_is b n (vA V) w) (kk : Q 0 s) : md_isWord D y s Q := by
  obtain ⟨d, rfl⟩ : ∃ d', D = d' + 2 := ⟨D - 2, by omega⟩
  exact k_misWord h.1 h.2.1.1 h.le.1 h.2.1.2.2.1 hy (fun q => absurd (tw.mpr q) hi) (fun _ => kk)
theorem ME.takeW1 (h : ME s b n K R si V) (hD : 3 ≤ D) (tw : tk_is b n (vA V) w ↔ (tk_s b n (vA V) = 1 ∧ tk_w b n (vA V) = st_str y)) (hy : st_is y) (hi : tk_is b n (vA V) w) (kk : Q 1 (ms_u s 18 0 ((vA V + 1 : Nat) : Int))) : md_takeWord D y s Q := by
  obtain ⟨d, rfl⟩ : ∃ d', D = d' + 3 := ⟨D - 3, by omega⟩
  exact k_mtakeWord h.1 h.2.1.1 h.le.1 h.2.1.2.2.1 hy (fun _ => kk) (fun q => absurd (tw.mp hi) q)
theorem ME.takeW0 (h : ME s b n K R si V) (hD : 3 ≤ D) (tw : tk_is b n (vA V) w ↔ (tk_s b n (vA V) = 1 ∧ tk_w b n (vA V) = st_str y)) (hy : st_is y) (hi : ¬ tk_is b n (vA V) w) (kk : Q 0 s) : md_takeWord D y s Q := by
  obtain ⟨d, rfl⟩ : ∃ d', D = d' + 3 := ⟨D - 3, by omega⟩
  exact k_mtakeWord h.1 h.2.1.1 h.le.1 h.2.1.2.2.1 hy (fun q => absurd (tw.mpr q) hi) (fun _ => kk)
theorem ME.needW1 (h : ME s b n K R si V) (hD : 4 ≤ D) (tw : tk_is b n (vA V) w ↔ (tk_s b n (vA V) = 1 ∧ tk_w b n (vA V) = st_str y)) (hy : st_is y) (hi : tk_is b n (vA V) w) (kk : Q 0 (ms_u s 18 0 ((vA V + 1 : Nat) : Int))) : md_needWord D y s Q := by
  obtain ⟨d, rfl⟩ : ∃ d', D = d' + 4 := ⟨D - 4, by omega⟩
  exact k_mneedWord h.1 h.2.1.1 h.le.1 h.2.1.2.2.1 hy (fun _ => kk) (fun q => absurd (tw.mp hi) q)
theorem ME.needW0 (h : ME s b n K R si V) (hD : 4 ≤ D) (tw : tk_is b n (vA V) w ↔ (tk_s b n (vA V) = 1 ∧ tk_w b n (vA V) = st_str y)) (hy : st_is y) (hi : ¬ tk_is b n (vA V) w) (kk : Q 0 (m_fl s 1 (tk_p b n (vA V)))) : md_needWord D y s Q := by
  obtain ⟨d, rfl⟩ : ∃ d', D = d' + 4 := ⟨D - 4, by omega⟩
  exact k_mneedWord h.1 h.2.1.1 h.le.1 h.2.1.2.2.1 hy (fun q => absurd (tw.mpr q) hi) (fun _ => kk)
theorem ME.isS1 (h : ME s b n K R si V) (ts : tk_is b n (vA V) w ↔ tk_s b n (vA V) = x) (hi : tk_is b n (vA V) w) (kk : Q 1 s) : md_isSign D x s Q := k_misSign h.1 h.2.1.1 h.le.1 h.2.1.2.2.1 (fun _ => kk) (fun q => absurd (ts.mp hi) q)
theorem ME.isS0 (h : ME s b n K R si V) (ts : tk_is b n (vA V) w ↔ tk_s b n (vA V) = x) (hi : ¬ tk_is b n (vA V) w) (kk : Q 0 s) : md_isSign D x s Q := k_misSign h.1 h.2.1.1 h.le.1 h.2.1.2.2.1 (fun q => absurd (ts.mpr q) hi) (fun _ => kk)
theorem ME.takeS1 (h : ME s b n K R si V) (hD : 1 ≤ D) (ts : tk_is b n (vA V) w ↔ tk_s b n (vA V) = x) (hi : tk_is b n (vA V) w) (kk : Q 1 (ms_u s 18 0 ((vA V + 1 : Nat) : Int))) : md_takeSign D x s Q := by
  obtain ⟨d, rfl⟩ : ∃ d', D = d' + 1 := ⟨D - 1, by omega⟩
  exact k_mtakeSign h.1 h.2.1.1 h.le.1 h.2.1.2.2.1 (fun _ => kk) (fun q => absurd (ts.mp hi) q)
theorem ME.takeS0 (h : ME s b n K R si V) (hD : 1 ≤ D) (ts : tk_is b n (vA V) w ↔ tk_s b n (vA V) = x) (hi : ¬ tk_is b n (vA V) w) (kk : Q 0 s) : md_takeSign D x s Q := by
  obtain ⟨d, rfl⟩ : ∃ d', D = d' + 1 := ⟨D - 1, by omega⟩
  exact k_mtakeSign h.1 h.2.1.1 h.le.1 h.2.1.2.2.1 (fun q => absurd (ts.mpr q) hi) (fun _ => kk)
theorem ME.needS1 (h : ME s b n K R si V) (hD : 2 ≤ D) (ts : tk_is b n (vA V) w ↔ tk_s b n (vA V) = x) (hi : tk_is b n (vA V) w) (kk : Q 0 (ms_u s 18 0 ((vA V + 1 : Nat) : Int))) : md_needSign D x s Q := by
  obtain ⟨d, rfl⟩ : ∃ d', D = d' + 2 := ⟨D - 2, by omega⟩
  exact k_mneedSign h.1 h.2.1.1 h.le.1 h.2.1.2.2.1 (fun _ => kk) (fun q => absurd (ts.mp hi) q)
theorem ME.needS0 (h : ME s b n K R si V) (hD : 2 ≤ D) (ts : tk_is b n (vA V) w ↔ tk_s b n (vA V) = x) (hi : ¬ tk_is b n (vA V) w) (kk : Q 0 (m_fl s 1 (tk_p b n (vA V)))) : md_needSign D x s Q := by
  obtain ⟨d, rfl⟩ : ∃ d', D = d' + 2 := ⟨D - 2, by omega⟩
  exact k_mneedSign h.1 h.2.1.1 h.le.1 h.2.1.2.2.1 (fun q => absurd (ts.mpr q) hi) (fun _ => kk)
theorem ME.name1 (h : ME s b n K R si V) (hD : 3 ≤ D) (hi : tk_nm b n (vA V)) (kk : Q (vA V : Int) (ms_u s 18 0 ((vA V + 1 : Nat) : Int))) : md_name D s Q := by
  obtain ⟨d, rfl⟩ : ∃ d', D = d' + 3 := ⟨D - 3, by omega⟩
  exact k_mname h.1 h.2.1.1 h.le.1 h.2.1.2.2.1 (fun _ => kk) (fun q => absurd hi q)
theorem ME.name0 (h : ME s b n K R si V) (hD : 3 ≤ D) (hi : ¬ tk_nm b n (vA V)) (kk : Q (vA V : Int) (m_fl s 1 (tk_p b n (vA V)))) : md_name D s Q := by
  obtain ⟨d, rfl⟩ : ∃ d', D = d' + 3 := ⟨D - 3, by omega⟩
  exact k_mname h.1 h.2.1.1 h.le.1 h.2.1.2.2.1 (fun q => absurd q hi) (fun _ => kk)
theorem ME.tell (h : ME s b n K R si V) (kk : Q 0 (m_fl s f p)) : md_tell D f p s Q := k_mtell h.2.1.2.2.1 kk
theorem ME.wrong (h : ME s b n K R si V) (hD : 1 ≤ D) (kk : Q 0 (m_fl s 1 (tk_p b n (vA V)))) : md_wrong D s Q := by
  obtain ⟨d, rfl⟩ : ∃ d', D = d' + 1 := ⟨D - 1, by omega⟩
  exact k_mwrong h.1 h.2.1.1 h.le.1 h.2.1.2.2.1 kk
theorem MF.isW (h : MF s f p) (hD : 2 ≤ D) (kk : Q 0 s) : md_isWord D y s Q := by
  obtain ⟨d, rfl⟩ : ∃ d', D = d' + 2 := ⟨D - 2, by omega⟩
  exact k_misWord0 h.1 kk
theorem MF.takeW (h : MF s f p) (hD : 3 ≤ D) (kk : Q 0 s) : md_takeWord D y s Q := by
  obtain ⟨d, rfl⟩ : ∃ d', D = d' + 3 := ⟨D - 3, by omega⟩
  exact k_mtakeWord0 h kk
theorem MF.needW (h : MF s f p) (hD : 4 ≤ D) (kk : Q 0 s) : md_needWord D y s Q := by
  obtain ⟨d, rfl⟩ : ∃ d', D = d' + 4 := ⟨D - 4, by omega⟩
  exact k_mneedWord0 h kk
theorem MF.isS (h : MF s f p) (kk : Q 0 s) : md_isSign D x s Q := k_misSign0 h.1 kk
theorem MF.takeS (h : MF s f p) (hD : 1 ≤ D) (kk : Q 0 s) : md_takeSign D x s Q := by
  obtain ⟨d, rfl⟩ : ∃ d', D = d' + 1 := ⟨D - 1, by omega⟩
  exact k_mtakeSign0 h kk
theorem MF.needS (h : MF s f p) (hD : 2 ≤ D) (kk : Q 0 s) : md_needSign D x s Q := by
  obtain ⟨d, rfl⟩ : ∃ d', D = d' + 2 := ⟨D - 2, by omega⟩
  exact k_mneedSign0 h kk
theorem MF.name (h : MF s f p) (hD : 3 ≤ D) (kk : ∀ v, Q v s) : md_name D s Q := by
  obtain ⟨d, rfl⟩ : ∃ d', D = d' + 3 := ⟨D - 3, by omega⟩
  exact k_mname0 h kk
/-! nodes -/
def mkF (N : Nat) (s s' : ms_S) : Prop := ∀ (q : Nat) (j : Int), q ≠ 22 → ¬ (23 ≤ q ∧ q ≤ 32 ∧ q ≠ 31 ∧ j = (N : Int)) → s' q j = s q j
theorem mkF.tr {N : Nat} (h1 : mkF N s s') (h2 : mkF N s' s2) : mkF N s s2 := fun q j a b => (h2 q j a b).trans (h1 q j a b)
theorem mkF.u {N q : Nat} {v : Int} (h1 : 23 ≤ q) (h2 : q ≤ 32) (h3 : q ≠ 31) : mkF N s (ms_u s q N v) := by
  intro q' j a b'
  unfold ms_u
  rw [if_neg]
  rintro ⟨rfl, rfl⟩
  exact b' ⟨h1, h2, h3, rfl⟩
theorem mkF.eF {N : Nat} (h : mkF N s s') : eF si s s' := fun q j hq => h q j (by omega) (by omega)
theorem ME.make {what a1 b1 c1 first t7 : Int} (h : ME s b n K R si V) (hD : 1 ≤ D) (hN : vN V < 120) (kk : ∀ s', mkF (vN V) s s' → s' 22 0 = ((vN V + 1 : Nat) : Int) → (s' 23 (vN V) = what ∧ s' 24 (vN V) = a1 ∧ s' 25 (vN V) = b1 ∧ s' 26 (vN V) = c1 ∧ s' 27 (vN V) = 0 ∧ s' 28 (vN V) = 0 ∧ s' 29 (vN V) = first ∧ s' 30 (vN V) = 0 ∧ s' 32 (vN V) = -1) → Q (vN V : Int) s') : md_make D what a1 b1 c1 first t7 s Q := by
  obtain ⟨d, rfl⟩ : ∃ d', D = d' + 1 := ⟨D - 1, by omega⟩
  have hz := h.2.2.1.1
  refine w212_e ⟨fun _ => ⟨fun _ => ?_, fun w => absurd w (by rw [hz]; omega)⟩, fun w => absurd (by rw [h.2.1.2.2.1]; decide) w⟩
  rw [hz]
  refine fun s1 e1 => ⟨by omega, by omega, fun s2 e2 => ⟨by omega, by omega, fun s3 e3 => ⟨by omega, by omega, fun s4 e4 => ⟨by omega, by omega, fun s5 e5 => ⟨by omega, by omega, fun s6 e6 => ⟨by omega, by omega, fun s7 e7 => ⟨by omega, by omega, fun s8 e8 => ⟨by omega, by omega, fun s9 e9 => ⟨by omega, by omega, fun s10 e10 => ?_⟩⟩⟩⟩⟩⟩⟩⟩⟩
  rw [am_w_s (by omega)] at e1
  refine kk s10 (fun q j h1 h2 => ?_) ?_ ⟨?_, ?_, ?_, ?_, ?_, ?_, ?_, ?_, ?_⟩
  · rw [e10, e9, e8, e7, e6, e5, e4, e3, e2, e1]
    unfold ms_u
    rw [if_neg (by omega), if_neg (by omega), if_neg (by omega), if_neg (by omega), if_neg (by omega), if_neg (by omega), if_neg (by omega), if_neg (by omega), if_neg (by omega), if_neg (by omega)]
  · rw [e10, ms_u_f _ _ _ (by omega), e9, ms_u_f _ _ _ (by omega), e8, ms_u_f _ _ _ (by omega), e7, ms_u_f _ _ _ (by omega), e6, ms_u_f _ _ _ (by omega), e5, ms_u_f _ _ _ (by omega), e4, ms_u_f _ _ _ (by omega), e3, ms_u_f _ _ _ (by omega), e2, ms_u_f _ _ _ (by omega), e1, ms_u_eq]
  · rw [e10, ms_u_f _ _ _ (by omega), e9, ms_u_f _ _ _ (by omega), e8, ms_u_f _ _ _ (by omega), e7, ms_u_f _ _ _ (by omega), e6, ms_u_f _ _ _ (by omega), e5, ms_u_f _ _ _ (by omega), e4, ms_u_f _ _ _ (by omega), e3, ms_u_f _ _ _ (by omega), e2, ms_u_eq]
  · rw [e10, ms_u_f _ _ _ (by omega), e9, ms_u_f _ _ _ (by omega), e8, ms_u_f _ _ _ (by omega), e7, ms_u_f _ _ _ (by omega), e6, ms_u_f _ _ _ (by omega), e5, ms_u_f _ _ _ (by omega), e4, ms_u_f _ _ _ (by omega), e3, ms_u_eq]
  · rw [e10, ms_u_f _ _ _ (by omega), e9, ms_u_f _ _ _ (by omega), e8, ms_u_f _ _ _ (by omega), e7, ms_u_f _ _ _ (by omega), e6, ms_u_f _ _ _ (by omega), e5, ms_u_f _ _ _ (by omega), e4, ms_u_eq]
  · rw [e10, ms_u_f _ _ _ (by omega), e9, ms_u_f _ _ _ (by omega), e8, ms_u_f _ _ _ (by omega), e7, ms_u_f _ _ _ (by omega), e6, ms_u_f _ _ _ (by omega), e5, ms_u_eq]
  · rw [e10, ms_u_f _ _ _ (by omega), e9, ms_u_f _ _ _ (by omega), e8, ms_u_f _ _ _ (by omega), e7, ms_u_f _ _ _ (by omega), e6, ms_u_eq]
  · rw [e10, ms_u_f _ _ _ (by omega), e9, ms_u_f _ _ _ (by omega), e8, ms_u_f _ _ _ (by omega), e7, ms_u_eq]
  · rw [e10, ms_u_f _ _ _ (by omega), e9, ms_u_f _ _ _ (by omega), e8, ms_u_eq]
  · rw [e10, ms_u_f _ _ _ (by omega), e9, ms_u_eq]
  · rw [e10, ms_u_eq]
theorem ME.full {what a1 b1 c1 first t7 : Int} (h : ME s b n K R si V) (hD : 1 ≤ D) (hN : vN V = 120) (kk : Q 0 (m_fl s 7 t7)) : md_make D what a1 b1 c1 first t7 s Q := by
  obtain ⟨d, rfl⟩ : ∃ d', D = d' + 1 := ⟨D - 1, by omega⟩
  exact w212_e ⟨fun _ => ⟨fun w => absurd (by rw [h.2.2.1.1, hN]; rfl) w, fun _ => h.tell kk⟩, fun w => absurd (by rw [h.2.1.2.2.1]; decide) w⟩
theorem MF.make {what a1 b1 c1 first t7 : Int} (h : MF s f p) (hD : 1 ≤ D) (kk : Q 0 s) : md_make D what a1 b1 c1 first t7 s Q := by
  obtain ⟨d, rfl⟩ : ∃ d', D = d' + 1 := ⟨D - 1, by omega⟩
  exact w212_e ⟨fun w => absurd h.1 w, fun _ => kk⟩
/-- one more -/
theorem ME.add {r : Int × Int × Int × Int × Int × Int} {tok beg : Nat} (h : ME s b n K R si V) (hN : vN V < 120) (fr : mkF (vN V) s s') (h22 : s' 22 0 = ((vN V + 1 : Nat) : Int)) (hr : mr s' (vN V) r) (hb : s' 29 (vN V) = (tk_p b n beg : Int)) : ME s' b n K R si (v_add V r tok beg) := by
  obtain ⟨p1, ⟨q1, q2, q3, q4, q5, q6⟩, ⟨g1, g2, g3⟩, aa, ⟨m1, m2, m3⟩⟩ := h
  have e : ∀ (q : Nat) (j : Int), (q < 22 ∨ 33 ≤ q) → s' q j = s q j := fun q j hq => fr q j (by omega) (by omega)
  refine ⟨p1.fr (fun q j hq => e q j (by omega)), ⟨by rw [e _ _ (by omega)]; exact q1, q2, by rw [e _ _ (by omega)]; exact q3, by rw [e _ _ (by omega)]; exact q4, q5, by rw [e _ _ (by omega)]; exact q6⟩, ⟨h22, by show vN V + 1 ≤ 120; omega, fun i hi => ?_⟩, fun hq => ?_, ?_⟩
  · show mr s' i (x_up (vT V) (vN V) r i) ∧ s' 29 i = (tk_p b n (if i = vN V then (tok, beg) else vB V i).2 : Int)
    have hi : i < vN V + 1 := hi
    by_cases ci : i = vN V
    · rw [ci, x_up_eq, if_pos rfl]; exact ⟨hr, hb⟩
    · rw [x_up_ne _ ci, if_neg ci]
      have f : ∀ q : Nat, 23 ≤ q → q ≤ 32 → s' q i = s q i := fun q h1 h2 => fr q i (by omega) (by omega)
      have := g3 i (by omega)
      unfold mr at this ⊢
      rw [f _ (by omega) (by omega), f _ (by omega) (by omega), f _ (by omega) (by omega), f _ (by omega) (by omega), f _ (by omega) (by omega), f _ (by omega) (by omega), f _ (by omega) (by omega), f _ (by omega) (by omega), f _ (by omega) (by omega)]
      exact this
  · obtain ⟨a1, a2, z1, z2, z3⟩ := aa hq
    refine ⟨by rw [e _ _ (by omega)]; exact a1, a2, by rw [e _ _ (by omega)]; exact z1, ?_, fun i hi => Nat.lt_succ_of_lt (z3 i hi)⟩
    rw [e _ _ (by omega), z2]
    show g_fst b n (vB V) (vG V) = g_fst b n (fun i => if i = vN V then (tok, beg) else vB V i) (vG V)
    cases hg : vG V with
    | nil => rfl
    | cons i l =>
      have := z3 i (by rw [hg]; exact List.mem_cons_self)
      show _ = ((tk_p b n (if i = vN V then (tok, beg) else vB V i).1 : Nat) : Int)
      rw [if_neg (by omega)]
      rfl
  · unfold mMay
    rw [e _ _ (by omega), e _ _ (by omega)]
    exact ⟨m1, m2, m3⟩
theorem ME.row {r : Int × Int × Int × Int × Int × Int} (h : ME s b n K R si V) (he : e < vN V) (fr : ∀ (q : Nat) (j : Int), ¬ (23 ≤ q ∧ q ≤ 32 ∧ q ≠ 31 ∧ j = (e : Int)) → s' q j = s q j) (hr : mr s' e r) (hb : s' 29 e = s 29 e) : ME s' b n K R si (v_row V e r) := by
  obtain ⟨p1, ⟨q1, q2, q3, q4, q5, q6⟩, ⟨g1, g2, g3⟩, aa, ⟨m1, m2, m3⟩⟩ := h
  have ee : ∀ (q : Nat) (j : Int), (q < 23 ∨ 33 ≤ q) → s' q j = s q j := fun q j hq => fr q j (by omega)
  refine ⟨p1.fr (fun q j hq => ee q j (by omega)), ⟨by rw [ee _ _ (by omega)]; exact q1, q2, by rw [ee _ _ (by omega)]; exact q3, by rw [ee _ _ (by omega)]; exact q4, q5, by rw [ee _ _ (by omega)]; exact q6⟩, ⟨by rw [ee _ _ (by omega)]; exact g1, g2, fun i hi => ?_⟩, fun hq => ?_, ?_⟩
  · show mr s' i (x_up (vT V) e r i) ∧ s' 29 i = _
    have hi : i < vN V := hi
    by_cases ci : i = e
    · rw [ci, x_up_eq, hb]; exact ⟨hr, (g3 e he).2⟩
    · rw [x_up_ne _ ci]
      have f : ∀ q : Nat, 23 ≤ q → q ≤ 32 → s' q i = s q i := fun q h1 h2 => fr q i (by omega)
      have := g3 i (by omega)
      unfold mr at this ⊢
      rw [f _ (by omega) (by omega), f _ (by omega) (by omega), f _ (by omega) (by omega), f _ (by omega) (by omega), f _ (by omega) (by omega), f _ (by omega) (by omega), f _ (by omega) (by omega), f _ (by omega) (by omega), f _ (by omega) (by omega)]
      exact this
  · rw [ee _ _ (by omega), ee _ _ (by omega), ee _ _ (by omega)]
    exact aa hq
  · unfold mMay
    rw [ee _ _ (by omega), ee _ _ (by omega)]
    exact ⟨m1, m2, m3⟩
/-- one more within another -/
theorem ME.deeper1 (h : ME s b n K R si V) (hD : 1 ≤ D) (h12 : vD V < 12) (kk : Q 0 (ms_u s 70 0 ((vD V + 1 : Nat) : Int))) : md_deeper D x s Q := by
  obtain ⟨d, rfl⟩ : ∃ d', D = d' + 1 := ⟨D - 1, by omega⟩
  refine w213_e (fun s1 e1 => ?_)
  rw [h.2.1.2.2.2.1, am_w_s (by omega)] at e1
  have e2 : s1 70 0 = ((vD V + 1 : Nat) : Int) := by rw [e1, ms_u_eq]
  rw [e2]
  exact ⟨fun _ => w213_1 (by rw [e1]; exact kk), fun w => absurd (by omega) w⟩
theorem ME.deeper0 (h : ME s b n K R si V) (hD : 1 ≤ D) (h12 : vD V = 12) (kk : Q 0 (m_fl (ms_u s 70 0 13) 7 x)) : md_deeper D x s Q := by
  obtain ⟨d, rfl⟩ : ∃ d', D = d' + 1 := ⟨D - 1, by omega⟩
  refine w213_e (fun s1 e1 => ?_)
  rw [h.2.1.2.2.2.1, am_w_s (by omega), h12] at e1
  have e2 : s1 70 0 = 13 := by rw [e1, ms_u_eq]; rfl
  rw [e2]
  refine ⟨fun w => absurd w (by omega), fun _ => k_mtell (by rw [e1, ms_u_f _ _ _ (by omega)]; exact h.2.1.2.2.1) (w213_1 ?_)⟩
  rw [e1]; exact kk
/-- what can begin -/
theorem tk_bs_w {m : Bool} (hs : tk_s b n k = 1) : tk_bs b n k m ↔ ((tk_ag b n k ∧ m = true) ∨ (¬ tk_ag b n k ∧ (tk_is b n k (st_str (-30)) ∨ tk_is b n k (st_str (-32)) ∨ tk_is b n k (st_str (-34)) ∨ tk_is b n k (st_str (-38)) ∨ tk_is b n k (st_str (-40)) ∨ tk_is b n k (st_str (-28)) ∨ ¬ tkn (tk_w b n k)))) := by
  have n1 : ¬ tk_is b n k (st_str (-36)) := fun q => by rw [ts_40] at q; omega
  have n2 : ¬ tk_is b n k (st_str (-42)) := fun q => by rw [ts_45] at q; omega
  have agt : tk_ag b n k → tkn (tk_w b n k) := by
    intro q
    rcases q with q | q | q | q
    · rw [q.2]; exact tkn_count
    · rw [q.2]; exact tkn_sum
    · rw [q.2]; exact tkn_min
    · rw [q.2]; exact tkn_max
  have agw : tk_ag b n k → ∀ y, tk_is b n k (st_str y) → (st_str y = st_str (-20) ∨ st_str y = st_str (-22) ∨ st_str y = st_str (-24) ∨ st_str y = st_str (-26)) := by
    intro q y hy
    rcases q with q | q | q | q
    · left; rw [← hy.2, q.2]
    · right; left; rw [← hy.2, q.2]
    · right; right; left; rw [← hy.2, q.2]
    · right; right; right; rw [← hy.2, q.2]
  unfold tk_bs tk_nm
  constructor
  · intro h
    by_cases ca : tk_ag b n k
    · left
      refine ⟨ca, ?_⟩
      rcases h with h | h | h | h | h | h | h | h | h | h | h
      · omega
      · exact absurd (agt ca) h.2
      · exfalso; have := agw ca _ h; revert this; decide +kernel
      · exfalso; have := agw ca _ h; revert this; decide +kernel
      · exfalso; have := agw ca _ h; revert this; decide +kernel
      · exfalso; have := agw ca _ h; revert this; decide +kernel
      · exact absurd h n1
      · exfalso; have := agw ca _ h; revert this; decide +kernel
      · exfalso; have := agw ca _ h; revert this; decide +kernel
      · exact absurd h n2
      · exact h.2
    · right
      refine ⟨ca, ?_⟩
      rcases h with h | h | h | h | h | h | h | h | h | h | h
      · omega
      · exact Or.inr (Or.inr (Or.inr (Or.inr (Or.inr (Or.inr h.2)))))
      · exact Or.inr (Or.inr (Or.inr (Or.inr (Or.inr (Or.inl h)))))
      · exact Or.inl h
      · exact Or.inr (Or.inl h)
      · exact Or.inr (Or.inr (Or.inl h))
      · exact absurd h n1
      · exact Or.inr (Or.inr (Or.inr (Or.inl h)))
      · exact Or.inr (Or.inr (Or.inr (Or.inr (Or.inl h))))
      · exact absurd h n2
      · exact absurd h.1 ca
  · rintro (h | ⟨-, h | h | h | h | h | h | h⟩)
    · exact Or.inr (Or.inr (Or.inr (Or.inr (Or.inr (Or.inr (Or.inr (Or.inr (Or.inr (Or.inr h)))))))))
    · exact Or.inr (Or.inr (Or.inr (Or.inl h)))
    · exact Or.inr (Or.inr (Or.inr (Or.inr (Or.inl h))))
    · exact Or.inr (Or.inr (Or.inr (Or.inr (Or.inr (Or.inl h)))))
    · exact Or.inr (Or.inr (Or.inr (Or.inr (Or.inr (Or.inr (Or.inr (Or.inl h)))))))
    · exact Or.inr (Or.inr (Or.inr (Or.inr (Or.inr (Or.inr (Or.inr (Or.inr (Or.inl h))))))))
    · exact Or.inr (Or.inr (Or.inl h))
    · exact Or.inr (Or.inl ⟨hs, h⟩)
theorem tk_is1 {y : Int} (hs : tk_s b n k ≠ 1) (tw : tk_is b n k w ↔ (tk_s b n k = 1 ∧ tk_w b n k = st_str y)) : ¬ tk_is b n k w := fun q => hs (tw.mp q).1
theorem tk_bs_s {m : Bool} (hs : tk_s b n k ≠ 1) : tk_bs b n k m ↔ (tk_s b n k = 2 ∨ tk_s b n k = 40 ∨ tk_s b n k = 45) := by
  unfold tk_bs tk_nm tk_ag
  rw [ts_40, ts_45]
  have a1 := tk_is1 hs tw_time
  have a2 := tk_is1 hs tw_null
  have a3 := tk_is1 hs tw_true
  have a4 := tk_is1 hs tw_false
  have a5 := tk_is1 hs tw_case
  have a6 := tk_is1 hs tw_span
  have a7 := tk_is1 hs tw_count
  have a8 := tk_is1 hs tw_sum
  have a9 := tk_is1 hs tw_min
  have a10 := tk_is1 hs tw_max
  constructor
  · rintro (h | h | h | h | h | h | h | h | h | h | h)
    · exact Or.inl h
    · exact absurd h.1 hs
    · exact absurd h a1
    · exact absurd h a2
    · exact absurd h a3
    · exact absurd h a4
    · exact Or.inr (Or.inl h)
    · exact absurd h a5
    · exact absurd h a6
    · exact Or.inr (Or.inr h)
    · rcases h.1 with h | h | h | h
      · exact absurd h a7
      · exact absurd h a8
      · exact absurd h a9
      · exact absurd h a10
  · rintro (h | h | h)
    · exact Or.inl h
    · exact Or.inr (Or.inr (Or.inr (Or.inr (Or.inr (Or.inr (Or.inl h))))))
    · exact Or.inr (Or.inr (Or.inr (Or.inr (Or.inr (Or.inr (Or.inr (Or.inr (Or.inr (Or.inl h)))))))))
theorem k_mbegins (h : ME s b n K R si V) (hD : 2 ≤ D) (h1 : (tk_bs b n (vA V) (vM V) ∨ (x = 0 ∧ tk_is b n (vA V) (st_str (-44)))) → Q 1 s) (h0 : ¬ (tk_bs b n (vA V) (vM V) ∨ (x = 0 ∧ tk_is b n (vA V) (st_str (-44)))) → Q 0 s) : md_begins D x s Q := by
  obtain ⟨d, rfl⟩ : ∃ d', D = d' + 2 := ⟨D - 2, by omega⟩
  have hl := h.le
  have ha := h.2.1.1
  have hso := h.so
  rw [ha] at hso
  refine w201_e ⟨fun _ => ⟨by omega, by omega, ?_⟩, fun w => absurd (by rw [h.2.1.2.2.1]; decide) w⟩
  rw [ha, hso]
  refine ⟨fun hs => ?_, fun hs => ?_⟩
  · rw [tk_bs_w hs] at h1 h0
    have yes15 : (z : Int) → ((tk_ag b n (vA V) ∧ vM V = true) ∨ (¬ tk_ag b n (vA V) ∧ (tk_is b n (vA V) (st_str (-30)) ∨ tk_is b n (vA V) (st_str (-32)) ∨ tk_is b n (vA V) (st_str (-34)) ∨ tk_is b n (vA V) (st_str (-38)) ∨ tk_is b n (vA V) (st_str (-40)) ∨ tk_is b n (vA V) (st_str (-28)) ∨ ¬ tkn (tk_w b n (vA V)))) ∨ (x = 0 ∧ tk_is b n (vA V) (st_str (-44)))) → mw (d + 2) 201 (am_blk 201 15) [159, x, tk_s b n (vA V), 0, z] [] s Q := fun z q => w201_15 (w201_17 (h1 (by rcases q with q | q | q; exact Or.inl (Or.inl q); exact Or.inl (Or.inr q); exact Or.inr q)))
    have b12 : ¬ tk_ag b n (vA V) → (tk_is b n (vA V) (st_str (-30)) ∨ tk_is b n (vA V) (st_str (-32)) ∨ tk_is b n (vA V) (st_str (-34)) ∨ tk_is b n (vA V) (st_str (-38)) ∨ tk_is b n (vA V) (st_str (-40)) ∨ tk_is b n (vA V) (st_str (-28))) → mw (d + 2) 201 (am_blk 201 12) [159, x, tk_s b n (vA V), 0, 0] [] s Q := by
      intro na q
      refine w201_12 (w201_14 ⟨fun _ => yes15 1 (Or.inr (Or.inl ⟨na, ?_⟩)), fun w => absurd (by omega : (1 : Int) ≠ 0) w⟩)
      rcases q with q | q | q | q | q | q
      · exact Or.inl q
      · exact Or.inr (Or.inl q)
      · exact Or.inr (Or.inr (Or.inl q))
      · exact Or.inr (Or.inr (Or.inr (Or.inl q)))
      · exact Or.inr (Or.inr (Or.inr (Or.inr (Or.inl q))))
      · exact Or.inr (Or.inr (Or.inr (Or.inr (Or.inr (Or.inl q)))))
    have tx : ∀ {y : Int} {Q' : Int → ms_S → Prop} {w' : List Int}, st_is y → (tk_is b n (vA V) w' ↔ (tk_s b n (vA V) = 1 ∧ tk_w b n (vA V) = st_str y)) → (tk_is b n (vA V) w' → Q' 1 s) → (¬ tk_is b n (vA V) w' → Q' 0 s) → md_isText (d + 1) (vA V : Int) y s Q' := fun hy tw a1 a0 => k_mText h.1 hl.1 hy (fun q => a1 (tw.mpr ⟨hs, q⟩)) (fun q => a0 (fun z => q (tw.mp z).2))
    have b8n : ¬ tk_ag b n (vA V) → mw (d + 2) 201 (am_blk 201 8) [159, x, tk_s b n (vA V), 0, 0] [0] s Q := by
      intro na
      refine w201_8 ⟨fun _ => ?_, fun w => absurd rfl w⟩
      rw [ha]
      refine tx (by unfold st_is; omega) tw_null (fun q => ⟨fun _ => b12 na (Or.inl q), fun w => absurd (by omega : (1 : Int) ≠ 0) w⟩) (fun m1 => ⟨fun w => absurd rfl w, fun _ => ?_⟩)
      rw [ha]
      refine tx (by unfold st_is; omega) tw_true (fun q => ⟨fun _ => b12 na (Or.inr (Or.inl q)), fun w => absurd (by omega : (1 : Int) ≠ 0) w⟩) (fun m2 => ⟨fun w => absurd rfl w, fun _ => ?_⟩)
      rw [ha]
      refine tx (by unfold st_is; omega) tw_false (fun q => ⟨fun _ => b12 na (Or.inr (Or.inr (Or.inl q))), fun w => absurd (by omega : (1 : Int) ≠ 0) w⟩) (fun m3 => ⟨fun w => absurd rfl w, fun _ => ?_⟩)
      rw [ha]
      refine tx (by unfold st_is; omega) tw_case (fun q => ⟨fun _ => b12 na (Or.inr (Or.inr (Or.inr (Or.inl q)))), fun w => absurd (by omega : (1 : Int) ≠ 0) w⟩) (fun m4 => ⟨fun w => absurd rfl w, fun _ => ?_⟩)
      rw [ha]
      refine tx (by unfold st_is; omega) tw_span (fun q => ⟨fun _ => b12 na (Or.inr (Or.inr (Or.inr (Or.inr (Or.inl q))))), fun w => absurd (by omega : (1 : Int) ≠ 0) w⟩) (fun m5 => ⟨fun w => absurd rfl w, fun _ => ?_⟩)
      rw [ha]
      refine tx (by unfold st_is; omega) tw_time (fun q => ⟨fun w => absurd w (by omega), fun _ => b12 na (Or.inr (Or.inr (Or.inr (Or.inr (Or.inr q)))))⟩) (fun m6 => ⟨fun _ => w201_14 ⟨fun w => absurd rfl w, fun _ => ?_⟩, fun w => absurd rfl w⟩)
      rw [ha]
      refine k_mTaken h.1 hl.1 hs (fun ht => ⟨fun w => absurd w (by omega), fun _ => ?_⟩) (fun ht => ⟨fun _ => yes15 _ (Or.inr (Or.inl ⟨na, Or.inr (Or.inr (Or.inr (Or.inr (Or.inr (Or.inr ht)))))⟩)), fun w => absurd rfl w⟩)
      have no : ¬ (x = 0 ∧ tk_is b n (vA V) (st_str (-44))) → mw (d + 2) 201 (am_blk 201 16) [159, x, tk_s b n (vA V), 0, 0] [] s Q := by
        intro nn
        refine w201_16 (w201_17 (h0 ?_))
        rintro ((q | ⟨-, q | q | q | q | q | q | q⟩) | q)
        · exact na q.1
        · exact m1 q
        · exact m2 q
        · exact m3 q
        · exact m4 q
        · exact m5 q
        · exact m6 q
        · exact q ht
        · exact nn q
      refine ⟨fun w => no (fun q => w q.1), fun w => ?_⟩
      rw [ha]
      exact tx (by unfold st_is; omega) tw_not (fun q => ⟨fun w => absurd w (by omega), fun _ => yes15 _ (Or.inr (Or.inr ⟨Classical.not_not.mp w, q⟩))⟩) (fun q => ⟨fun _ => no (fun z => q z.2), fun w => absurd rfl w⟩)
    have b6 : tk_ag b n (vA V) → mw (d + 2) 201 (am_blk 201 6) [159, x, tk_s b n (vA V), 0, 0] [] s Q := by
      intro q
      have nn : vM V ≠ true → ¬ (((tk_ag b n (vA V) ∧ vM V = true) ∨ (¬ tk_ag b n (vA V) ∧ (tk_is b n (vA V) (st_str (-30)) ∨ tk_is b n (vA V) (st_str (-32)) ∨ tk_is b n (vA V) (st_str (-34)) ∨ tk_is b n (vA V) (st_str (-38)) ∨ tk_is b n (vA V) (st_str (-40)) ∨ tk_is b n (vA V) (st_str (-28)) ∨ ¬ tkn (tk_w b n (vA V))))) ∨ (x = 0 ∧ tk_is b n (vA V) (st_str (-44)))) := by
        rintro hm ((z | z) | z)
        · exact hm z.2
        · exact z.1 q
        · have hz := z.2.2
          have : st_str (-44) = st_str (-20) ∨ st_str (-44) = st_str (-22) ∨ st_str (-44) = st_str (-24) ∨ st_str (-44) = st_str (-26) := by
            rcases q with q | q | q | q
            · left; rw [← hz, q.2]
            · right; left; rw [← hz, q.2]
            · right; right; left; rw [← hz, q.2]
            · right; right; right; rw [← hz, q.2]
          revert this; decide +kernel
      obtain ⟨m1, m2, m3⟩ := h.2.2.2.2
      refine w201_6 (w201_8 ⟨fun w => absurd w (by omega), fun _ => ⟨fun w => w201_9 (w201_10 (h0 (nn (fun z => by have := (m3.mp z).1; omega)))), fun w => ⟨fun w2 => w201_9 (w201_10 (h0 (nn (fun z => by have := (m3.mp z).2; omega)))), fun w2 => w201_10 (h1 (Or.inl (Or.inl ⟨q, m3.mpr ⟨by omega, by omega⟩⟩)))⟩⟩⟩)
    refine tx (by unfold st_is; omega) tw_count (fun q => ⟨fun _ => b6 (Or.inl q), fun w => absurd (by omega : (1 : Int) ≠ 0) w⟩) (fun m1 => ⟨fun w => absurd rfl w, fun _ => ?_⟩)
    rw [ha]
    refine tx (by unfold st_is; omega) tw_sum (fun q => ⟨fun _ => b6 (Or.inr (Or.inl q)), fun w => absurd (by omega : (1 : Int) ≠ 0) w⟩) (fun m2 => ⟨fun w => absurd rfl w, fun _ => ?_⟩)
    rw [ha]
    refine tx (by unfold st_is; omega) tw_min (fun q => ⟨fun _ => b6 (Or.inr (Or.inr (Or.inl q))), fun w => absurd (by omega : (1 : Int) ≠ 0) w⟩) (fun m3 => ⟨fun w => absurd rfl w, fun _ => ?_⟩)
    rw [ha]
    refine tx (by unfold st_is; omega) tw_max (fun q => ⟨fun w => absurd w (by omega), fun _ => b6 (Or.inr (Or.inr (Or.inr q)))⟩) (fun m4 => ⟨fun _ => b8n (fun q => ?_), fun w => absurd rfl w⟩)
    rcases q with q | q | q | q
    · exact m1 q
    · exact m2 q
    · exact m3 q
    · exact m4 q
  · rw [tk_bs_s hs] at h1 h0
    have nn : ¬ tk_is b n (vA V) (st_str (-44)) := tk_is1 hs tw_not
    refine ⟨fun q => w201_2 (w201_4 (h1 (Or.inl (Or.inl q)))), fun q1 => ⟨fun q => w201_2 (w201_4 (h1 (Or.inl (Or.inr (Or.inl q))))), fun q2 => ⟨fun q => w201_4 (h0 ?_), fun q => w201_2 (w201_4 (h1 (Or.inl (Or.inr (Or.inr (Classical.not_not.mp q))))))⟩⟩⟩
    rintro ((z | z | z) | z)
    · exact q1 z
    · exact q2 z
    · exact q z
    · exact nn z.2
end
