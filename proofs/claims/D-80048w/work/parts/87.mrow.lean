set_option maxRecDepth 100000
/-! the model: exprs over the row at hand; a relation that is being made -/
def cz (ct : Nat → Int) (p : Nat → Bool) (e : Nat) : Int := if p e = true then ct e else 0
def p0 (T : xt) (e : Nat) : Bool := decide (x_act T e = 3)
def t_ok (τ : List Int) : Prop := ∀ t ∈ τ, t = 1 ∨ t = 2
def mt (s : ms_S) (T : xt) (sl : Nat → Int) (NE : Nat) : Prop := ex_M s T NE ∧ x_T64 T ∧ ∀ e : Nat, e < NE → x_act T e = 3 → s 33 e = sl e
def mI (s s1 : ms_S) (w : Nat) (K : List rwt) : Prop := mO s1 (s 91 0) w K ∧ mF (s 87 0) (s 91 0) s s1 ∧ s1 97 0 = 0 ∧ s1 88 (s 91 0) = s 87 0
def mJ (s s1 : ms_S) (w : Nat) (K : List rwt) (a : Int) : Prop := mP s1 (s 91 0) w K a ∧ mF (s 87 0) (s 91 0) s s1 ∧ s1 97 0 = 0 ∧ s1 88 (s 91 0) = s 87 0
def mQ (s s' : ms_S) (r : Int) (w : Nat) (L : List rwt) (C R : Nat) : Prop := mR s' r w L ∧ mF (s 87 0) (s 91 0) s s' ∧ s' 97 0 = 0 ∧ s 87 0 ≤ s' 87 0 ∧ s' 87 0 ≤ s 87 0 + C ∧ s 91 0 ≤ s' 91 0 ∧ s' 91 0 ≤ s 91 0 + R
section
variable {s s1 s2 s3 : ms_S} {T : xt} {sl ct : Nat → Int} {τ : List Int} {NE d w w' : Nat} {Q : Int → ms_S → Prop} {l m : rwt} {K L : List rwt} {a r : Int}
theorem mt.ex (h : mt s T sl NE) (k : ∀ (q : Nat) (j : Int), q < 85 → s1 q j = s q j) : mt s1 T sl NE := by
  obtain ⟨⟨h0, h1⟩, h2, h3⟩ := h
  refine ⟨⟨h0, fun e he => ?_⟩, h2, fun e he ha => by rw [k _ _ (by omega)]; exact h3 e he ha⟩
  rw [k 23 _ (by omega), k 28 _ (by omega), k 27 _ (by omega), k 24 _ (by omega), k 25 _ (by omega), k 26 _ (by omega), k 32 _ (by omega), k 30 _ (by omega)]
  exact h1 e he
theorem mt.k (h : mt s T sl NE) (k : m_k s s1) : mt s1 T sl NE := h.ex (fun q j hq => k q j (by omega))
theorem mt.F {U R : Int} (h : mt s T sl NE) (k : mF U R s s1) : mt s1 T sl NE := h.ex (fun q j hq => k q j (by omega))
theorem k_mcol {e : Nat} {b : Int} (hT : mt s T sl NE) (he : e < NE) (ha : x_act T e = 3) (hb : b = if s 97 0 = 0 then s 93 0 else s 94 0) (hl : rm s b l) (h0 : 0 ≤ sl e) (h1 : (sl e).toNat < l.length) (kk : ∀ s', m_n s s' → s' 92 0 = x_nl (l.getD (sl e).toNat none) → Q (rw_ov (l.getD (sl e).toNat none)) s') : md_eval (d + 1) e s Q := by
  obtain ⟨⟨hN, hM⟩, -, hc⟩ := hT
  obtain ⟨hk, -⟩ := hM e he
  have hk5 : s 23 e = 5 := by rw [hk, ha]; rfl
  have hc := hc e he ha
  have hb0 := hl.1
  have hb1 := hl.2.1
  have key : mw (d + 1) 163 (am_blk 163 8) [159, (e : Int), s 23 e, 0, 0, 0, 0, 0] [b] s Q := by
    have e1 : am_w (b + s 33 e) = b + (((sl e).toNat : Nat) : Int) := by rw [hc, am_w_in (by omega) (by omega)]; omega
    refine w163_8 ?_
    rw [e1]
    obtain ⟨v1, v2⟩ := hl.2.2 _ h1
    refine ⟨by omega, by omega, by omega, by omega, fun s1 e2 => ?_⟩
    rw [v2] at e2
    have u : m_n s s1 := by rw [e2]; exact m_n.u s _
    have n1 : s1 92 0 = x_nl (l.getD (sl e).toNat none) := by rw [e2, ms_u_eq]
    have fin := kk s1 u n1
    rw [n1, u _ _ (by decide), v1]
    refine ⟨fun _ => ⟨by omega, by omega, w163_10 fin⟩, fun q => w163_10 ?_⟩
    cases hv : l.getD (sl e).toNat none with
    | none => rw [hv] at fin; exact fin
    | some x => rw [hv] at q; exact absurd rfl q
  refine w163_e ⟨by omega, by omega, ⟨fun _ => ⟨fun _ => ⟨fun w => absurd w (by omega), fun _ => ⟨fun _ => ⟨fun w => absurd hk5 w, fun _ => ⟨fun w => ?_, fun w => ?_⟩⟩, fun w => absurd (by omega) w⟩⟩, fun w => absurd (by omega) w⟩, fun w => absurd (by omega) w⟩⟩
  · rw [if_pos w] at hb; rw [← hb]; exact key
  · rw [if_neg w] at hb; rw [← hb]; exact key
theorem cz_3 {e : Nat} {t : Int} (ht : t_ok τ) (h1 : t = cz ct (p0 T) e) (h2 : τ[(sl e).toNat]? = some t) : x_act T e = 3 := by
  have := ht t (List.mem_of_getElem? h2)
  unfold cz p0 at h1
  split at h1
  · rename_i q; exact of_decide_eq_true q
  · omega
theorem m_lf_row (hT : mt s T sl NE) (hg : s 97 0 = 0) (hl : rm s (s 93 0) l) (hr : rg τ l) (ht : t_ok τ) : m_lf 1 s T sl (cz ct (p0 T)) τ NE (x_env sl l) := by
  intro e t he _ h1 h0 h2 s1 D Q hs hD kk
  obtain ⟨D', rfl⟩ : ∃ D', D = D' + 1 := ⟨D - 1, by omega⟩
  have ha := cz_3 ht h1 h2
  have hlen : (sl e).toNat < l.length := by rw [hr.1]; exact (List.getElem?_eq_some_iff.mp h2).1
  refine k_mcol (hT.k hs.k) he ha (b := s 93 0) ?_ (hl.k hs.k) h0 hlen kk
  rw [hs _ _ (by decide), hs _ _ (by decide), if_pos hg]
/-- an expr's value over the row at hand -/
theorem k_evr {e : Nat} {t x : Int} (hT : mt s T sl NE) (hg : s 97 0 = 0) (hl : rm s (s 93 0) l) (hr : rg τ l) (ht : t_ok τ) (he : e < NE) (hx : x = e) (hw : x_wt T sl (cz ct (p0 T)) τ 121 e t) (hd : 250 ≤ d) (kk : ∀ s', m_n s s' → s' 92 0 = x_nl (ev T (x_env sl l) 121 e) → Q (rw_ov (ev T (x_env sl l) 121 e)) s') : md_eval d x s Q := by
  subst hx
  exact m_eval1 (d0 := 1) hT.2.1 hr.env hr.envty 121 e t d s Q hw he (by omega) hT.1 (m_lf_row hT hg hl hr ht) kk
theorem k_trr {e : Nat} {t x : Int} (hT : mt s T sl NE) (hg : s 97 0 = 0) (hl : rm s (s 93 0) l) (hr : rg τ l) (ht : t_ok τ) (he : e < NE) (hx : x = e) (hw : x_wt T sl (cz ct (p0 T)) τ 121 e t) (ht1 : t ≠ 1) (hd : 251 ≤ d) (kk : ∀ s' v, m_n s s' → (v = 1 ↔ x_tr T sl e l = true) → Q v s') : md_truth d x s Q := by
  subst hx
  obtain ⟨d', rfl⟩ : ∃ d', d = d' + 1 := ⟨d - 1, by omega⟩
  refine k_mtruth (v := ev T (x_env sl l) 121 e) (fun Q' kk' => k_evr hT hg hl hr ht he rfl hw (by omega) kk') (fun s' u n => kk s' _ u ?_)
  have hty := (hr.evx hT.2.1 hw).1
  rw [m_tr1 (m_tr01 hty ht1 (x_wt_t _ _ _ hw))]
  unfold x_tr
  simp
/-! a relation that is being made -/
theorem mI.len (h : mI s s1 w K) : s1 87 0 = s 87 0 + ((K.length * w : Nat) : Int) := by
  have := h.1.2.1
  rw [h.2.2.2] at this
  omega
theorem mI.k (h : mI s s1 w K) (k : m_k s1 s2) (hg : s2 97 0 = 0) : mI s s2 w K := ⟨h.1.k k, h.2.1.k k, hg, by rw [k _ _ (by omega)]; exact h.2.2.2⟩
theorem mI.n (h : mI s s1 w K) (k : m_n s1 s2) : mI s s2 w K := h.k k.k (by rw [k _ _ (by decide)]; exact h.2.2.1)
theorem mI.hand (h : mI s s1 w K) (v : Int) : mI s (ms_u s1 93 0 v) w K := h.k (m_k.u s1 0 v (by omega) (by omega)) (by rw [ms_u_f _ _ _ (by omega)]; exact h.2.2.1)
theorem mI.old (h : mI s s1 w' K) (hR : mR s r w L) : mR s1 r w L ∧ s1 88 r = s 88 r := by
  have g := h.1.1.1
  have g2 := h.1.2.2
  have g3 := h.len
  have hr := hR.1
  exact ⟨hR.F h.2.1 (by omega) (by omega) (by omega) (by omega), h.2.1 _ _ (by omega)⟩
theorem mI.q (h : mI s s1 w K) {C : Nat} (hC : K.length * w ≤ C) : mQ s s1 (s 91 0) w K C 1 := by
  have g := h.1.2.2
  have g2 := h.len
  exact ⟨h.1.1, h.2.1, h.2.2.1, by omega, by omega, by omega, by omega⟩
theorem mI.new (hI : mI s s1 w K) (h1 : s 87 0 + (((K.length + 1) * w : Nat) : Int) ≤ 400000) (h2 : K.length < 1000) (kk : ∀ s', mJ s s' w K (s1 87 0) → (∀ (q : Nat) (j : Int), q ≠ 87 → q ≠ 89 → s' q j = s1 q j) → Q (s1 87 0) s') : md_newRow d (s 91 0) s1 Q := by
  have g2 := hI.len
  have g3 : ((K.length + 1) * w : Nat) = K.length * w + w := by rw [Nat.add_mul, Nat.one_mul]
  refine k_newRow hI.1 (by omega) h2 (fun s' hP hr => kk s' ⟨hP, hI.2.1.rr hr (Int.le_refl _), ?_, ?_⟩ (fun q j h1 h2 => hr q j h1 (Or.inl h2)))
  · rw [hr _ _ (by omega) (by omega)]; exact hI.2.2.1
  · rw [hr _ _ (by omega) (by omega)]; exact hI.2.2.2
theorem mJ.at (h : mJ s s1 w K a) : a = s 87 0 + ((K.length * w : Nat) : Int) ∧ s 87 0 ≤ a ∧ a + w ≤ 400000 := by
  obtain ⟨⟨g1, g2, g3, g4, g5, g6, g7, g8, g9, g10, g11⟩, -⟩ := h.1
  have := h.2.2.2
  omega
theorem mJ.k (h : mJ s s1 w K a) (k : m_k s1 s2) (hg : s2 97 0 = 0) : mJ s s2 w K a := ⟨h.1.k k, h.2.1.k k, hg, by rw [k _ _ (by omega)]; exact h.2.2.2⟩
theorem mJ.n (h : mJ s s1 w K a) (k : m_n s1 s2) : mJ s s2 w K a := h.k k.k (by rw [k _ _ (by decide)]; exact h.2.2.1)
theorem mJ.hand (h : mJ s s1 w K a) (v : Int) : mJ s (ms_u s1 93 0 v) w K a := h.k (m_k.u s1 0 v (by omega) (by omega)) (by rw [ms_u_f _ _ _ (by omega)]; exact h.2.2.1)
theorem mJ.c {b : Int} (h : mJ s s1 w K a) (k : m_c b s1 s2) (hb : a ≤ b) : mJ s s2 w K a := ⟨h.1.c k hb, h.2.1.c k (by have := h.at; omega), by rw [k _ _ (by omega)]; exact h.2.2.1, by rw [k _ _ (by omega)]; exact h.2.2.2⟩
theorem mJ.fill (h : mJ s s1 w K a) (hl : l.length = w) (hm : rm s1 a l) : mI s s1 w (K ++ [l]) := ⟨h.1.fill hl hm, h.2.1, h.2.2.1, h.2.2.2⟩
theorem mJ.old (h : mJ s s1 w' K a) (hR : mR s r w L) : mR s1 r w L ∧ s1 88 r = s 88 r := by
  obtain ⟨⟨g1, g2, g3, g4, g5, g6, g7, g8, g9, g10, g11⟩, -⟩ := h.1
  have g12 := h.2.2.2
  have hr := hR.1
  exact ⟨hR.F h.2.1 (by omega) (by omega) (by omega) (by omega), h.2.1 _ _ (by omega)⟩
theorem mI.pop {x : Int} (h : mI s s1 w (K ++ [l])) (hx : x = w) (h2 : s2 = ms_u s1 87 0 (am_w (s1 87 0 - x))) (h3 : s3 = ms_u s2 89 (s 91 0) (am_w (s2 89 (s 91 0) - 1))) : mI s s3 w K := by
  have hlen := h.len
  obtain ⟨⟨⟨⟨g1, g2, g3, g4, g5, g6, g7, g8, g9, g10⟩, h0⟩, g11, g12⟩, f, hg, hb⟩ := h
  have e1 : (K ++ [l]).length = K.length + 1 := by simp
  have e2 : ((K.length + 1) * w : Nat) = K.length * w + w := by rw [Nat.add_mul, Nat.one_mul]
  rw [e1] at g5 g6
  rw [e1, e2] at hlen g9 g11
  rw [hx, am_w_in (by omega) (by omega)] at h2
  have a1 : s2 89 (s 91 0) = K.length + 1 := by rw [h2, ms_u_f _ _ _ (by omega), g5]; omega
  rw [a1, am_w_in (by omega) (by omega)] at h3
  have fr : m_r (s 91 0) s1 s3 := by
    intro q j hq hq2
    rw [h3]
    by_cases c : q = 89
    · subst c; rw [ms_u_i _ (by omega), h2, ms_u_f _ _ _ hq]
    · rw [ms_u_f _ _ _ c, h2, ms_u_f _ _ _ hq]
  have b1 : s3 87 0 = s1 87 0 - w := by rw [h3, ms_u_f _ _ _ (by omega), h2, ms_u_eq]
  have b2 : s3 89 (s 91 0) = K.length := by rw [h3, ms_u_eq]; omega
  have b3 : s3 88 (s 91 0) = s 87 0 := by rw [fr _ _ (by omega) (by omega)]; exact hb
  have b4 : s3 91 0 = s1 91 0 := fr _ _ (by omega) (by omega)
  refine ⟨⟨⟨⟨g1, by omega, by omega, ?_, b2, by omega, g7, by omega, by omega, by omega⟩, ?_⟩, by omega, by omega⟩, f.rr fr (Int.le_refl _), ?_, b3⟩
  · rw [fr _ _ (by omega) (by omega)]; exact g4
  · rw [b3]
    rw [hb] at h0
    intro i l' hl'
    obtain ⟨q1, q2⟩ := h0 i l' (by rw [List.getElem?_append_left (List.getElem?_eq_some_iff.mp hl').1]; exact hl')
    exact ⟨q1, q2.rr fr⟩
  · rw [fr _ _ (by omega) (by omega)]; exact hg
/-- begun -/
theorem mI_begin {x : Int} (h0 : 0 ≤ s 91 0) (h1 : s 91 0 < 400) (h2 : 0 ≤ s 87 0) (h3 : s 87 0 ≤ 400000) (hg : s 97 0 = 0) (hw : w ≤ 24) (hx : x = w) (kk : ∀ s', mI s s' w [] → (∀ (q : Nat) (j : Int), 92 ≤ q → s' q j = s q j) → Q (s 91 0) s') : md_relation d x s Q :=
  k_relation h0 h1 h2 h3 hw hx (fun s' hO hF hu hr hv => kk s' ⟨hO, hF, by rw [hv _ _ (by omega)]; exact hg, by
    have := hO.2.1
    simp at this
    omega⟩ hv)
end
