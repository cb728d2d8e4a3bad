set_option maxRecDepth 100000
/-! the model: filter, plain, once, sets -/
section
variable {s s1 s2 s3 : ms_S} {T : xt} {sl ct : Nat → Int} {τ : List Int} {NE d w w' : Nat} {Q : Int → ms_S → Prop} {l m : rwt} {K L M : List rwt} {a r : Int}
theorem take_s {L : List rwt} {i : Nat} (hi : i < L.length) : L.take (i + 1) = L.take i ++ [L[i]] := by
  rw [List.take_succ, List.getElem?_eq_getElem hi]; rfl
theorem filter_1 {p : rwt → Bool} {x : rwt} : [x].filter p = if p x = true then [x] else [] := by
  rw [List.filter_cons]; rfl
theorem mul_le_of {a b w : Nat} (h : a ≤ b) : a * w ≤ b * w := Nat.mul_le_mul_right w h
theorem am_w_s {i : Nat} (h : i ≤ 2000) : am_w ((i : Int) + 1) = ((i + 1 : Nat) : Int) := by rw [am_w_in (by omega) (by omega)]; omega
theorem k_mfilter {e : Nat} {t x : Int} (hT : mt s T sl NE) (hg : s 97 0 = 0) (hR : mR s r w L) (hL : ∀ l ∈ L, rg τ l) (ht : t_ok τ) (he : e < NE) (hx : x = e) (hw : x_wt T sl (cz ct (p0 T)) τ 121 e t) (ht1 : t ≠ 1) (h91 : s 91 0 < 400) (hU : s 87 0 + ((L.length * w : Nat) : Int) ≤ 400000) (hd : 260 ≤ d) (kk : ∀ r' s', mQ s s' r' w (L.filter (x_tr T sl e)) (L.length * w) 1 → Q r' s') : md_filter (d + 1) r x s Q := by
  have hr := hR.1
  have fl : ∀ i, ((L.take i).filter (x_tr T sl e)).length ≤ i := fun i => Nat.le_trans (List.length_filter_le _ _) (by rw [List.length_take]; omega)
  have loop : ∀ (k i : Nat) (s1 : ms_S) (x5 : Int), i + k = L.length → mI s s1 w ((L.take i).filter (x_tr T sl e)) → mw (d + 1) 171 (am_blk 171 1) [159, r, x, s 91 0, i, x5] [] s1 Q := by
    intro k
    induction k with
    | zero =>
      intro i s1 x5 hi hI
      have e1 : i = L.length := by omega
      obtain ⟨hR1, -⟩ := hI.old hR
      have hr1 := hR1.1
      refine w171_1 ⟨hr.1, by omega, fun _ => kk _ s1 ?_, fun w => absurd (by omega) w⟩
      rw [e1, List.take_length] at hI
      exact hI.q (mul_le_of (List.length_filter_le _ _))
    | succ k ih =>
      intro i s1 x5 hi hI
      have hil : i < L.length := by omega
      obtain ⟨hR1, hb1⟩ := hI.old hR
      have hr1 := hR1.1
      obtain ⟨hl, hm⟩ := hR1.row (List.getElem?_eq_getElem hil)
      have hle := hR1.le hil
      refine w171_1 ⟨hr.1, by omega, fun w => absurd w (by omega), fun _ => k_rowAt hR1 rfl (by omega) (fun s2 e2 => ?_)⟩
      have k2 : m_k s1 s2 := by rw [e2]; exact m_k.u s1 0 _ (by omega) (by omega)
      have hI2 : mI s s2 w ((L.take i).filter (x_tr T sl e)) := by rw [e2]; exact hI.hand _
      have h93 : s2 93 0 = s1 88 r + ((i * w : Nat) : Int) := by rw [e2, ms_u_eq]
      have hm2 : rm s2 (s2 93 0) L[i] := by rw [h93]; exact hm.k k2
      refine k_trr (hT.F hI2.2.1) hI2.2.2.1 hm2 (hL _ (List.getElem_mem hil)) ht he hx hw ht1 (by omega) (fun s3 v u hv => ⟨fun q => w171_2 ?_, fun q => ?_⟩)
      · rw [am_w_s (by omega)]
        refine ih (i + 1) s3 _ (by omega) ?_
        have : x_tr T sl e L[i] = false := by
          cases c : x_tr T sl e L[i] with
          | false => rfl
          | true => exact absurd (hv.mpr c) q
        rw [take_s hil, List.filter_append, filter_1, this, if_neg (by decide), List.append_nil]
        exact hI2.n u
      · have hI3 := hI2.n u
        have ht := hv.mp (Classical.not_not.mp q)
        have h3 : s3 93 0 = s2 93 0 := u _ _ (by decide)
        have hfl := fl i
        have hmu := mul_le_of (w := w) (show ((L.take i).filter (x_tr T sl e)).length + 1 ≤ L.length by omega)
        refine hI3.new (by omega) (by omega) (fun s4 hJ hf => ⟨hr.1, by omega, ?_⟩)
        obtain ⟨hR4, -⟩ := hJ.old hR
        obtain ⟨-, hl2, -⟩ := hR4.1
        have hlen := hI3.len
        have e90 : s4 90 r = w := hR4.1.2.2.2.1
        rw [e90]
        have hm4 : rm s4 (s3 93 0) L[i] := by
          rw [h3]
          exact (hm2.k u.k).eq (fun k hk => ⟨hf _ _ (by omega) (by omega), hf _ _ (by omega) (by omega)⟩)
        refine k_mcopy hm4 (by rw [hl]) ?_ ?_ (fun s5 c5 m5 => w171_2 ?_)
        · rw [h3, h93, hl]
          have := hR1.1.2.2.2.2.2.2.2.2.1
          omega
        · rw [hl]; have := hJ.at; omega
        · rw [am_w_s (by omega)]
          refine ih (i + 1) s5 _ (by omega) ?_
          rw [take_s hil, List.filter_append, filter_1, ht, if_pos rfl]
          exact (hJ.c c5 (Int.le_refl _)).fill hl m5
  refine w171_e ⟨hr.1, by omega, mI_begin (by omega) h91 (by omega) (by omega) hg hr.2.2.2.2.2.2.1 hr.2.2.2.1 (fun s1 hI _ => ?_)⟩
  exact loop L.length 0 s1 0 (by omega) (by simpa using hI)
/-- rows of values -/
def mItems (s : ms_S) (f : Nat) (b : Int) (es : List Nat) : Prop := ∀ (k e : Nat), es[k]? = some e → s f (b + k) = e
theorem x_wts_at : ∀ (es : List Nat) (σ : List Int) (k e : Nat), x_wts T sl ct τ es σ → es[k]? = some e → ∃ t, x_wt T sl ct τ 121 e t := by
  intro es
  induction es with
  | nil => intro σ k e _ h; simp at h
  | cons a es ih =>
    intro σ k e h hk
    obtain ⟨t, σ', h1, h2, -⟩ := h
    cases k with
    | zero => simp at hk; subst hk; exact ⟨t, h1⟩
    | succ k => exact ih σ' k e h2 (by simpa using hk)
theorem x_vals_take {es : List Nat} {k e : Nat} (h : es[k]? = some e) : x_vals T sl (es.take (k + 1)) l = x_vals T sl (es.take k) l ++ [ev T (x_env sl l) 121 e] := by
  rw [List.take_succ, h]
  simp [x_vals]
theorem k_plain {q : Nat} {es : List Nat} (hT : mt s T sl NE) (hg : s 97 0 = 0) (hR : mR s r w L) (hL : ∀ l ∈ L, rg τ l) (ht : t_ok τ) (hq : q < 60) (h36 : s 36 q = es.length) (h8 : es.length ≤ 8) (hes : mItems s 44 (8 * q) es) (he : ∀ e ∈ es, e < NE ∧ ∃ t, x_wt T sl (cz ct (p0 T)) τ 121 e t) (h91 : s 91 0 < 400) (hU : s 87 0 + ((L.length * es.length : Nat) : Int) ≤ 400000) (hd : 260 ≤ d) (kk : ∀ r' s', mQ s s' r' es.length (L.map (x_vals T sl es)) (L.length * es.length) 1 → Q r' s') : md_plain (d + 1) q r s Q := by
  have hr := hR.1
  have loop : ∀ (k i : Nat) (s1 : ms_S) (x5 x6 : Int), i + k = L.length → mI s s1 es.length ((L.take i).map (x_vals T sl es)) → mw (d + 1) 176 (am_blk 176 1) [159, q, r, s 91 0, i, x5, x6] [] s1 Q := by
    intro k
    induction k with
    | zero =>
      intro i s1 x5 x6 hi hI
      have e1 : i = L.length := by omega
      obtain ⟨hR1, -⟩ := hI.old hR
      have hr1 := hR1.1
      refine w176_1 ⟨hr.1, by omega, fun _ => kk _ s1 ?_, fun w => absurd (by omega) w⟩
      rw [e1, List.take_length] at hI
      exact hI.q (by rw [List.length_map]; exact Nat.le_refl _)
    | succ k ih =>
      intro i s1 x5 x6 hi hI
      have hil : i < L.length := by omega
      obtain ⟨hR1, hb1⟩ := hI.old hR
      have hr1 := hR1.1
      obtain ⟨hl, -⟩ := hR1.row (List.getElem?_eq_getElem hil)
      have hle := hR1.le hil
      have hmu := mul_le_of (w := es.length) (show ((L.take i).map (x_vals T sl es)).length + 1 ≤ L.length by simp; omega)
      refine w176_1 ⟨hr.1, by omega, fun w => absurd w (by omega), fun _ => hI.new (by omega) (by simp; omega) (fun s2 hJ hf => ?_)⟩
      generalize hKi : (L.take i).map (x_vals T sl es) = Ki at *
      generalize ha : s1 87 0 = a at *
      have in2 : ∀ (n j : Nat) (s3 : ms_S), j + n = es.length → mJ s s3 es.length Ki a → rm s3 a (x_vals T sl (es.take j) L[i]) → mw (d + 1) 176 (am_blk 176 2) [159, q, r, s 91 0, i, a, j] [] s3 Q := by
        intro n
        induction n with
        | zero =>
          intro j s3 hj hJ3 hm3
          have e1 : j = es.length := by omega
          have e36 : s3 36 q = es.length := by rw [hJ3.2.1 _ _ (by omega)]; exact h36
          refine w176_2 ⟨by omega, by omega, fun _ => ?_, fun w => absurd (by omega) w⟩
          rw [am_w_s (by omega)]
          refine ih (i + 1) s3 _ _ (by omega) ?_
          rw [e1, List.take_length] at hm3
          have e2 : (L.take (i + 1)).map (x_vals T sl es) = Ki ++ [x_vals T sl es L[i]] := by rw [take_s hil, List.map_append, hKi]; rfl
          rw [e2]
          exact hJ3.fill (by simp [x_vals]) hm3
        | succ n ihn =>
          intro j s3 hj hJ3 hm3
          have hjl : j < es.length := by omega
          have e36 : s3 36 q = es.length := by rw [hJ3.2.1 _ _ (by omega)]; exact h36
          have hej := List.getElem?_eq_getElem hjl
          obtain ⟨heN, t, hwt⟩ := he _ (List.getElem_mem hjl)
          have eit : s3 44 (8 * q + j) = es[j] := by rw [hJ3.2.1 _ _ (by omega)]; exact hes j _ hej
          obtain ⟨hR3, -⟩ := hJ3.old hR
          obtain ⟨-, hmr⟩ := hR3.row (List.getElem?_eq_getElem hil)
          have hat := hJ3.at
          have x1 : am_w (8 * (q : Int)) = 8 * q := am_w_in (by omega) (by omega)
          have x2 : am_w (8 * (q : Int) + j) = 8 * q + j := am_w_in (by omega) (by omega)
          have x3 : am_w (a + j) = a + j := am_w_in (by omega) (by omega)
          refine w176_2 ⟨by omega, by omega, fun w => absurd w (by omega), fun _ => k_rowAt hR3 rfl (by omega) (fun s4 e4 => ?_)⟩
          have k4 : m_k s3 s4 := by rw [e4]; exact m_k.u s3 0 _ (by omega) (by omega)
          have hJ4 : mJ s s4 es.length Ki a := by rw [e4]; exact hJ3.hand _
          have h93 : s4 93 0 = s3 88 r + ((i * w : Nat) : Int) := by rw [e4, ms_u_eq]
          have hm4 : rm s4 (s4 93 0) L[i] := by rw [h93]; exact hmr.k k4
          rw [x1, x2, x3]
          have eit4 : s4 44 (8 * q + j) = es[j] := by rw [k4 _ _ (by omega)]; exact eit
          refine ⟨by omega, by omega, k_evr (hT.F hJ4.2.1) hJ4.2.2.1 hm4 (hL _ (List.getElem_mem hil)) ht heN eit4 hwt (by omega) (fun s5 u5 n5 => ⟨by omega, by omega, fun s6 e6 => ⟨by omega, by omega, fun s7 e7 => ?_⟩⟩)⟩
          have hJ5 := hJ4.n u5
          have n6 : s6 92 0 = x_nl (ev T (x_env sl L[i]) 121 es[j]) := by rw [e6, ms_u_f _ _ _ (by omega)]; exact n5
          rw [n6, am_i2b_nl] at e7
          have f : m_c (a + j) s5 s7 := by rw [e7, e6]; exact (m_c.u _ _ (Or.inl rfl) (Int.le_refl _)).tr (m_c.u _ _ (Or.inr rfl) (Int.le_refl _))
          rw [am_w_s (by omega)]
          refine ihn (j + 1) s7 (by omega) (hJ5.c f (by omega)) ?_
          rw [x_vals_take hej]
          have hlen : (x_vals T sl (es.take j) L[i]).length = j := by simp [x_vals]; omega
          refine rm_app (((hm3.k k4).k u5.k).c f (by rw [hlen]; exact Int.le_refl _)) ?_
          rw [hlen]
          refine rm_one (by omega) (by omega) ?_ ?_
          · rw [e7, ms_u_f _ _ _ (by omega), e6, ms_u_eq]
          · rw [e7, ms_u_eq]
      exact in2 es.length 0 s2 (by omega) hJ (by have := hJ.at; exact rm_nil (by omega) (by omega))
  refine w176_e ⟨by omega, by omega, mI_begin (by omega) h91 (by omega) (by omega) hg (by omega) h36 (fun s1 hI _ => ?_)⟩
  exact loop L.length 0 s1 0 0 (by omega) (by simpa using hI)
theorem dda_take {i : Nat} (hi : i < L.length) : dd (L.take (i + 1)) = if L[i] ∈ dd (L.take i) then dd (L.take i) else dd (L.take i) ++ [L[i]] := by
  unfold dd
  rw [take_s hi, dda_app]
  simp only [dda]
theorem dd_take_len {i : Nat} : (dd (L.take i)).length ≤ i := Nat.le_trans dd_len (by rw [List.length_take]; omega)
theorem k_monce (hg : s 97 0 = 0) (hR : mR s r w L) (h91 : s 91 0 < 400) (hU : s 87 0 + ((L.length * w : Nat) : Int) ≤ 400000) (hd : 5 ≤ d) (kk : ∀ r' s', mQ s s' r' w (dd L) (L.length * w) 1 → Q r' s') : md_once (d + 1) r s Q := by
  have hr := hR.1
  obtain ⟨d, rfl⟩ : ∃ d', d = d' + 2 := ⟨d - 2, by omega⟩
  have loop : ∀ (k i : Nat) (s1 : ms_S), i + k = L.length → mI s s1 w (dd (L.take i)) → mw (d + 3) 177 (am_blk 177 1) [159, r, s 91 0, i] [] s1 Q := by
    intro k
    induction k with
    | zero =>
      intro i s1 hi hI
      have e1 : i = L.length := by omega
      obtain ⟨hR1, -⟩ := hI.old hR
      have hr1 := hR1.1
      refine w177_1 ⟨hr.1, by omega, fun _ => kk _ s1 ?_, fun w => absurd (by omega) w⟩
      rw [e1, List.take_length] at hI
      exact hI.q (mul_le_of dd_len)
    | succ k ih =>
      intro i s1 hi hI
      have hil : i < L.length := by omega
      obtain ⟨hR1, hb1⟩ := hI.old hR
      have hr1 := hR1.1
      obtain ⟨hl, hm⟩ := hR1.row (List.getElem?_eq_getElem hil)
      have hle := hR1.le hil
      have hO := hI.1.1.1
      have hfl := dd_take_len (L := L) (i := i)
      refine w177_1 ⟨hr.1, by omega, fun w => absurd w (by omega), fun _ => k_rowAt hR1 rfl (by omega) ⟨by omega, by omega, k_hasRow hI.1.1 hm hl (Nat.le_refl _) hO.2.2.2.2.1 ⟨fun q => w177_2 ?_, fun q => ?_⟩⟩⟩
      · rw [am_w_s (by omega)]
        refine ih (i + 1) s1 (by omega) ?_
        rw [List.take_length] at q
        rw [dda_take hil, if_pos]
        · exact hI
        · apply Classical.byContradiction
          intro c
          rw [if_neg c] at q
          exact q rfl
      · rw [List.take_length] at q
        have hn : L[i] ∉ dd (L.take i) := by
          intro c
          rw [if_pos c] at q
          exact absurd (by decide) q
        have hmu := mul_le_of (w := w) (show (dd (L.take i)).length + 1 ≤ L.length by omega)
        refine k_rowAt hR1 rfl (by omega) (hI.new (by omega) (by omega) (fun s4 hJ hf => ⟨hr.1, by omega, ?_⟩))
        obtain ⟨hR4, -⟩ := hJ.old hR
        have hlen := hI.len
        have e90 : s4 90 r = w := hR4.1.2.2.2.1
        rw [e90]
        have hm4 := hm.eq (s' := s4) (fun k hk => ⟨hf _ _ (by omega) (by omega), hf _ _ (by omega) (by omega)⟩)
        refine k_mcopy hm4 (by rw [hl]) ?_ ?_ (fun s5 c5 m5 => w177_2 ?_)
        · rw [hl]
          have := hR1.1.2.2.2.2.2.2.2.2.1
          omega
        · rw [hl]; have := hJ.at; omega
        · rw [am_w_s (by omega)]
          refine ih (i + 1) s5 (by omega) ?_
          rw [dda_take hil, if_neg hn]
          exact (hJ.c c5 (Int.le_refl _)).fill hl m5
  refine w177_e ⟨hr.1, by omega, mI_begin (by omega) h91 (by omega) (by omega) hg hr.2.2.2.2.2.2.1 hr.2.2.2.1 (fun s1 hI _ => ?_)⟩
  exact loop L.length 0 s1 (by omega) (by simpa [dd, dda] using hI)
end
