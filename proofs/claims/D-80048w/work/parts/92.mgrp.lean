set_option maxRecDepth 100000
/-! the model: exprs over the group at hand -/
def pg (T : xt) (sl : Nat → Int) (nk : Nat) (aggs : List Nat) (e : Nat) : Bool := decide ((x_act T e = 3 ∧ sl e < nk) ∨ ((nk : Int) ≤ sl e ∧ aggs[(sl e - nk).toNat]? = some e))
def mI0 (s s1 : ms_S) (w : Nat) (K : List rwt) : Prop := mO s1 (s 91 0) w K ∧ mF (s 87 0) (s 91 0) s s1 ∧ s1 88 (s 91 0) = s 87 0
def mJ0 (s s1 : ms_S) (w : Nat) (K : List rwt) (a : Int) : Prop := mP s1 (s 91 0) w K a ∧ mF (s 87 0) (s 91 0) s s1 ∧ s1 88 (s 91 0) = s 87 0
section
variable {s s1 s2 s3 : ms_S} {T : xt} {sl ct : Nat → Int} {τ τg : List Int} {NE d w w' nk : Nat} {Q : Int → ms_S → Prop} {l m : rwt} {K L M : List rwt} {r a : Int} {aggs : List Nat}
theorem mI.o0 (h : mI s s1 w K) : mI0 s s1 w K := ⟨h.1, h.2.1, h.2.2.2⟩
theorem mI0.up (h : mI0 s s1 w K) (hg : s1 97 0 = 0) : mI s s1 w K := ⟨h.1, h.2.1, hg, h.2.2⟩
theorem mI0.len (h : mI0 s s1 w K) : s1 87 0 = s 87 0 + ((K.length * w : Nat) : Int) := by
  have := h.1.2.1
  rw [h.2.2] at this
  omega
theorem mI0.k (h : mI0 s s1 w K) (k : m_k s1 s2) : mI0 s s2 w K := ⟨h.1.k k, h.2.1.k k, by rw [k _ _ (by omega)]; exact h.2.2⟩
theorem mI0.old (h : mI0 s s1 w' K) (hR : mR s r w L) : mR s1 r w L ∧ s1 88 r = s 88 r := by
  have g := h.1.1.1
  have g2 := h.1.2.2
  have g3 := h.len
  have hr := hR.1
  exact ⟨hR.F h.2.1 (by omega) (by omega) (by omega) (by omega), h.2.1 _ _ (by omega)⟩
theorem mI0.new (hI : mI0 s s1 w K) (h1 : s 87 0 + (((K.length + 1) * w : Nat) : Int) ≤ 400000) (h2 : K.length < 1000) (kk : ∀ s', mJ0 s s' w K (s1 87 0) → (∀ (q : Nat) (j : Int), q ≠ 87 → q ≠ 89 → s' q j = s1 q j) → Q (s1 87 0) s') : md_newRow d (s 91 0) s1 Q := by
  have g2 := hI.len
  have g3 : ((K.length + 1) * w : Nat) = K.length * w + w := by rw [Nat.add_mul, Nat.one_mul]
  refine k_newRow hI.1 (by omega) h2 (fun s' hP hr => kk s' ⟨hP, hI.2.1.rr hr (Int.le_refl _), ?_⟩ (fun q j h1 h2 => hr q j h1 (Or.inl h2)))
  rw [hr _ _ (by omega) (by omega)]; exact hI.2.2
theorem mJ0.at (h : mJ0 s s1 w K a) : a = s 87 0 + ((K.length * w : Nat) : Int) ∧ s 87 0 ≤ a ∧ a + w ≤ 400000 := by
  obtain ⟨⟨g1, g2, g3, g4, g5, g6, g7, g8, g9, g10, g11⟩, -⟩ := h.1
  have := h.2.2
  omega
theorem mJ0.k (h : mJ0 s s1 w K a) (k : m_k s1 s2) : mJ0 s s2 w K a := ⟨h.1.k k, h.2.1.k k, by rw [k _ _ (by omega)]; exact h.2.2⟩
theorem mJ0.c {b : Int} (h : mJ0 s s1 w K a) (k : m_c b s1 s2) (hb : a ≤ b) : mJ0 s s2 w K a := ⟨h.1.c k hb, h.2.1.c k (by have := h.at; omega), by rw [k _ _ (by omega)]; exact h.2.2⟩
theorem mJ0.fill (h : mJ0 s s1 w K a) (hl : l.length = w) (hm : rm s1 a l) : mI0 s s1 w (K ++ [l]) := ⟨h.1.fill hl hm, h.2.1, h.2.2⟩
theorem mJ0.old (h : mJ0 s s1 w' K a) (hR : mR s r w L) : mR s1 r w L ∧ s1 88 r = s 88 r := by
  obtain ⟨⟨g1, g2, g3, g4, g5, g6, g7, g8, g9, g10, g11⟩, -⟩ := h.1
  have g12 := h.2.2
  have hr := hR.1
  exact ⟨hR.F h.2.1 (by omega) (by omega) (by omega) (by omega), h.2.1 _ _ (by omega)⟩
/-- the group at hand -/
def mGr (s : ms_S) (r : Int) (w : Nat) (L : List rwt) (p : rwt → Bool) (k : rwt) : Prop := s 97 0 = 1 ∧ mR s r w L ∧ s 95 0 = r ∧ rm s (s 94 0) k ∧ ∀ (i : Nat) (l : rwt), L[i]? = some l → (s 98 i = s 96 0 ↔ p l = true)
theorem mGr.n {p : rwt → Bool} {k : rwt} (h : mGr s r w L p k) (u : m_n s s1) : mGr s1 r w L p k := by
  obtain ⟨h1, h2, h3, h4, h5⟩ := h
  refine ⟨by rw [u _ _ (by decide)]; exact h1, h2.k u.k, by rw [u _ _ (by decide)]; exact h3, by rw [u _ _ (by decide)]; exact h4.k u.k, fun i l hl => ?_⟩
  rw [u _ _ (by decide), u _ _ (by decide)]; exact h5 i l hl
theorem m_lf_grp {p : rwt → Bool} {k : rwt} (hT : mt s T sl NE) (hG : mGr s r w L p k) (hL : ∀ l ∈ L, rg τ l) (ht : t_ok τ) (hL6 : L.length ≤ 600) (hk : k.length = nk) (hag : ∀ e ∈ aggs, e < NE ∧ x_wag T sl (cz ct (p0 T)) τ e) (htg : t_ok τg) : m_lf 257 s T sl (cz ct (pg T sl nk aggs)) τg NE (x_env sl (k ++ g_af T sl aggs (L.filter p))) := by
  intro e t he _ h1 h0 h2 s1 D Q hs hD kk
  obtain ⟨D', rfl⟩ : ∃ D', D = D' + 2 := ⟨D - 2, by omega⟩
  have hne := htg t (List.mem_of_getElem? h2)
  have hpg : pg T sl nk aggs e = true := by
    unfold cz at h1
    split at h1
    · rename_i q; exact q
    · omega
  have hG1 := hG.n hs
  have hT1 := hT.k hs.k
  rcases of_decide_eq_true hpg with ⟨ha, hlt⟩ | ⟨hle, hat⟩
  · have e1 : x_env sl (k ++ g_af T sl aggs (L.filter p)) e = k.getD (sl e).toNat none := by
      unfold x_env
      rw [List.getD_eq_getElem?_getD, List.getD_eq_getElem?_getD, List.getElem?_append_left (by omega)]
    rw [e1] at kk
    exact k_mcol hT1 he ha (b := s1 94 0) (by rw [if_neg (by rw [hG1.1]; decide)]) hG1.2.2.2.1 h0 (by omega) kk
  · have hmem := List.mem_of_getElem? hat
    obtain ⟨-, hwg⟩ := hag e hmem
    have hact : 25 ≤ x_act T e ∧ x_act T e ≤ 29 := by rcases hwg with q | q <;> omega
    have hN := hT.1.1
    have e1 : x_env sl (k ++ g_af T sl aggs (L.filter p)) e = a_val (x_act T e) (fun r => ev T (x_env sl r) 121 (x_a T e).toNat) (L.filter p) := by
      unfold x_env
      rw [List.getD_eq_getElem?_getD, List.getElem?_append_right (by omega)]
      have : (sl e).toNat - k.length = (sl e - nk).toNat := by omega
      rw [this]
      unfold g_af
      rw [List.getElem?_map, hat]
      rfl
    rw [e1] at kk
    have hkd : s1 23 e = mk_kind (x_act T e) (x_v T e) := (hT1.1.2 e he).1
    have hkx : s1 23 e = x_act T e - 5 := by
      rw [hkd]; unfold mk_kind
      rw [if_neg (by omega), if_neg (by omega), if_neg (by omega), if_neg (by omega), if_neg (by omega), if_neg (by omega), if_neg (by omega), if_neg (by omega), if_neg (by omega), if_neg (by omega)]
    refine w163_e ⟨by omega, by omega, ⟨fun _ => ⟨fun _ => ⟨fun w => absurd w (by omega), fun _ => ⟨fun _ => ⟨fun _ => ⟨fun w => absurd w (by omega), fun _ => ?_⟩, fun w => absurd (by omega) w⟩, fun w => absurd (by omega) w⟩⟩, fun w => absurd (by omega) w⟩, fun w => absurd (by omega) w⟩⟩
    exact k_aggregated hT1 hG1.2.1 hL ht hG1.2.2.1 hG1.2.2.2.2 hL6 he hwg hkd (by omega) kk
theorem k_evg {p : rwt → Bool} {k : rwt} {e : Nat} {t x : Int} (hT : mt s T sl NE) (hG : mGr s r w L p k) (hL : ∀ l ∈ L, rg τ l) (ht : t_ok τ) (hL6 : L.length ≤ 600) (hk : k.length = nk) (hag : ∀ e ∈ aggs, e < NE ∧ x_wag T sl (cz ct (p0 T)) τ e) (htg : t_ok τg) (hr : rg τg (k ++ g_af T sl aggs (L.filter p))) (he : e < NE) (hx : x = e) (hw : x_wt T sl (cz ct (pg T sl nk aggs)) τg 121 e t) (hd : 505 ≤ d) (kk : ∀ s', m_n s s' → s' 92 0 = x_nl (ev T (x_env sl (k ++ g_af T sl aggs (L.filter p))) 121 e) → Q (rw_ov (ev T (x_env sl (k ++ g_af T sl aggs (L.filter p))) 121 e)) s') : md_eval d x s Q := by
  subst hx
  exact m_eval1 (d0 := 257) hT.2.1 hr.env hr.envty 121 e t d s Q hw he (by omega) hT.1 (m_lf_grp hT hG hL ht hL6 hk hag htg) kk
theorem k_trg {p : rwt → Bool} {k : rwt} {e : Nat} {t x : Int} (hT : mt s T sl NE) (hG : mGr s r w L p k) (hL : ∀ l ∈ L, rg τ l) (ht : t_ok τ) (hL6 : L.length ≤ 600) (hk : k.length = nk) (hag : ∀ e ∈ aggs, e < NE ∧ x_wag T sl (cz ct (p0 T)) τ e) (htg : t_ok τg) (hr : rg τg (k ++ g_af T sl aggs (L.filter p))) (he : e < NE) (hx : x = e) (hw : x_wt T sl (cz ct (pg T sl nk aggs)) τg 121 e t) (ht1 : t ≠ 1) (hd : 506 ≤ d) (kk : ∀ s' v, m_n s s' → (v = 1 ↔ x_tr T sl e (k ++ g_af T sl aggs (L.filter p)) = true) → Q v s') : md_truth d x s Q := by
  subst hx
  obtain ⟨d', rfl⟩ : ∃ d', d = d' + 1 := ⟨d - 1, by omega⟩
  refine k_mtruth (v := ev T (x_env sl (k ++ g_af T sl aggs (L.filter p))) 121 e) (fun Q' kk' => k_evg hT hG hL ht hL6 hk hag htg hr he rfl hw (by omega) kk') (fun s' u n => kk s' _ u ?_)
  have hty := (hr.evx hT.2.1 hw).1
  rw [m_tr1 (m_tr01 hty ht1 (x_wt_t _ _ _ hw))]
  unfold x_tr
  simp
/-! the keys of groups -/
def mMb (s : ms_S) (n : Nat) (L K : List rwt) (kf : rwt → rwt) : Prop := ∀ (i : Nat) (l : rwt), i < n → L[i]? = some l → ∃ g : Nat, s 98 i = g ∧ K[g]? = some (kf l)
theorem k_grpA {q : Nat} {es : List Nat} (hT : mt s T sl NE) (hg : s 97 0 = 0) (hR : mR s r w L) (hL : ∀ l ∈ L, rg τ l) (ht : t_ok τ) (hL6 : L.length ≤ 600) (hq : q < 60) (h39 : s 39 q = es.length) (h8 : es.length ≤ 8) (hes : mItems s 47 (8 * q) es) (he : ∀ e ∈ es, e < NE ∧ ∃ t, x_wt T sl (cz ct (p0 T)) τ 121 e t) (h91 : s 91 0 < 400) (hU : s 87 0 + (((L.length + 1) * es.length : Nat) : Int) ≤ 400000) (hd : 260 ≤ d)
    (kk : ∀ s1 x5 x6 x7 x8 x9, mI s s1 es.length (dd (L.map (x_vals T sl es))) → mMb s1 L.length L (dd (L.map (x_vals T sl es))) (x_vals T sl es) → x5 = (if s 40 q = -1 then 1 else ((dd (L.map (x_vals T sl es))).length : Int)) → mw (d + 1) 173 (am_blk 173 9) [159, q, r, es.length, s 91 0, x5, x6, x7, x8, x9] [] s1 Q) : md_grouped (d + 1) q r s Q := by
  have hr := hR.1
  generalize hkf : x_vals T sl es = kf at *
  have kfl : ∀ x, (kf x).length = es.length := fun x => by rw [← hkf]; simp [x_vals]
  have loop : ∀ (k i : Nat) (s1 : ms_S) (x7 x8 x9 : Int), i + k = L.length → mI s s1 es.length (dd ((L.take i).map kf)) → mMb s1 i L (dd ((L.take i).map kf)) kf → mw (d + 1) 173 (am_blk 173 1) [159, q, r, es.length, s 91 0, ((dd ((L.take i).map kf)).length : Int), i, x7, x8, x9] [] s1 Q := by
    intro k
    induction k with
    | zero =>
      intro i s1 x7 x8 x9 hi hI hMb
      have e1 : i = L.length := by omega
      obtain ⟨hR1, -⟩ := hI.old hR
      have hr1 := hR1.1
      rw [e1, List.take_length] at hI hMb ⊢
      have e40 : s1 40 q = s 40 q := hI.2.1 _ _ (by omega)
      refine w173_1 ⟨hr.1, by omega, fun _ => ⟨by omega, by omega, fun w2 => kk s1 _ _ _ _ _ hI hMb ?_, fun w2 => kk s1 _ _ _ _ _ hI hMb ?_⟩, fun w => absurd (by omega) w⟩
      · rw [if_neg (by rw [← e40]; exact w2)]
      · rw [if_pos (by rw [← e40]; exact Classical.not_not.mp w2)]
    | succ k ih =>
      intro i s1 x7 x8 x9 hi hI hMb
      have hil : i < L.length := by omega
      obtain ⟨hR1, hb1⟩ := hI.old hR
      have hr1 := hR1.1
      have hdl : (dd ((L.take i).map kf)).length ≤ i := Nat.le_trans dd_len (by rw [List.length_map, List.length_take]; omega)
      have hmu := mul_le_of (w := es.length) (show (dd ((L.take i).map kf)).length + 1 ≤ L.length + 1 by omega)
      have htk : (L.take (i + 1)).map kf = (L.take i).map kf ++ [kf L[i]] := by rw [take_s hil, List.map_append]; rfl
      have hdt : dd ((L.take (i + 1)).map kf) = if kf L[i] ∈ dd ((L.take i).map kf) then dd ((L.take i).map kf) else dd ((L.take i).map kf) ++ [kf L[i]] := by
        rw [htk]; unfold dd; rw [dda_app]; simp only [dda]
      have hle := hR1.le hil
      refine w173_1 ⟨hr.1, by omega, fun w => absurd w (by omega), fun _ => hI.new (by omega) (by omega) (fun s2 hJ hf => ?_)⟩
      have hnd : (dd ((L.take i).map kf)).Nodup := dd_nd
      generalize hKi : dd ((L.take i).map kf) = Ki at *
      generalize ha : s1 87 0 = a at *
      have h98 : ∀ j, s2 98 j = s1 98 j := fun j => hf _ _ (by omega) (by omega)
      -- behind the key
      have b4 : ∀ (s3 : ms_S), mI s s3 es.length (Ki ++ [kf L[i]]) → rm s3 a (kf L[i]) → (∀ j, s3 98 j = s1 98 j) → ∀ x9, mw (d + 1) 173 (am_blk 173 4) [159, q, r, es.length, s 91 0, (Ki.length : Int), i, a, 0, x9] [] s3 Q := by
        intro s3 hI3 hm3 h983 x9
        have hO3 := hI3.1.1
        have b7 : ∀ (g : Nat) (s4 : ms_S) (K' : List rwt), mI s s4 es.length K' → K' = dd ((L.take (i + 1)).map kf) → (∀ j, s4 98 j = s1 98 j) → K'[g]? = some (kf L[i]) → (∀ (j : Nat) (l : rwt), Ki[j]? = some l → K'[j]? = some l) → mw (d + 1) 173 (am_blk 173 7) [159, q, r, es.length, s 91 0, (K'.length : Int), i, a, g, x9] [] s4 Q := by
          intro g s4 K' hI4 hK' h984 hgK hpre
          refine w173_7 ⟨by omega, by omega, fun s5 e5 => ?_⟩
          rw [am_w_s (by omega), hK']
          refine ih (i + 1) s5 _ _ _ (by omega) ?_ ?_
          · rw [← hK', e5]
            exact hI4.k (m_k.u s4 _ _ (by omega) (by omega)) (by rw [ms_u_f _ _ _ (by omega)]; exact hI4.2.2.1)
          · intro j l hj hl
            rw [← hK']
            by_cases c : j = i
            · subst c
              rw [List.getElem?_eq_getElem hil] at hl
              cases hl
              exact ⟨g, by rw [e5, ms_u_eq], hgK⟩
            · obtain ⟨g2, h1, h2⟩ := hMb j l (by omega) hl
              exact ⟨g2, by rw [e5, ms_u_i _ (by omega), h984]; exact h1, hpre g2 _ h2⟩
        have srch : ∀ (n g : Nat), g + n = Ki.length → kf L[i] ∉ Ki.take g → mw (d + 1) 173 (am_blk 173 4) [159, q, r, es.length, s 91 0, (Ki.length : Int), i, a, g, x9] [] s3 Q := by
          intro n
          induction n with
          | zero =>
            intro g hgn hno
            have eg : g = Ki.length := by omega
            rw [eg, List.take_length] at hno
            refine w173_4 ⟨fun _ => w173_5 ⟨fun _ => ?_, fun w => absurd (by omega) w⟩, fun w => absurd (by omega) w⟩
            rw [am_w_s (by omega)]
            have := b7 g s3 (Ki ++ [kf L[i]]) hI3 (by rw [hdt, if_neg hno]) h983 (by rw [eg]; simp) (fun j l hj => by rw [List.getElem?_append_left (List.getElem?_eq_some_iff.mp hj).1]; exact hj)
            simpa using this
          | succ n ihn =>
            intro g hgn hno
            have hgl : g < Ki.length := by omega
            have hg2 : (Ki ++ [kf L[i]])[g]? = some Ki[g] := by rw [List.getElem?_append_left hgl]; exact List.getElem?_eq_getElem hgl
            obtain ⟨hl1, hm1⟩ := hO3.row hg2
            obtain ⟨d, rfl⟩ : ∃ d', d = d' + 1 := ⟨d - 1, by omega⟩
            refine w173_4 ⟨fun w => absurd w (by omega), fun _ => k_rowAt hO3 rfl (by simp; omega) (k_compareRows hm1 hm3 (by rw [hl1]) (by rw [hl1, kfl]) ⟨fun w => ?_, fun w => ?_⟩)⟩
            · have e1 := (r_cmp_0 (by rw [hl1, kfl])).mp w
              have hin : kf L[i] ∈ Ki := by rw [← e1]; exact List.getElem_mem hgl
              refine w173_5 ⟨fun w => absurd w (by omega), fun _ s4 e4 => ⟨by have := hO3.1; omega, by have := hO3.1; omega, by have := hO3.1; omega, by have := hO3.1; omega, fun s5 e5 => ?_⟩⟩
              have hp := hI3.pop rfl e4 e5
              exact b7 g s5 Ki hp (by rw [hdt, if_pos hin]) (fun j => by rw [e5, ms_u_f _ _ _ (by omega), e4, ms_u_f _ _ _ (by omega)]; exact h983 j) (by rw [← e1]; exact List.getElem?_eq_getElem hgl) (fun j l hj => hj)
            · rw [am_w_s (by omega)]
              refine ihn (g + 1) (by omega) ?_
              rw [List.take_succ, List.getElem?_eq_getElem hgl]
              intro c
              rcases List.mem_append.mp c with c | c
              · exact hno c
              · simp at c
                exact w ((r_cmp_0 (by rw [hl1, kfl])).mpr c.symm)
        exact srch Ki.length 0 (by omega) (by simp)
      have in2 : ∀ (n j : Nat) (s3 : ms_S) (x9 : Int), j + n = es.length → mJ s s3 es.length Ki a → rm s3 a (x_vals T sl (es.take j) L[i]) → (∀ j, s3 98 j = s1 98 j) → mw (d + 1) 173 (am_blk 173 2) [159, q, r, es.length, s 91 0, (Ki.length : Int), i, a, j, x9] [] s3 Q := by
        intro n
        induction n with
        | zero =>
          intro j s3 x9 hj hJ3 hm3 h983
          have e1 : j = es.length := by omega
          rw [e1, List.take_length, hkf] at hm3
          exact w173_2 ⟨fun _ => b4 s3 (hJ3.fill (kfl _) hm3) hm3 h983 x9, fun w => absurd (by omega) w⟩
        | succ n ihn =>
          intro j s3 x9 hj hJ3 hm3 h983
          have hjl : j < es.length := by omega
          have hej := List.getElem?_eq_getElem hjl
          obtain ⟨heN, t, hwt⟩ := he _ (List.getElem_mem hjl)
          have eit : s3 47 (8 * q + j) = es[j] := by rw [hJ3.2.1 _ _ (by omega)]; exact hes j _ hej
          obtain ⟨hR3, -⟩ := hJ3.old hR
          obtain ⟨-, hmr⟩ := hR3.row (List.getElem?_eq_getElem hil)
          have hat := hJ3.at
          have x1 : am_w (8 * (q : Int)) = 8 * q := am_w_in (by omega) (by omega)
          have x2 : am_w (8 * (q : Int) + j) = 8 * q + j := am_w_in (by omega) (by omega)
          have x3 : am_w (a + j) = a + j := am_w_in (by omega) (by omega)
          refine w173_2 ⟨fun w => absurd w (by omega), fun _ => k_rowAt hR3 rfl (by omega) (fun s4 e4 => ?_)⟩
          have k4 : m_k s3 s4 := by rw [e4]; exact m_k.u s3 0 _ (by omega) (by omega)
          have hJ4 : mJ s s4 es.length Ki a := by rw [e4]; exact hJ3.hand _
          have h93 : s4 93 0 = s3 88 r + ((i * w : Nat) : Int) := by rw [e4, ms_u_eq]
          have hm4 : rm s4 (s4 93 0) L[i] := by rw [h93]; exact hmr.k k4
          rw [x1, x2, x3]
          have eit4 : s4 47 (8 * q + j) = es[j] := by rw [k4 _ _ (by omega)]; exact eit
          refine ⟨by omega, by omega, k_evr (hT.F hJ4.2.1) hJ4.2.2.1 hm4 (hL _ (List.getElem_mem hil)) ht heN eit4 hwt (by omega) (fun s5 u5 n5 => ⟨by omega, by omega, fun s6 e6 => ⟨by omega, by omega, fun s7 e7 => ?_⟩⟩)⟩
          have hJ5 := hJ4.n u5
          have n6 : s6 92 0 = x_nl (ev T (x_env sl L[i]) 121 es[j]) := by rw [e6, ms_u_f _ _ _ (by omega)]; exact n5
          rw [n6, am_i2b_nl] at e7
          have f : m_c (a + j) s5 s7 := by rw [e7, e6]; exact (m_c.u _ _ (Or.inl rfl) (Int.le_refl _)).tr (m_c.u _ _ (Or.inr rfl) (Int.le_refl _))
          rw [am_w_s (by omega)]
          refine ihn (j + 1) s7 _ (by omega) (hJ5.c f (by omega)) ?_ (fun j' => by rw [f _ _ (by omega), u5 _ _ (by decide), e4, ms_u_f _ _ _ (by omega)]; exact h983 j')
          rw [x_vals_take hej]
          have hlen : (x_vals T sl (es.take j) L[i]).length = j := by simp [x_vals]; omega
          refine rm_app (((hm3.k k4).k u5.k).c f (by rw [hlen]; exact Int.le_refl _)) ?_
          rw [hlen]
          refine rm_one (by omega) (by omega) ?_ ?_
          · rw [e7, ms_u_f _ _ _ (by omega), e6, ms_u_eq]
          · rw [e7, ms_u_eq]
      exact in2 es.length 0 s2 x9 (by omega) hJ (by have := hJ.at; exact rm_nil (by omega) (by omega)) h98
  refine w173_e ⟨by omega, by omega, ?_⟩
  rw [h39]
  refine mI_begin (by omega) h91 (by omega) (by omega) hg (by omega) rfl (fun s1 hI _ => ?_)
  exact loop L.length 0 s1 0 0 0 (by omega) (by simpa [dd, dda] using hI) (fun i l hi => absurd hi (by omega))
end
