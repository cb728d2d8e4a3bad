set_option maxRecDepth 100000
section
variable {T : xt} {sl ct : Nat → Int} {τ : List Int} {N d0 d : Nat} {env : Nat → Option Int}
theorem m_tr01 {v : Option Int} {t : Int} (h : x_ty t v) (h1 : t ≠ 1) (h2 : t = 0 ∨ t = 1 ∨ t = 2) : v = none ∨ v = some 0 ∨ v = some 1 := by
  rcases h2 with q | q | q
  · exact Or.inl (h.2 q)
  · exact absurd q h1
  · exact h.1 q
theorem m_tr1 {v : Option Int} (h : v = none ∨ v = some 0 ∨ v = some 1) : m_tr v = 1 ↔ v = some 1 := by
  rcases h with rfl | rfl | rfl <;> decide
theorem m_eval1 (hT64 : x_T64 T) (h64 : ∀ e, x_r64 (env e)) (hty : ∀ e t, 0 ≤ sl e → τ[(sl e).toNat]? = some t → t = ct e → x_ty t (env e)) : ∀ (f e : Nat) (t : Int) (D : Nat) (s : ms_S) (Q : Int → ms_S → Prop), x_wt T sl ct τ f e t → e < N → d0 + 2 * f + 3 ≤ D → ex_M s T N → m_lf d0 s T sl ct τ N env → (∀ s', m_n s s' → s' 92 0 = x_nl (ev T env f e) → Q (rw_ov (ev T env f e)) s') → md_eval D e s Q := by
  intro f
  induction f with
  | zero => intro e t D s Q hw; exact hw.elim
  | succ f ih =>
    intro e t D s Q hw he hD hM hL kk
    obtain ⟨D', rfl⟩ : ∃ D', D = D' + 2 := ⟨D - 2, by omega⟩
    have hD' : d0 + 2 * f + 3 ≤ D' := by omega
    have hN := hM.1
    obtain ⟨hk, htold, hhow, hlr, hthird, hnext, -, -, hb1⟩ := hM.2 e he
    have tyof : ∀ e t, x_wt T sl ct τ f e t → x_ty t (ev T env f e) := ev_ty hty f
    have fin : ∀ (v : Option Int) (s' : ms_S), m_n s s' → ev T env (f + 1) e = v → s' 92 0 = x_nl v → Q (rw_ov v) s' := by
      intro v s' u hv hn
      subst hv
      exact kk s' u hn
    -- a part, and its truth
    have part : ∀ (x : Int) (tx : Int) (s1 : ms_S) (D1 : Nat), x_lt T e x → x_wt T sl ct τ f x.toNat tx → m_n s s1 → D' ≤ D1 → ∀ Q' : Int → ms_S → Prop, (∀ s', m_n s1 s' → s' 92 0 = x_nl (ev T env f x.toNat) → Q' (rw_ov (ev T env f x.toNat)) s') → md_eval D1 x s1 Q' := by
      intro x tx s1 D1 hx hwx u hD1 Q' kk'
      have hx0 : 0 ≤ x ∧ x < (e : Int) := hx
      have e1 : x = ((x.toNat : Nat) : Int) := by omega
      rw [e1]
      rw [e1, Int.toNat_natCast] at kk'
      exact ih x.toNat tx D1 s1 Q' hwx (by omega) (by omega) (hM.n u) (hL.n u) kk'
    have ptruth : ∀ (x : Int) (tx : Int) (s1 : ms_S), x_lt T e x → x_wt T sl ct τ f x.toNat tx → m_n s s1 → ∀ Q' : Int → ms_S → Prop, (∀ s', m_n s1 s' → s' 92 0 = x_nl (ev T env f x.toNat) → Q' (m_tr (ev T env f x.toNat)) s') → md_truth (D' + 1) x s1 Q' := by
      intro x tx s1 hx hwx u Q' kk'
      have hx0 : 0 ≤ x ∧ x < (e : Int) := hx
      have e1 : x = ((x.toNat : Nat) : Int) := by omega
      rw [e1]
      rw [e1, Int.toNat_natCast] at kk'
      refine k_mtruth (v := ev T env f x.toNat) (fun Q2 k2 => ?_) kk'
      exact ih x.toNat tx D' s1 Q2 hwx (by omega) hD' (hM.n u) (hL.n u) k2
    have three : ∀ t : Int, t = 0 ∨ t = 1 ∨ t = 2 → ∀ v : Option Int, ev T env (f + 1) e = v → (if t = 2 then (1 : Int) else 0) = x_nl v → (if t = 2 then 0 else t) = rw_ov v → ∀ s1, m_n s s1 → md_ofTruth (D' + 1) t s1 (fun v1 s1 => Q v1 s1) := by
      intro t ht v hv h1 h2 s1 u
      refine k_ofTruth (fun s2 u2 n2 => ?_)
      rw [h2]
      exact fin v s2 (u.tr u2) hv (n2.trans h1)
    have two : ((7 ≤ x_act T e ∧ x_act T e ≤ 12) ∨ (17 ≤ x_act T e ∧ x_act T e ≤ 21) ∨ x_act T e = 24) → x_lt T e (x_a T e) → x_lt T e (x_b T e) → ∀ {ta tb : Int}, x_wt T sl ct τ f (x_a T e).toNat ta → x_wt T sl ct τ f (x_b T e).toNat tb → md_eval (D' + 2) e s Q := by
      intro hact ha hb ta tb hta htb
      have hlr := hlr (by omega)
      have hev := ev_two (env := env) (f := f) hact
      have hk2 : s 23 e = 9 ∨ (s 23 e = x_act T e - 5 ∧ 17 ≤ x_act T e ∧ x_act T e ≤ 24 ∧ x_act T e ≠ 22 ∧ x_act T e ≠ 23) := by
        rw [hk]
        unfold mk_kind
        rcases hact with q | q
        · left
          rw [if_neg (by omega), if_neg (by omega), if_neg (by omega), if_neg (by omega), if_neg (by omega), if_neg (by omega), if_neg (by omega), if_pos (by omega)]
        · right
          rw [if_neg (by omega), if_neg (by omega), if_neg (by omega), if_neg (by omega), if_neg (by omega), if_neg (by omega), if_neg (by omega), if_neg (by omega), if_neg (by omega), if_neg (by omega)]
          omega
      refine w163_e ⟨by omega, by omega, ⟨fun _ => ⟨fun _ => ⟨fun w => absurd w (by omega), fun _ => ⟨fun _ => ⟨fun _ => ⟨fun _ => ⟨fun w => absurd w (by omega), fun _ => ⟨fun _ => ⟨fun _ => ⟨fun _ => ⟨fun _ => ⟨fun _ => ⟨by omega, by omega, ?_⟩, fun w => absurd (by omega) w⟩, fun w => absurd (by omega) w⟩, fun w => absurd (by omega) w⟩, fun w => absurd (by omega) w⟩, fun w => absurd (by omega) w⟩⟩, fun w => absurd (by omega) w⟩, fun w => absurd (by omega) w⟩, fun w => absurd (by omega) w⟩⟩, fun w => absurd (by omega) w⟩, fun w => absurd (by omega) w⟩⟩
      rw [hlr.1]
      refine part _ ta s (D' + 1) ha hta (m_n.rf s) (by omega) _ (fun s1 u1 n1 => ⟨fun _ => ⟨by omega, by omega, ?_⟩, fun w => absurd (by omega) w⟩)
      rw [u1 _ _ (by decide), hlr.2, n1]
      refine part _ tb s1 (D' + 1) hb htb u1 (by omega) _ (fun s2 u2 n2 => ?_)
      rw [n2]
      have r64a := ev_r64 hT64 h64 f (x_a T e).toNat
      have r64b := ev_r64 hT64 h64 f (x_b T e).toNat
      cases hx : ev T env f (x_a T e).toNat with
      | none =>
        rw [hx] at hev
        exact ⟨fun _ => w163_32 (k_nothing0 (fun s3 u3 n3 => fin none s3 ((u1.tr u2).tr u3) hev n3)), fun w => absurd (by decide) w⟩
      | some x =>
        cases hy : ev T env f (x_b T e).toNat with
        | none =>
          rw [hx, hy] at hev
          exact ⟨fun w => absurd rfl w, fun _ => ⟨fun w => absurd w (by decide), fun _ => w163_32 (k_nothing0 (fun s3 u3 n3 => fin none s3 ((u1.tr u2).tr u3) hev n3))⟩⟩
        | some y =>
          rw [hx, hy] at hev
          refine ⟨fun w => absurd rfl w, fun _ => ⟨fun _ => ?_, fun w => absurd rfl w⟩⟩
          rw [hk]
          exact k_some2 ((hM.n u1).n u2) he hact (r64a x hx) (r64b y hy) (fun s3 u3 n3 => fin _ s3 ((u1.tr u2).tr u3) hev n3)
    unfold x_wt at hw
    rcases hw with ⟨h, rfl⟩ | ⟨h, rfl⟩ | ⟨h, rfl, hv⟩ | ⟨h, g1, g2, g3, g4⟩ | ⟨h, ha, hb, rfl, ⟨ta, hta, na⟩, tb, htb, nb⟩ | ⟨h, ha, rfl, ta, hta, na⟩ | ⟨h, ha, hb, rfl, ⟨ta, hta, -⟩, tb, htb, -⟩ | ⟨h, ha, rfl, ta, hta⟩ | ⟨h, ha, hin, rfl, ⟨ta, hta, -⟩, hq⟩ | ⟨h, ha, hb, rfl, ⟨ta, hta, -⟩, tb, htb, -⟩ | ⟨h, ha, rfl, ta, hta, -⟩ | ⟨h, ha, hb, hc, ⟨ta, hta, na⟩, tb, tc, htb, htc, h5, rfl⟩
    · have hk : s 23 e = 1 := by rw [hk, h]; rfl
      refine w163_e ⟨by omega, by omega, ⟨fun w => absurd w (by omega), fun _ => ⟨by omega, by omega, k_some (fun s1 u n => ?_)⟩⟩⟩
      rw [htold h]
      exact fin (some (x_v T e)) s1 u (ev_lit (Or.inl h)) n
    · have hk : s 23 e = 2 := by rw [hk, h]; rfl
      exact w163_e ⟨by omega, by omega, ⟨fun _ => ⟨fun w => absurd w (by omega), fun _ => k_nothing0 (fun s1 u n => fin none s1 u (ev_null h) n)⟩, fun w => absurd (by omega) w⟩⟩
    · have hev := ev_lit (env := env) (f := f) (Or.inr h)
      rcases hv with hv | hv
      · have hk : s 23 e = 4 := by rw [hk, h, hv]; decide
        refine w163_e ⟨by omega, by omega, ⟨fun _ => ⟨fun _ => ⟨fun w => absurd w (by omega), fun _ => ⟨fun w => absurd w (by omega), fun _ => w163_3 ⟨fun _ => w163_5 (k_some (fun s1 u n => fin (some 0) s1 u (by rw [hev, hv]) n)), fun w => absurd (by omega) w⟩⟩⟩, fun w => absurd (by omega) w⟩, fun w => absurd (by omega) w⟩⟩
      · have hk : s 23 e = 3 := by rw [hk, h, hv]; decide
        refine w163_e ⟨by omega, by omega, ⟨fun _ => ⟨fun _ => ⟨fun _ => w163_3 ⟨fun w => absurd (by omega) w, fun _ => w163_5 (k_some (fun s1 u n => fin (some 1) s1 u (by rw [hev, hv]) n))⟩, fun w => absurd (by omega) w⟩, fun w => absurd (by omega) w⟩, fun w => absurd (by omega) w⟩⟩
    · rw [ev_col (by omega)] at kk
      exact hL e t he h g1 g3 g4 s (D' + 2) Q (m_n.rf s) (by omega) kk
    · have hlr := hlr (by omega)
      have va := m_tr01 (tyof _ _ hta) na (x_wt_t _ _ _ hta)
      have vb := m_tr01 (tyof _ _ htb) nb (x_wt_t _ _ _ htb)
      have key : ∀ z dc : Int, dc = (if z = 0 then 1 else 0) → ev T env (f + 1) e = x_bo dc (ev T env f (x_a T e).toNat) (ev T env f (x_b T e).toNat) → mw (D' + 2) 163 (am_blk 163 15) [159, (e : Int), s 23 e, 0, 0, 0, 0, 0] [z, 159] s Q := by
        intro z dc hdc hev
        refine w163_15 ⟨by omega, by omega, ?_⟩
        rw [hlr.1]
        refine ptruth _ ta s ha hta (m_n.rf s) _ (fun s1 u1 n1 => ⟨by omega, by omega, ?_⟩)
        rw [u1 _ _ (by decide), hlr.2]
        refine ptruth _ tb s1 hb htb u1 _ (fun s2 u2 n2 => k_mboth ?_)
        rw [← hdc]
        have hd01 : dc = 0 ∨ dc = 1 := by rw [hdc]; split <;> omega
        obtain ⟨q1, q2⟩ := x_bo_tr hd01 va vb
        refine three _ ?_ _ hev q1 q2 s2 (u1.tr u2)
        split
        · omega
        · split <;> omega
      rcases h with h | h
      · have hk7 : s 23 e = 7 := by rw [hk, h]; rfl
        exact w163_e ⟨by omega, by omega, ⟨fun _ => ⟨fun _ => ⟨fun w => absurd w (by omega), fun _ => ⟨fun _ => ⟨fun _ => ⟨fun _ => ⟨fun w => absurd w (by omega), fun _ => ⟨fun w => absurd w (by omega), fun _ => w163_13 ⟨fun _ => key 0 1 rfl (ev_or h), fun w => absurd (by omega) w⟩⟩⟩, fun w => absurd (by omega) w⟩, fun w => absurd (by omega) w⟩, fun w => absurd (by omega) w⟩⟩, fun w => absurd (by omega) w⟩, fun w => absurd (by omega) w⟩⟩
      · have hk7 : s 23 e = 6 := by rw [hk, h]; rfl
        exact w163_e ⟨by omega, by omega, ⟨fun _ => ⟨fun _ => ⟨fun w => absurd w (by omega), fun _ => ⟨fun _ => ⟨fun _ => ⟨fun _ => ⟨fun _ => w163_13 ⟨fun w => absurd (by omega) w, fun _ => key 1 0 rfl (ev_and h)⟩, fun w => absurd (by omega) w⟩, fun w => absurd (by omega) w⟩, fun w => absurd (by omega) w⟩, fun w => absurd (by omega) w⟩⟩, fun w => absurd (by omega) w⟩, fun w => absurd (by omega) w⟩⟩
    · have hlr := hlr (by omega)
      have va := m_tr01 (tyof _ _ hta) na (x_wt_t _ _ _ hta)
      have hev := ev_not (env := env) (f := f) h
      have hk8 : s 23 e = 8 := by rw [hk, h]; rfl
      refine w163_e ⟨by omega, by omega, ⟨fun _ => ⟨fun _ => ⟨fun w => absurd w (by omega), fun _ => ⟨fun _ => ⟨fun _ => ⟨fun _ => ⟨fun w => absurd w (by omega), fun _ => ⟨fun _ => ⟨fun w => absurd w (by omega), fun _ => ⟨by omega, by omega, ?_⟩⟩, fun w => absurd (by omega) w⟩⟩, fun w => absurd (by omega) w⟩, fun w => absurd (by omega) w⟩, fun w => absurd (by omega) w⟩⟩, fun w => absurd (by omega) w⟩, fun w => absurd (by omega) w⟩⟩
      rw [hlr.1]
      refine ptruth _ ta s ha hta (m_n.rf s) _ (fun s1 u1 n1 => ?_)
      rcases va with va | va | va
      · rw [va] at hev ⊢
        exact ⟨fun w => absurd (by decide) w, fun _ => w163_18 (three 2 (by omega) none hev (by decide) (by decide) s1 u1)⟩
      · rw [va] at hev ⊢
        exact ⟨fun _ => w163_18 (three 1 (by omega) (some 1) (hev.trans (by decide)) (by decide) (by decide) s1 u1), fun w => absurd (by decide) w⟩
      · rw [va] at hev ⊢
        exact ⟨fun _ => w163_18 (three 0 (by omega) (some 0) (hev.trans (by decide)) (by decide) (by decide) s1 u1), fun w => absurd (by decide) w⟩
    · exact two (Or.inl h) ha hb hta htb
    · have hlr := hlr (by omega)
      have hk10 : s 23 e = 10 := by rcases h with h | h <;> (rw [hk, h]; rfl)
      have hw := hhow (by omega) (by omega)
      refine w163_e ⟨by omega, by omega, ⟨fun _ => ⟨fun _ => ⟨fun w => absurd w (by omega), fun _ => ⟨fun _ => ⟨fun _ => ⟨fun _ => ⟨fun w => absurd w (by omega), fun _ => ⟨fun _ => ⟨fun _ => ⟨fun w => absurd w (by omega), fun _ => ⟨by omega, by omega, ?_⟩⟩, fun w => absurd (by omega) w⟩, fun w => absurd (by omega) w⟩⟩, fun w => absurd (by omega) w⟩, fun w => absurd (by omega) w⟩, fun w => absurd (by omega) w⟩⟩, fun w => absurd (by omega) w⟩, fun w => absurd (by omega) w⟩⟩
      rw [hlr.1]
      refine part _ ta s (D' + 1) ha hta (m_n.rf s) (by omega) _ (fun s1 u1 n1 => ⟨by omega, by omega, ?_⟩)
      rw [u1 _ _ (by decide), hw, n1]
      have fs : ∀ z : Int, ev T env (f + 1) e = some z → ∀ (x : Int) s2, m_n s s2 → mw (D' + 2) 163 (am_blk 163 23) [159, (e : Int), s 23 e, x, 0, x_nl (ev T env f (x_a T e).toNat), 0, 0] [z, 159] s2 Q := by
        intro z hz x s2 u2
        exact w163_23 (k_some (fun s3 u3 n3 => fin (some z) s3 (u2.tr u3) hz n3))
      have an0 : ev T env f (x_a T e).toNat = none ↔ x_nl (ev T env f (x_a T e).toNat) = 1 := by cases ev T env f (x_a T e).toNat <;> simp [x_nl]
      have an1 : ¬ ev T env f (x_a T e).toNat = none ↔ x_nl (ev T env f (x_a T e).toNat) = 0 := by cases ev T env f (x_a T e).toNat <;> simp [x_nl]
      rcases h with h | h
      · have hev := ev_is (env := env) (f := f) h
        rw [h]
        refine ⟨fun w => absurd (by decide) w, fun _ => w163_21 ⟨fun q => fs 0 ?_ _ s1 u1, fun q => fs 1 ?_ _ s1 u1⟩⟩
        · rw [hev, if_neg (fun p => q (an0.mp p))]
        · rw [hev, if_pos (an0.mpr (by omega))]
      · have hev := ev_isn (env := env) (f := f) h
        rw [h]
        refine ⟨fun _ => w163_21 ⟨fun q => fs 0 ?_ _ s1 u1, fun q => fs 1 ?_ _ s1 u1⟩, fun w => absurd (by decide) w⟩
        · rw [hev, if_pos]
          apply Classical.byContradiction
          intro p
          exact q (an1.mp p)
        · rw [hev, if_neg (an1.mpr (by omega))]
    · have hlr := hlr (by omega)
      have hk11 : s 23 e = 11 := by rcases h with h | h <;> (rw [hk, h]; rfl)
      have hw := hhow (by omega) (by omega)
      obtain ⟨L, hL8, hLL, hLe⟩ := hin
      rw [x_ch_li L 9 _ (by omega) hLL] at hq
      refine w163_e ⟨by omega, by omega, ⟨fun _ => ⟨fun _ => ⟨fun w => absurd w (by omega), fun _ => ⟨fun _ => ⟨fun _ => ⟨fun _ => ⟨fun w => absurd w (by omega), fun _ => ⟨fun _ => ⟨fun _ => ⟨fun _ => ⟨fun _ => ⟨fun w => absurd w (by omega), fun _ => w169_e ⟨by omega, by omega, ?_⟩⟩, fun w => absurd (by omega) w⟩, fun w => absurd (by omega) w⟩, fun w => absurd (by omega) w⟩, fun w => absurd (by omega) w⟩⟩, fun w => absurd (by omega) w⟩, fun w => absurd (by omega) w⟩, fun w => absurd (by omega) w⟩⟩, fun w => absurd (by omega) w⟩, fun w => absurd (by omega) w⟩⟩
      have hevi : ∃ y : Int, (y = 1 ∧ mk_how (x_act T e) = 0 ∨ y = 0 ∧ mk_how (x_act T e) = 1) ∧ ev T env (f + 1) e = x_in y (ev T env f (x_a T e).toNat) (L.map (fun q => ev T env f q)) := by
        rcases h with h | h
        · exact ⟨1, Or.inl ⟨rfl, by rw [h]; decide⟩, by rw [ev_in h, x_ch_li L 9 _ (by omega) hLL]⟩
        · exact ⟨0, Or.inr ⟨rfl, by rw [h]; decide⟩, by rw [ev_nin h, x_ch_li L 9 _ (by omega) hLL]⟩
      obtain ⟨y, hy, hev⟩ := hevi
      rw [hlr.1]
      refine part _ ta s D' ha hta (m_n.rf s) (by omega) _ (fun s1 u1 n1 => ?_)
      generalize hva : ev T env f (x_a T e).toNat = va at *
      have an0 : va = none ↔ x_nl va ≠ 0 := by cases va <;> simp [x_nl]
      have loop : ∀ (L : List Nat) (q : Int) (ys : List (Option Int)) (s2 : ms_S) (z7 : Int), x_li T q L → -1 ≤ q → (∀ k ∈ L, k < e ∧ ∃ tq, x_wt T sl ct τ f k tq) → m_n s s2 → ev T env (f + 1) e = x_in y va (ys ++ L.map (fun q => ev T env f q)) → mw (D' + 1) 169 (am_blk 169 3) [159, (e : Int), rw_ov va, 0, x_nl va, (if va ≠ none ∧ va ∈ ys then 1 else if va = none ∨ none ∈ ys then 2 else 0), q, z7, 0] [] s2 Q := by
        intro L
        induction L with
        | nil =>
          intro q ys s2 z7 hLL hq1 hk2 u2 hev
          rw [List.map_nil, List.append_nil] at hev
          have hq0 : q = -1 := by have : q < 0 := hLL; omega
          have b11 : ∀ tt : Int, tt = 0 ∨ tt = 1 ∨ tt = 2 → (if tt = 2 then (1 : Int) else 0) = x_nl (ev T env (f + 1) e) → (if tt = 2 then 0 else tt) = rw_ov (ev T env (f + 1) e) → ∀ z, mw (D' + 1) 169 (am_blk 169 11) [159, (e : Int), rw_ov va, 0, x_nl va, z, q, z7, 0] [tt, 159] s2 Q := by
            intro tt ht h1 h2 z
            refine w169_11 ?_
            obtain ⟨D2, rfl⟩ : ∃ D2, D' = D2 + 1 := ⟨D' - 1, by omega⟩
            refine k_ofTruth (fun s3 u3 n3 => ?_)
            rw [h2]
            exact fin _ s3 (u2.tr u3) rfl (n3.trans h1)
          refine w169_3 ⟨fun _ => ?_, fun w => absurd hq0 w⟩
          rw [u2 _ _ (by decide), hw]
          by_cases p : va ≠ none ∧ va ∈ ys
          · rw [if_pos p]
            have hev : ev T env (f + 1) e = some y := by rw [hev]; unfold x_in; rw [if_pos p]
            refine ⟨fun _ => ⟨by omega, by omega, fun w => b11 _ (by omega) ?_ ?_ _, fun w => b11 _ ?_ ?_ ?_ _⟩, fun w => absurd (by decide) w⟩
            · rw [hev]; rfl
            · rw [hev, if_neg (by decide)]; show 1 = y; omega
            · decide
            · rw [hev, if_neg (by decide)]; rfl
            · rw [hev, if_neg (by decide)]; show am_w (1 - 1) = y; have : y = 0 := by omega
              rw [this]; decide
          · rw [if_neg p]
            by_cases p2 : va = none ∨ none ∈ ys
            · rw [if_pos p2]
              have hev : ev T env (f + 1) e = none := by rw [hev]; unfold x_in; rw [if_neg p, if_pos p2]
              refine ⟨fun w => absurd rfl w, fun _ => b11 _ (by omega) ?_ ?_ _⟩
              · rw [hev]; rfl
              · rw [hev]; rfl
            · rw [if_neg p2]
              have hev : ev T env (f + 1) e = some (1 - y) := by rw [hev]; unfold x_in; rw [if_neg p, if_neg p2]
              refine ⟨fun _ => ⟨by omega, by omega, fun w => b11 _ (by omega) ?_ ?_ _, fun w => b11 _ ?_ ?_ ?_ _⟩, fun w => absurd (by decide) w⟩
              · rw [hev]; rfl
              · rw [hev, if_neg (by decide)]; show 0 = 1 - y; omega
              · decide
              · rw [hev, if_neg (by decide)]; rfl
              · rw [hev, if_neg (by decide)]; show am_w (1 - 0) = 1 - y; have : y = 0 := by omega
                rw [this]; decide
        | cons k L ihL =>
          intro q ys s2 z7 hLL hq1 hk2 u2 hev
          obtain ⟨hq2, hL2⟩ := hLL
          obtain ⟨hke, tq, htq⟩ := hk2 k List.mem_cons_self
          obtain ⟨-, -, -, -, -, knext, -, kn1, -⟩ := hM.2 k (by omega)
          have hev2 : ev T env (f + 1) e = x_in y va ((ys ++ [ev T env f k]) ++ L.map (fun q => ev T env f q)) := by
            rw [hev, List.map_cons, List.append_assoc]; rfl
          refine w169_3 ⟨fun w => by omega, fun _ => ?_⟩
          rw [hq2]
          refine ih k tq D' s2 _ htq (by omega) hD' (hM.n u2) (hL.n u2) (fun s3 u3 n3 => ?_)
          rw [n3]
          have u13 := u2.tr u3
          have bn0 : ev T env f k = none ↔ x_nl (ev T env f k) ≠ 0 := by cases ev T env f k <;> simp [x_nl]
          have b7 : ∀ z : Int, (z = if va ≠ none ∧ va ∈ ys ++ [ev T env f k] then 1 else if va = none ∨ none ∈ ys ++ [ev T env f k] then 2 else 0) → mw (D' + 1) 169 (am_blk 169 7) [159, (e : Int), rw_ov va, 0, x_nl va, z, (k : Int), rw_ov (ev T env f k), 0] [] s3 Q := by
            intro z hz
            refine w169_7 ⟨by omega, by omega, ?_⟩
            rw [u13 _ _ (by decide), knext, hz]
            exact ihL (x_n T k) (ys ++ [ev T env f k]) s3 _ hL2 kn1 (fun j hj => hk2 j (List.mem_cons_of_mem _ hj)) u13 hev2
          have mem : ∀ w : Option Int, w ∈ ys ++ [ev T env f k] ↔ w ∈ ys ∨ w = ev T env f k := by intro w; simp
          refine ⟨fun q1 => ⟨fun q2 => b7 _ ?_, fun q2 => ⟨fun q3 => b7 _ ?_, fun q3 => b7 _ ?_⟩⟩, fun q1 => ⟨fun q2 => w169_5 (b7 _ ?_), fun q2 => w169_5 (b7 _ ?_)⟩⟩
          · have p : va = none := an0.mpr q2
            rw [if_neg (fun p2 => p2.1 p), if_pos (Or.inl p), if_neg (fun p2 => p2.1 p), if_pos (Or.inl p)]
          · have p : va ≠ none := fun p => q2 (an0.mp p)
            have p1 : ev T env f k ≠ none := fun p => (bn0.mp p) q1
            have p2 : va ≠ ev T env f k := fun p => q3 ((lc_iff _ _).1.mpr (by rw [p]))
            simp only [mem, p, p2, Ne.symm p1, or_false, ne_eq, not_false_eq_true, true_and, false_or]
          · have p : va ≠ none := fun p => q2 (an0.mp p)
            have p2 : va = ev T env f k := by
              have e8 := (lc_iff _ _).1.mp (Classical.not_not.mp q3)
              cases hvb : ev T env f k with
              | none => exact absurd q1 (bn0.mp hvb)
              | some z =>
                rw [hvb] at e8
                cases hv2 : va with
                | none => exact absurd hv2 p
                | some z2 => rw [hv2] at e8; exact congrArg some e8.symm
            rw [if_pos ⟨p, (mem va).mpr (Or.inr p2)⟩]
          · have p1 : ev T env f k = none := bn0.mpr q1
            have hno : ¬ (va ≠ none ∧ va ∈ ys) := by intro p; rw [if_pos p] at q2; exact q2 rfl
            rw [if_neg, if_pos (Or.inr ((mem none).mpr (Or.inr p1.symm)))]
            rintro ⟨p2, p3⟩
            rcases (mem va).mp p3 with p4 | p4
            · exact hno ⟨p2, p4⟩
            · exact p2 (p4.trans p1)
          · have hyes : va ≠ none ∧ va ∈ ys := by
              by_cases p : va ≠ none ∧ va ∈ ys
              · exact p
              · exfalso
                rw [if_neg p] at q2
                apply q2
                split <;> decide
            rw [if_pos ⟨hyes.1, (mem va).mpr (Or.inl hyes.2)⟩]
      have go : ∀ z : Int, (z = if va = none then 2 else 0) → mw (D' + 1) 169 (am_blk 169 2) [159, (e : Int), rw_ov va, 0, x_nl va, 0, 0, 0, 0] [z] s1 Q := by
        intro z hz
        refine w169_2 ⟨by omega, by omega, ?_⟩
        rw [u1 _ _ (by decide), hlr.2, hz]
        have := loop L (x_b T e) [] s1 0 hLL hb1 (fun k hk3 => ⟨hLe k hk3, by obtain ⟨tq, h1, -⟩ := hq k hk3; exact ⟨tq, h1⟩⟩) u1 hev
        simp only [List.not_mem_nil, and_false, or_false, if_false] at this
        exact this
      rw [n1]
      refine ⟨fun w => go 0 ?_, fun w => go 2 ?_⟩
      · rw [if_neg (fun p => (an0.mp p) w)]
      · rw [if_pos (an0.mpr w)]
    · exact two (Or.inr (by omega)) ha hb hta htb
    · have hlr := hlr (by omega)
      have hev := ev_neg (env := env) (f := f) h
      have hk17 : s 23 e = 17 := by rw [hk, h]; rfl
      refine w163_e ⟨by omega, by omega, ⟨fun _ => ⟨fun _ => ⟨fun w => absurd w (by omega), fun _ => ⟨fun _ => ⟨fun _ => ⟨fun _ => ⟨fun w => absurd w (by omega), fun _ => ⟨fun _ => ⟨fun _ => ⟨fun _ => ⟨fun _ => ⟨fun _ => ⟨by omega, by omega, ?_⟩, fun w => absurd (by omega) w⟩, fun w => absurd (by omega) w⟩, fun w => absurd (by omega) w⟩, fun w => absurd (by omega) w⟩, fun w => absurd (by omega) w⟩⟩, fun w => absurd (by omega) w⟩, fun w => absurd (by omega) w⟩, fun w => absurd (by omega) w⟩⟩, fun w => absurd (by omega) w⟩, fun w => absurd (by omega) w⟩⟩
      rw [hlr.1]
      refine part _ ta s (D' + 1) ha hta (m_n.rf s) (by omega) _ (fun s1 u1 n1 => ⟨fun w => absurd hk17 w, fun _ => ?_⟩)
      rw [n1]
      cases hv : ev T env f (x_a T e).toNat with
      | none =>
        rw [hv] at hev
        exact ⟨fun q => absurd q (by simp [x_nl]), fun q => k_nothing0 (fun s2 u2 n2 => w163_30 (fin none s2 (u1.tr u2) hev n2))⟩
      | some x =>
        rw [hv] at hev
        exact ⟨fun q => k_some (fun s2 u2 n2 => w163_30 (fin (some (am_x (-x))) s2 (u1.tr u2) hev n2)), fun q => absurd (by simp [x_nl]) q⟩
    · have hlr := hlr (by omega)
      have va := m_tr01 (tyof _ _ hta) na (x_wt_t _ _ _ hta)
      have hev := ev_case (env := env) (f := f) h
      have hk18 : s 23 e = 18 := by rw [hk, h]; rfl
      refine w163_e ⟨by omega, by omega, ⟨fun _ => ⟨fun _ => ⟨fun w => absurd w (by omega), fun _ => ⟨fun _ => ⟨fun _ => ⟨fun _ => ⟨fun w => absurd w (by omega), fun _ => ⟨fun _ => ⟨fun _ => ⟨fun _ => ⟨fun w => absurd w (by omega), fun _ => ⟨by omega, by omega, ?_⟩⟩, fun w => absurd (by omega) w⟩, fun w => absurd (by omega) w⟩, fun w => absurd (by omega) w⟩⟩, fun w => absurd (by omega) w⟩, fun w => absurd (by omega) w⟩, fun w => absurd (by omega) w⟩⟩, fun w => absurd (by omega) w⟩, fun w => absurd (by omega) w⟩⟩
      rw [hlr.1]
      refine ptruth _ ta s ha hta (m_n.rf s) _ (fun s1 u1 n1 => ⟨fun q => ⟨by omega, by omega, ?_⟩, fun q => ⟨by omega, by omega, ?_⟩⟩)
      · rw [u1 _ _ (by decide), hthird]
        rw [if_neg (fun p => q ((m_tr1 va).mpr p))] at hev
        refine part _ tc s1 (D' + 1) hc htc u1 (by omega) _ (fun s2 u2 n2 => w163_26 ?_)
        rw [← hev] at n2 ⊢
        exact kk s2 (u1.tr u2) n2
      · rw [u1 _ _ (by decide), hlr.2]
        rw [if_pos ((m_tr1 va).mp (Classical.not_not.mp q))] at hev
        refine part _ tb s1 (D' + 1) hb htb u1 (by omega) _ (fun s2 u2 n2 => w163_26 ?_)
        rw [← hev] at n2 ⊢
        exact kk s2 (u1.tr u2) n2
end
