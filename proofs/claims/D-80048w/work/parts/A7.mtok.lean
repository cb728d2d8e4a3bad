set_option maxRecDepth 100000
/-! the model: asking tokens, faults -/
def mkT (s : ms_S) (b : Int → Int) (n K : Nat) : Prop := tk_K b n K ∧ n ≤ 2000 ∧ (∀ i : Nat, i < n → s 2 i = b i) ∧ ∀ k : Nat, k ≤ K → s 14 k = tk_s b n k ∧ s 15 k = tk_p b n k ∧ s 16 k = ((tk_w b n k).length : Int) ∧ (tk_s b n k = 2 → s 17 k = tk_v b n k)
/-- a fault was told -/
def MF (s : ms_S) (f p : Int) : Prop := s 21 0 = 0 ∧ s 19 0 = f ∧ s 20 0 = p ∧ 0 ≤ s 18 0 ∧ s 18 0 ≤ 2000
def m_fl (s : ms_S) (f p : Int) : ms_S := ms_u (ms_u (ms_u s 21 0 0) 19 0 f) 20 0 p
section
variable {s s' : ms_S} {b : Int → Int} {d n k q K : Nat} {Q : Int → ms_S → Prop} {x y f p : Int}
theorem mkT.le (h : mkT s b n K) : K ≤ n ∧ n ≤ 2000 := ⟨h.1.le, h.2.1⟩
theorem mkT.fr (h : mkT s b n K) (e : ∀ (q : Nat) (j : Int), (q = 2 ∨ q = 14 ∨ q = 15 ∨ q = 16 ∨ q = 17) → s' q j = s q j) : mkT s' b n K := by
  obtain ⟨h1, h2, h3, h4⟩ := h
  refine ⟨h1, h2, fun i hi => by rw [e 2 _ (by omega)]; exact h3 i hi, fun k hk => ?_⟩
  rw [e 14 _ (by omega), e 15 _ (by omega), e 16 _ (by omega), e 17 _ (by omega)]
  exact h4 k hk
theorem mkT_of {M : Nat} (hM : tkM s b n M) (hp : tk_p b n M = n) (h14 : s 14 M = 0) (h15 : s 15 M = n) (h16 : s 16 M = 0) (hK : tk_K b n K) (h2 : n ≤ 2000) (hB : ∀ i : Nat, i < n → s 2 i = b i) : mkT s b n K := by
  have hKM : K ≤ M := by
    by_cases c : K ≤ M
    · exact c
    · have := (hK.1 M (by omega)).1
      exact absurd (tk_s0.mpr hp) this
  refine ⟨hK, h2, hB, fun k hk => ?_⟩
  rw [tk_w_len]
  by_cases c : k = M
  · subst c
    have e0 := tk_s0.mpr hp
    have ee : tk_e b n k = n := by unfold tk_e; rw [hp, lx_tok_end (Nat.le_refl n)]
    rw [h14, h15, h16, e0, hp, ee]
    exact ⟨rfl, rfl, by omega, fun q => absurd q (by omega)⟩
  · obtain ⟨g1, g2, g3, g4, -⟩ := hM k (by omega)
    exact ⟨g1, g2, g3, fun _ => g4⟩
theorem m_fl_f {q : Nat} {j : Int} (h : q ≠ 19) (h2 : q ≠ 20) (h3 : q ≠ 21) : m_fl s f p q j = s q j := by
  unfold m_fl
  rw [ms_u_f _ _ _ h2, ms_u_f _ _ _ h, ms_u_f _ _ _ h3]
theorem m_fl_MF (h0 : 0 ≤ s 18 0) (h1 : s 18 0 ≤ 2000) : MF (m_fl s f p) f p := by
  refine ⟨?_, ?_, ?_, ?_, ?_⟩
  · unfold m_fl; rw [ms_u_f _ _ _ (by omega), ms_u_f _ _ _ (by omega), ms_u_eq]
  · unfold m_fl; rw [ms_u_f _ _ _ (by omega), ms_u_eq]
  · unfold m_fl; rw [ms_u_eq]
  · rw [m_fl_f (by omega) (by omega) (by omega)]; exact h0
  · rw [m_fl_f (by omega) (by omega) (by omega)]; exact h1
theorem k_mtell (hg : s 21 0 = 1) (kk : Q 0 (m_fl s f p)) : md_tell d f p s Q := w200_e ⟨fun c => absurd (hg.symm.trans c) (by decide), fun _ s1 e1 s2 e2 s3 e3 => w200_1 (by rw [e3, e2, e1]; exact kk)⟩
theorem k_mtell0 (hg : s 21 0 = 0) (kk : Q 0 s) : md_tell d f p s Q := w200_e ⟨fun _ => w200_1 kk, fun c => absurd hg c⟩
theorem k_mwrong (h : mkT s b n K) (ha : s 18 0 = k) (hk : k ≤ K) (hg : s 21 0 = 1) (kk : Q 0 (m_fl s 1 (tk_p b n k))) : md_wrong (d + 1) s Q := by
  have hl := h.le
  refine w199_e ⟨by omega, by omega, ?_⟩
  rw [ha, (h.2.2.2 k hk).2.1]
  exact k_mtell hg kk
theorem k_mwrong0 (h : MF s f p) (kk : Q 0 s) : md_wrong (d + 1) s Q := w199_e ⟨h.2.2.2.1, by have := h.2.2.2.2; omega, k_mtell0 h.1 kk⟩
theorem k_mText (h : mkT s b n K) (hk : k ≤ K) (hy : st_is y) (h1 : tk_w b n k = st_str y → Q 1 s) (h0 : tk_w b n k ≠ st_str y → Q 0 s) : md_isText (d + 1) k y s Q := by
  have hl := h.le
  obtain ⟨-, e2, e3, -⟩ := h.2.2.2 k hk
  have pk := tk_pe b n k
  have lk := tk_w_len b n k
  refine w195_e ⟨by omega, by omega, hy, fun w => ?_, fun w => h0 (fun e => w (by rw [e3, e]; rfl))⟩
  rw [e3, st_len_str] at w
  have loop : ∀ (r i : Nat), i + r = (tk_w b n k).length → (∀ j < i, (tk_w b n k).getD j 0 = (st_str y).getD j 0) → mw (d + 1) 195 (am_blk 195 2) [159, k, y, i] [] s Q := by
    intro r
    induction r with
    | zero =>
      intro i hi hall
      refine w195_2 ⟨by omega, by omega, fun _ => h1 (l_eq_getD (by omega) (fun j hj => hall j (by omega))), fun w => absurd (by rw [e3]; omega) w⟩
    | succ r ih =>
      intro i hi hall
      have ew1 : am_w (s 15 k + (i : Int)) = ((tk_p b n k + i : Nat) : Int) := by rw [e2, am_w_in (by omega) (by omega)]; omega
      refine w195_2 ⟨by omega, by omega, fun w => absurd w (by rw [e3]; omega), fun _ => ⟨by omega, by omega, ?_⟩⟩
      rw [ew1, h.2.2.1 _ (by omega), st_at_str]
      have g1 : (tk_w b n k).getD i 0 = b ((tk_p b n k + i : Nat) : Int) := tk_tx_get (by omega)
      refine ⟨by omega, by omega, hy, by omega, by rw [st_len_str]; omega, fun w2 => ?_, fun w2 => h0 (fun e => w2 ?_)⟩
      · rw [am_w_s (by omega)]
        refine ih (i + 1) (by omega) (fun j hj => ?_)
        by_cases cj : j = i
        · rw [cj, g1]; exact w2
        · exact hall j (by omega)
      · rw [← g1, e]
  exact loop (tk_w b n k).length 0 (Nat.zero_add _) (fun j hj => absurd hj (by omega))
theorem k_mSame (h : mkT s b n K) (hk : k ≤ K) (hq : q ≤ K) (h1 : tk_w b n k = tk_w b n q → Q 1 s) (h0 : tk_w b n k ≠ tk_w b n q → Q 0 s) : md_isSame d k q s Q := by
  have hl := h.le
  obtain ⟨-, e2, e3, -⟩ := h.2.2.2 k hk
  obtain ⟨-, f2, f3, -⟩ := h.2.2.2 q hq
  have pk := tk_pe b n k
  have lk := tk_w_len b n k
  have pq := tk_pe b n q
  have lq := tk_w_len b n q
  refine w224_e ⟨by omega, by omega, by omega, by omega, fun w => ?_, fun w => h0 (fun e => w (by rw [e3, f3, e]))⟩
  rw [e3, f3] at w
  have loop : ∀ (r i : Nat), i + r = (tk_w b n k).length → (∀ j < i, (tk_w b n k).getD j 0 = (tk_w b n q).getD j 0) → mw d 224 (am_blk 224 2) [159, k, q, i] [] s Q := by
    intro r
    induction r with
    | zero =>
      intro i hi hall
      refine w224_2 ⟨by omega, by omega, fun _ => h1 (l_eq_getD (by omega) (fun j hj => hall j (by omega))), fun w => absurd (by rw [e3]; omega) w⟩
    | succ r ih =>
      intro i hi hall
      have ew1 : am_w (s 15 k + (i : Int)) = ((tk_p b n k + i : Nat) : Int) := by rw [e2, am_w_in (by omega) (by omega)]; omega
      have ew2 : am_w (s 15 q + (i : Int)) = ((tk_p b n q + i : Nat) : Int) := by rw [f2, am_w_in (by omega) (by omega)]; omega
      refine w224_2 ⟨by omega, by omega, fun w => absurd w (by rw [e3]; omega), fun _ => ⟨by omega, by omega, ?_⟩⟩
      rw [ew1, ew2, h.2.2.1 _ (by omega), h.2.2.1 _ (by omega)]
      have g1 : (tk_w b n k).getD i 0 = b ((tk_p b n k + i : Nat) : Int) := tk_tx_get (by omega)
      have g2 : (tk_w b n q).getD i 0 = b ((tk_p b n q + i : Nat) : Int) := tk_tx_get (by omega)
      refine ⟨by omega, by omega, by omega, by omega, by omega, by omega, fun w2 => ?_, fun w2 => h0 (fun e => w2 ?_)⟩
      · rw [am_w_s (by omega)]
        refine ih (i + 1) (by omega) (fun j hj => ?_)
        by_cases cj : j = i
        · rw [cj, g1, g2]; exact w2
        · exact hall j (by omega)
      · rw [← g1, ← g2, e]
  exact loop (tk_w b n k).length 0 (Nat.zero_add _) (fun j hj => absurd hj (by omega))
theorem k_mTaken (h : mkT s b n K) (hk : k ≤ K) (hs : tk_s b n k = 1) (h1 : tkn (tk_w b n k) → Q 1 s) (h0 : ¬ tkn (tk_w b n k) → Q 0 s) : md_isTaken (d + 1) k s Q := by
  have hl := h.le
  obtain ⟨-, e2, e3, -⟩ := h.2.2.2 k hk
  have pk := tk_pe b n k
  have lk := tk_w_len b n k
  have h12 : (tk_w b n k).length ≤ 12 := by
    rcases tk_form (b := b) (n := n) (k := k) with g | ⟨hp, g | g | g | g⟩
    · omega
    · rw [lk]; exact g.2.2 hs
    · omega
    · omega
    · rcases g with g | ⟨g1, g2⟩
      · omega
      · rw [g2]; simp
  have hst : st_is (-148) := by unfold st_is; omega
  have hlen : st_len (-148) = 204 := by rw [st_len_str, st_148, st_12]; rfl
  have get : ∀ i, i < (tk_w b n k).length → (tk_w b n k).getD i 0 = b ((tk_p b n k + i : Nat) : Int) := fun i hi => tk_tx_get (by omega)
  refine w202_e ⟨by omega, by omega, ?_⟩
  rw [e3]
  generalize hm : (tk_w b n k).length = m at *
  have main : ∀ (r j : Nat) (x4 x5 : Int), j + r = 204 → (∀ i : Nat, i < j → ¬ (i + m + 1 < 204 ∧ (st_str (-12)).getD i 0 = 32 ∧ (st_str (-12)).getD (i + m + 1) 0 = 32 ∧ ∀ z, z < m → (st_str (-12)).getD (i + 1 + z) 0 = (tk_w b n k).getD z 0)) → mw (d + 1) 202 (am_blk 202 1) [159, k, m, j, x4, x5] [] s Q := by
    intro r
    induction r with
    | zero =>
      intro j x4 x5 hj hno
      refine w202_1 ⟨hst, fun _ => h0 ?_, fun c1 => absurd (by rw [hlen, am_w_in (x := (j : Int) + m) (by omega) (by omega), am_w_in (by omega) (by omega)]; omega) c1⟩
      rintro ⟨i, j1, j2, j3, j4⟩
      rw [hm] at j1 j3 j4
      exact hno i (by omega) ⟨j1, j2, j3, j4⟩
    | succ r ih =>
      intro j x4 x5 hj hno
      have ew : am_w (am_w ((j : Int) + m) + 1) = ((j + m + 1 : Nat) : Int) := by rw [am_w_in (x := (j : Int) + m) (by omega) (by omega), am_w_in (by omega) (by omega)]; omega
      by_cases cend : 204 ≤ j + m + 1
      · refine w202_1 ⟨hst, fun _ => h0 ?_, fun c1 => absurd (by rw [hlen, ew]; omega) c1⟩
        rintro ⟨i, j1, j2, j3, j4⟩
        rw [hm] at j1 j3 j4
        exact hno i (by omega) ⟨j1, j2, j3, j4⟩
      have next : ∀ (x4 x5 : Int), ¬ (j + m + 1 < 204 ∧ (st_str (-12)).getD j 0 = 32 ∧ (st_str (-12)).getD (j + m + 1) 0 = 32 ∧ ∀ z, z < m → (st_str (-12)).getD (j + 1 + z) 0 = (tk_w b n k).getD z 0) → mw (d + 1) 202 (am_blk 202 6) [159, k, m, j, x4, x5] [] s Q := by
        intro x4 x5 hn
        refine w202_6 ?_
        rw [am_w_s (by omega)]
        refine ih (j + 1) _ _ (by omega) (fun i hi => ?_)
        by_cases cj : i = j
        · rw [cj]; exact hn
        · exact hno i (by omega)
      refine w202_1 ⟨hst, fun c1 => absurd c1 (by rw [hlen, ew]; omega), fun _ => ⟨hst, by omega, by rw [hlen]; omega, ?_⟩⟩
      rw [ew, st_at_str, st_at_str, st_148, hlen]
      refine ⟨fun c1 => next _ _ (fun h => c1 h.2.1), fun c1 => ⟨hst, by omega, by omega, fun c2 => next _ _ (fun h => c2 h.2.2.1), fun c2 => ?_⟩⟩
      have q1 := Classical.not_not.mp c1
      have q2 := Classical.not_not.mp c2
      have inner : ∀ (r i : Nat), i + r = m → (∀ i', i' < i → (st_str (-12)).getD (j + 1 + i') 0 = (tk_w b n k).getD i' 0) → mw (d + 1) 202 (am_blk 202 2) [159, k, m, j, 1, i] [] s Q := by
        intro r
        induction r with
        | zero =>
          intro i hi hall
          refine w202_2 ⟨fun _ => w202_5 ⟨fun c3 => absurd c3 (by omega), fun _ => h1 ?_⟩, fun c3 => absurd (by omega) c3⟩
          exact ⟨j, by rw [hm]; omega, q1, by rw [hm]; exact q2, fun i' hi' => hall i' (by omega)⟩
        | succ r ihr =>
          intro i hi hall
          have ew1 : am_w (am_w ((j : Int) + 1) + i) = ((j + 1 + i : Nat) : Int) := by rw [am_w_s (by omega), am_w_in (by omega) (by omega)]; omega
          have ew2 : am_w (s 15 k + (i : Int)) = ((tk_p b n k + i : Nat) : Int) := by rw [e2, am_w_in (by omega) (by omega)]; omega
          refine w202_2 ⟨fun c3 => absurd c3 (by omega), fun _ => ⟨fun c3 => absurd c3 (by omega), fun _ => ⟨by omega, by omega, ?_⟩⟩⟩
          rw [ew2, ew1, h.2.2.1 _ (by omega), st_at_str, st_148, hlen, ← get i (by omega)]
          refine ⟨by omega, by omega, hst, by omega, by omega, fun c3 => w202_4 ?_, fun c3 => w202_4 ?_⟩
          · rw [am_w_s (by omega)]
            have nn := next 0 ((i + 1 : Nat) : Int) (fun h => c3 (h.2.2.2 i (by omega)).symm)
            exact w202_2 ⟨fun _ => w202_5 ⟨fun _ => nn, fun c4 => absurd rfl c4⟩, fun _ => ⟨fun _ => w202_5 ⟨fun _ => nn, fun c4 => absurd rfl c4⟩, fun c4 => absurd rfl c4⟩⟩
          · rw [am_w_s (by omega)]
            refine ihr (i + 1) (by omega) (fun i' hi' => ?_)
            by_cases ci : i' = i
            · rw [ci]; exact (Classical.not_not.mp c3).symm
            · exact hall i' (by omega)
      exact inner m 0 (by omega) (fun i' hi' => absurd hi' (by omega))
  exact main 204 0 _ _ (by omega) (fun i hi => absurd hi (by omega))
theorem k_misName (h : mkT s b n K) (ha : s 18 0 = k) (hk : k ≤ K) (hg : s 21 0 = 1) (h1 : tk_nm b n k → Q 1 s) (h0 : ¬ tk_nm b n k → Q 0 s) : md_isName (d + 2) s Q := by
  have hl := h.le
  have e1 := (h.2.2.2 k hk).1
  refine w219_e ⟨fun c => absurd (hg.symm.trans c) (by decide), fun _ => ⟨by omega, by omega, ?_⟩⟩
  rw [ha, e1]
  refine ⟨fun c => w219_1 (w219_2 (h0 (fun q => c q.1))), fun c => k_mTaken h hk (Classical.not_not.mp c) (fun ht => ⟨fun _ => w219_1 (w219_2 (h0 (fun q => q.2 ht))), fun c => absurd (by omega : (1 : Int) ≠ 0) c⟩) (fun ht => ⟨fun c => absurd rfl c, fun _ => w219_2 (h1 ⟨Classical.not_not.mp c, ht⟩)⟩)⟩
theorem k_misName0 (hg : s 21 0 = 0) (kk : Q 0 s) : md_isName (d + 2) s Q := w219_e ⟨fun _ => w219_1 (w219_2 kk), fun c => absurd hg c⟩
theorem k_misWord (h : mkT s b n K) (ha : s 18 0 = k) (hk : k ≤ K) (hg : s 21 0 = 1) (hy : st_is y) (h1 : tk_s b n k = 1 ∧ tk_w b n k = st_str y → Q 1 s) (h0 : ¬ (tk_s b n k = 1 ∧ tk_w b n k = st_str y) → Q 0 s) : md_isWord (d + 2) y s Q := by
  have hl := h.le
  have e1 := (h.2.2.2 k hk).1
  refine w194_e ⟨fun c => absurd (hg.symm.trans c) (by decide), fun _ => ⟨by omega, by omega, ?_⟩⟩
  rw [ha, e1]
  refine ⟨fun c => w194_1 (w194_2 (h0 (fun q => c q.1))), fun c => k_mText h hk hy (fun ht => ⟨fun c => absurd c (by omega), fun _ => w194_2 (h1 ⟨Classical.not_not.mp c, ht⟩)⟩) (fun ht => ⟨fun _ => w194_1 (w194_2 (h0 (fun q => ht q.2))), fun c => absurd rfl c⟩)⟩
theorem k_misWord0 (hg : s 21 0 = 0) (kk : Q 0 s) : md_isWord (d + 2) y s Q := w194_e ⟨fun _ => w194_1 (w194_2 kk), fun c => absurd hg c⟩
theorem k_misSign (h : mkT s b n K) (ha : s 18 0 = k) (hk : k ≤ K) (hg : s 21 0 = 1) (h1 : tk_s b n k = x → Q 1 s) (h0 : tk_s b n k ≠ x → Q 0 s) : md_isSign d x s Q := by
  have hl := h.le
  have e1 := (h.2.2.2 k hk).1
  refine w210_e ⟨fun c => absurd (hg.symm.trans c) (by decide), fun _ => ⟨by omega, by omega, ?_⟩⟩
  rw [ha, e1]
  exact ⟨fun c => w210_1 (w210_2 (h0 c)), fun c => w210_2 (h1 (Classical.not_not.mp c))⟩
theorem k_misSign0 (hg : s 21 0 = 0) (kk : Q 0 s) : md_isSign d x s Q := w210_e ⟨fun _ => w210_1 (w210_2 kk), fun c => absurd hg c⟩
theorem k_mtakeWord (h : mkT s b n K) (ha : s 18 0 = k) (hk : k ≤ K) (hg : s 21 0 = 1) (hy : st_is y) (h1 : tk_s b n k = 1 ∧ tk_w b n k = st_str y → Q 1 (ms_u s 18 0 ((k + 1 : Nat) : Int))) (h0 : ¬ (tk_s b n k = 1 ∧ tk_w b n k = st_str y) → Q 0 s) : md_takeWord (d + 3) y s Q := by
  have hl := h.le
  refine w193_e (k_misWord h ha hk hg hy (fun q => ⟨fun c => absurd c (by omega), fun _ => w193_2 (fun s1 e1 => ?_)⟩) (fun q => ⟨fun _ => w193_2 (fun s1 e1 => ?_), fun c => absurd rfl c⟩))
  · rw [ha, am_w_s (by omega)] at e1
    rw [e1]; exact h1 q
  · rw [ha, am_w_in (by omega) (by omega), Int.add_zero, ms_u_id ha] at e1
    rw [e1]; exact h0 q
theorem k_mtakeWord0 (h : MF s f p) (kk : Q 0 s) : md_takeWord (d + 3) y s Q := by
  refine w193_e (k_misWord0 h.1 ⟨fun _ => w193_2 (fun s1 e1 => ?_), fun c => absurd rfl c⟩)
  have := h.2.2.2
  rw [am_w_in (by omega) (by omega), Int.add_zero, ms_u_id rfl] at e1
  rw [e1]; exact kk
theorem k_mtakeSign (h : mkT s b n K) (ha : s 18 0 = k) (hk : k ≤ K) (hg : s 21 0 = 1) (h1 : tk_s b n k = x → Q 1 (ms_u s 18 0 ((k + 1 : Nat) : Int))) (h0 : tk_s b n k ≠ x → Q 0 s) : md_takeSign (d + 1) x s Q := by
  have hl := h.le
  refine w215_e (k_misSign h ha hk hg (fun q => ⟨fun c => absurd c (by omega), fun _ => w215_2 (fun s1 e1 => ?_)⟩) (fun q => ⟨fun _ => w215_2 (fun s1 e1 => ?_), fun c => absurd rfl c⟩))
  · rw [ha, am_w_s (by omega)] at e1
    rw [e1]; exact h1 q
  · rw [ha, am_w_in (by omega) (by omega), Int.add_zero, ms_u_id ha] at e1
    rw [e1]; exact h0 q
theorem k_mtakeSign0 (h : MF s f p) (kk : Q 0 s) : md_takeSign (d + 1) x s Q := by
  refine w215_e (k_misSign0 h.1 ⟨fun _ => w215_2 (fun s1 e1 => ?_), fun c => absurd rfl c⟩)
  have := h.2.2.2
  rw [am_w_in (by omega) (by omega), Int.add_zero, ms_u_id rfl] at e1
  rw [e1]; exact kk
theorem k_mneedWord (h : mkT s b n K) (ha : s 18 0 = k) (hk : k ≤ K) (hg : s 21 0 = 1) (hy : st_is y) (h1 : tk_s b n k = 1 ∧ tk_w b n k = st_str y → Q 0 (ms_u s 18 0 ((k + 1 : Nat) : Int))) (h0 : ¬ (tk_s b n k = 1 ∧ tk_w b n k = st_str y) → Q 0 (m_fl s 1 (tk_p b n k))) : md_needWord (d + 4) y s Q :=
  w198_e (k_mtakeWord h ha hk hg hy (fun q => ⟨fun _ => w198_1 (h1 q), fun c => absurd (by omega : (1 : Int) ≠ 0) c⟩) (fun q => ⟨fun c => absurd rfl c, fun _ => k_mwrong h ha hk hg (w198_1 (h0 q))⟩))
theorem k_mneedWord0 (h : MF s f p) (kk : Q 0 s) : md_needWord (d + 4) y s Q :=
  w198_e (k_mtakeWord0 h ⟨fun c => absurd rfl c, fun _ => k_mwrong0 h (w198_1 kk)⟩)
theorem k_mneedSign (h : mkT s b n K) (ha : s 18 0 = k) (hk : k ≤ K) (hg : s 21 0 = 1) (h1 : tk_s b n k = x → Q 0 (ms_u s 18 0 ((k + 1 : Nat) : Int))) (h0 : tk_s b n k ≠ x → Q 0 (m_fl s 1 (tk_p b n k))) : md_needSign (d + 2) x s Q :=
  w214_e (k_mtakeSign h ha hk hg (fun q => ⟨fun _ => w214_1 (h1 q), fun c => absurd (by omega : (1 : Int) ≠ 0) c⟩) (fun q => ⟨fun c => absurd rfl c, fun _ => k_mwrong h ha hk hg (w214_1 (h0 q))⟩))
theorem k_mneedSign0 (h : MF s f p) (kk : Q 0 s) : md_needSign (d + 2) x s Q :=
  w214_e (k_mtakeSign0 h ⟨fun c => absurd rfl c, fun _ => k_mwrong0 h (w214_1 kk)⟩)
theorem k_mname (h : mkT s b n K) (ha : s 18 0 = k) (hk : k ≤ K) (hg : s 21 0 = 1) (h1 : tk_nm b n k → Q (k : Int) (ms_u s 18 0 ((k + 1 : Nat) : Int))) (h0 : ¬ tk_nm b n k → Q (k : Int) (m_fl s 1 (tk_p b n k))) : md_name (d + 3) s Q := by
  have hl := h.le
  refine w218_e (k_misName h ha hk hg (fun q => ⟨fun _ s1 e1 => ?_, fun c => absurd (by omega : (1 : Int) ≠ 0) c⟩) (fun q => ⟨fun c => absurd rfl c, fun _ => k_mwrong h ha hk hg ?_⟩))
  · rw [ha, am_w_s (by omega)] at e1
    have e2 : s1 18 0 = ((k + 1 : Nat) : Int) := by rw [e1, ms_u_eq]
    rw [e2, am_w_in (by omega) (by omega), show ((k + 1 : Nat) : Int) - 1 = k by omega, e1]
    exact h1 q
  · rw [m_fl_f (by omega) (by omega) (by omega), ha]
    exact h0 q
theorem k_mname0 (h : MF s f p) (kk : ∀ v, Q v s) : md_name (d + 3) s Q :=
  w218_e (k_misName0 h.1 ⟨fun c => absurd rfl c, fun _ => k_mwrong0 h (kk _)⟩)
end
