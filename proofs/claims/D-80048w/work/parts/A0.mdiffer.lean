set_option maxRecDepth 100000
/-! the model: what changes -/
def mCh (s : ms_S) (n : Nat) (K : List (rwt × Int)) : Prop := s 110 0 = K.length ∧ ra s 112 113 n (K.map (·.1)) ∧ ∀ (i : Nat) (e : rwt × Int), K[i]? = some e → s 111 i = e.2
def m_ch (s s1 : ms_S) : Prop := ∀ (q : Nat) (j : Int), q < 110 ∨ 113 < q → s1 q j = s q j
section
variable {s s1 s2 s3 : ms_S} {d n w : Nat} {Q : Int → ms_S → Prop} {A B L : List rwt} {l m : rwt} {r : Int} {K : List (rwt × Int)}
theorem m_ch.rf (s : ms_S) : m_ch s s := fun _ _ _ => rfl
theorem m_ch.tr (h1 : m_ch s s1) (h2 : m_ch s1 s2) : m_ch s s2 := fun q j h => (h2 q j h).trans (h1 q j h)
theorem m_ch.u (s : ms_S) {q : Nat} (i v : Int) (h : 110 ≤ q) (h2 : q ≤ 113) : m_ch s (ms_u s q i v) := fun p j hp => ms_u_f i v j (by omega)
theorem rn_drop (x : rwt) : ∀ (A : List rwt) (i p : Nat), (∀ k, k < p → A[i + k]? = some x) → A[i + p]? ≠ some x → rn x (A.drop i) = p ∧ (A.drop i).drop p = A.drop (i + p) := by
  intro A i p h1 h2
  refine ⟨?_, by rw [List.drop_drop]⟩
  induction p generalizing i with
  | zero =>
    cases hd : A.drop i with
    | nil => rfl
    | cons y M =>
      have : A[i]? = some y := by
        have h := List.getElem?_drop (xs := A) (i := i) (j := 0)
        rw [hd] at h
        simpa using h.symm
      have hne : y ≠ x := fun e => h2 (by rw [Nat.add_zero, this, e])
      simp [rn, hne]
  | succ p ih =>
    have h0 := h1 0 (by omega)
    rw [Nat.add_zero] at h0
    have hlt := (List.getElem?_eq_some_iff.mp h0).1
    rw [List.drop_eq_getElem_cons hlt]
    have e0 : A[i] = x := by rw [List.getElem?_eq_getElem hlt] at h0; cases h0; rfl
    rw [e0]
    have := ih (i + 1) (fun k hk => by have := h1 (k + 1) (by omega); rw [show i + 1 + k = i + (k + 1) by omega]; exact this) (by rw [show i + 1 + p = i + (p + 1) by omega]; exact h2)
    simp only [rn, if_true]
    rw [this]
theorem k_differ {more : Int} (hmore : more = 0 ∨ more = 1) (h101 : s 101 0 = n) (hn : n ≤ 8) (hA : ra s 108 109 n A) (hB : ra s 105 106 n B) (h107 : s 107 0 = A.length) (h104 : s 104 0 = B.length) (hA6 : A.length ≤ 600) (hB6 : B.length ≤ 600) (hA4 : A.length * n ≤ 4800) (hB4 : B.length * n ≤ 4800) (hAs : o_sd r_cmp A) (hBs : o_sd r_cmp B) (hK : mCh s n K) (hKl : K.length + ((mg (A.length + B.length) A B).filter (fun e => decide (if more = 0 then e.2 < 0 else 0 < e.2))).length ≤ 1300) (hd : 8 ≤ d) (kk : ∀ s', m_ch s s' → mCh s' n (K ++ (mg (A.length + B.length) A B).filter (fun e => decide (if more = 0 then e.2 < 0 else 0 < e.2))) → Q 0 s') : md_differ (d + 1) more s Q := by
  obtain ⟨d, rfl⟩ : ∃ d', d = d' + 1 := ⟨d - 1, by omega⟩
  have rlA : ∀ (i : Nat) (l : rwt), A[i]? = some l → l.length = n := fun i l h => (hA i l h).1
  have rlB : ∀ (i : Nat) (l : rwt), B[i]? = some l → l.length = n := fun i l h => (hB i l h).1
  -- the changes so far
  let ok : rwt × Int → Bool := fun e => decide (if more = 0 then e.2 < 0 else 0 < e.2)
  have fin : ∀ (s1 : ms_S) (K1 : List (rwt × Int)) (e : rwt × Int) (i j : Nat) (c fo fw : Int) (x8 x9 : Int), m_ch s s1 → mCh s1 n K1 → (ok e = true → K1.length < 1300) → e.1.length = n → ((fo = -1 ∧ ∃ p : Nat, fw = p ∧ B[p]? = some e.1) ∨ (∃ p : Nat, fo = p ∧ A[p]? = some e.1)) → (∀ s2 x8 x9, m_ch s s2 → mCh s2 n (K1 ++ [e].filter ok) → mw (d + 2) 183 (am_blk 183 24) [159, more, i, j, c, e.2, fo, fw, x8, x9] [] s2 Q) → mw (d + 2) 183 (am_blk 183 15) [159, more, i, j, c, e.2, fo, fw, x8, x9] [] s1 Q := by
    intro s1 K1 e i j c fo fw x8 x9 hm hK1 hl1 hel hfrom knext
    have write : ok e = true → ∀ x8, mw (d + 2) 183 (am_blk 183 17) [159, more, i, j, c, e.2, fo, fw, x8, x9] [] s1 Q := by
      intro hok x8
      have hl1 := hl1 hok
      have hf : [e].filter ok = [e] := by rw [List.filter_cons, if_pos hok]; rfl
      rw [hf] at knext
      obtain ⟨c0, c1, c2⟩ := hK1
      refine w183_17 ⟨by omega, by omega, fun s2 e2 => ?_⟩
      have m2 : m_ch s s2 := hm.tr (by rw [e2]; exact m_ch.u _ _ _ (by omega) (by omega))
      have loop : ∀ (p k : Nat) (s3 : ms_S) (x9 : Int), k + p = n → m_ch s s3 → s3 110 0 = K1.length → (∀ (i : Nat) (e' : rwt × Int), (K1 ++ [e])[i]? = some e' → s3 111 i = e'.2) → ra s3 112 113 n (K1.map (·.1)) → (∀ k', k' < k → s3 112 (((n * K1.length + k' : Nat)) : Int) = rw_ov (e.1.getD k' none) ∧ s3 113 (((n * K1.length + k' : Nat)) : Int) = x_nl (e.1.getD k' none)) → mw (d + 2) 183 (am_blk 183 18) [159, more, i, j, c, e.2, fo, fw, k, x9] [] s3 Q := by
        intro p
        induction p with
        | zero =>
          intro k s3 x9 hk m3 cc cb cr cw
          have ek : k = n := by omega
          refine w183_18 ⟨fun _ s4 e4 => knext s4 _ _ (m3.tr (by rw [e4]; exact m_ch.u _ _ _ (by omega) (by omega))) ⟨?_, ?_, ?_⟩, fun w => absurd (by rw [m3 _ _ (by omega)]; omega) w⟩
          · rw [e4, ms_u_eq, cc, am_w_in (by omega) (by omega), List.length_append]; rfl
          · intro i' l hl
            rw [List.map_append, List.getElem?_append] at hl
            have f1 : ∀ j, s4 112 j = s3 112 j := fun j => by rw [e4, ms_u_f _ _ _ (by omega)]
            have f2 : ∀ j, s4 113 j = s3 113 j := fun j => by rw [e4, ms_u_f _ _ _ (by omega)]
            simp only [f1, f2]
            split at hl
            · exact cr i' l hl
            · rename_i q
              rw [List.length_map] at q hl
              have : i' = K1.length := by
                have := (List.getElem?_eq_some_iff.mp hl).1
                simp at this; omega
              subst this
              simp at hl
              subst hl
              exact ⟨hel, fun k' hk' => cw k' (by omega)⟩
          · intro i' e' he'
            rw [e4, ms_u_f _ _ _ (by omega)]
            exact cb i' e' he'
        | succ p ih =>
          intro k s3 x9 hk m3 cc cb cr cw
          have hkn : k < n := by omega
          have h101' : s3 101 0 = n := by rw [m3 _ _ (by omega)]; exact h101
          have ixt : n * K1.length + k < 10400 := by
            have : n * K1.length ≤ n * 1299 := Nat.mul_le_mul_left n (by omega)
            omega
          have e5 : am_w (am_w ((n : Int) * (K1.length : Int)) + (k : Int)) = ((n * K1.length + k : Nat) : Int) := by
            have e1 : am_w ((n : Int) * (K1.length : Int)) = ((n * K1.length : Nat) : Int) := by
              rw [← Int.natCast_mul]; exact am_w_in (by omega) (by omega)
            rw [e1, am_w_in (by omega) (by omega)]; omega
          -- behind both values
          have step : ∀ (s4 s5 : ms_S) (x9 : Int), s4 = ms_u s3 112 (((n * K1.length + k : Nat)) : Int) (rw_ov (e.1.getD k none)) → s5 = ms_u s4 113 (((n * K1.length + k : Nat)) : Int) (x_nl (e.1.getD k none)) → mw (d + 2) 183 (am_blk 183 18) [159, more, i, j, c, e.2, fo, fw, am_w ((k : Int) + 1), x9] [] s5 Q := by
            intro s4 s5 x9 e6 e7
            rw [am_w_s (by omega)]
            have f1 : ∀ j, j ≠ (((n * K1.length + k : Nat)) : Int) → s5 112 j = s3 112 j ∧ s5 113 j = s3 113 j := fun j hj => ⟨by rw [e7, ms_u_f _ _ _ (by omega), e6, ms_u_i _ hj], by rw [e7, ms_u_i _ hj, e6, ms_u_f _ _ _ (by omega)]⟩
            refine ih (k + 1) s5 _ (by omega) (m3.tr (by rw [e7, e6]; exact (m_ch.u _ _ _ (by omega) (by omega)).tr (m_ch.u _ _ _ (by omega) (by omega)))) (by rw [e7, ms_u_f _ _ _ (by omega), e6, ms_u_f _ _ _ (by omega)]; exact cc) (fun i' e' he' => by rw [e7, ms_u_f _ _ _ (by omega), e6, ms_u_f _ _ _ (by omega)]; exact cb i' e' he') ?_ ?_
            · intro i' l hl
              obtain ⟨q1, q2⟩ := cr i' l hl
              refine ⟨q1, fun k' hk' => ?_⟩
              have hi' : i' < K1.length := by have := (List.getElem?_eq_some_iff.mp hl).1; rw [List.length_map] at this; exact this
              have : n * (i' + 1) ≤ n * K1.length := Nat.mul_le_mul_left n (by omega)
              rw [Nat.mul_add, Nat.mul_one] at this
              obtain ⟨g1, g2⟩ := f1 (((n * i' + k' : Nat)) : Int) (by omega)
              rw [g1, g2]
              exact q2 k' hk'
            · intro k' hk'
              by_cases ck : k' = k
              · subst ck
                refine ⟨by rw [e7, ms_u_f _ _ _ (by omega), e6, ms_u_eq], by rw [e7, ms_u_eq]⟩
              · obtain ⟨g1, g2⟩ := f1 (((n * K1.length + k' : Nat)) : Int) (by omega)
                rw [g1, g2]
                exact cw k' (by omega)
          refine w183_18 ⟨fun w => absurd w (by omega), fun _ => ?_⟩
          rw [h101', cc, e5]
          rcases hfrom with ⟨hfo, p', hfw, hB'⟩ | ⟨p', hfo, hA'⟩
          · obtain ⟨-, hv⟩ := hB p' e.1 hB'
            obtain ⟨v1, v2⟩ := hv k hkn
            have hpB := (List.getElem?_eq_some_iff.mp hB').1
            have ix := ra_ix hpB hkn hB4
            refine ⟨fun _ => ?_, fun q => absurd hfo q⟩
            rw [hfw, am_w_m hpB hkn hB4]
            refine ⟨by omega, by omega, w183_20 ⟨by omega, by omega, fun s4 e6 => ⟨fun _ => ?_, fun q => absurd hfo q⟩⟩⟩
            have h101'' : s4 101 0 = n := by rw [e6, ms_u_f _ _ _ (by omega)]; exact h101'
            rw [h101'', am_w_m hpB hkn hB4]
            refine ⟨by omega, by omega, w183_22 ⟨by omega, by omega, fun s5 e7 => ?_⟩⟩
            have g1 : s3 105 (((n * p' + k : Nat)) : Int) = rw_ov (e.1.getD k none) := by rw [m3 _ _ (by omega)]; exact v1
            have g2 : s4 106 (((n * p' + k : Nat)) : Int) = x_nl (e.1.getD k none) := by rw [e6, ms_u_f _ _ _ (by omega), m3 _ _ (by omega)]; exact v2
            rw [g1] at e6
            rw [g2, am_i2b_nl] at e7
            rw [← hfw]
            exact step s4 s5 _ e6 e7
          · obtain ⟨-, hv⟩ := hA p' e.1 hA'
            obtain ⟨v1, v2⟩ := hv k hkn
            have hpA := (List.getElem?_eq_some_iff.mp hA').1
            have ix := ra_ix hpA hkn hA4
            refine ⟨fun q => absurd q (by omega), fun _ => ?_⟩
            rw [hfo, am_w_m hpA hkn hA4]
            refine ⟨by omega, by omega, w183_20 ⟨by omega, by omega, fun s4 e6 => ⟨fun q => absurd q (by omega), fun _ => ?_⟩⟩⟩
            have h101'' : s4 101 0 = n := by rw [e6, ms_u_f _ _ _ (by omega)]; exact h101'
            rw [h101'', am_w_m hpA hkn hA4]
            refine ⟨by omega, by omega, w183_22 ⟨by omega, by omega, fun s5 e7 => ?_⟩⟩
            have g1 : s3 108 (((n * p' + k : Nat)) : Int) = rw_ov (e.1.getD k none) := by rw [m3 _ _ (by omega)]; exact v1
            have g2 : s4 109 (((n * p' + k : Nat)) : Int) = x_nl (e.1.getD k none) := by rw [e6, ms_u_f _ _ _ (by omega), m3 _ _ (by omega)]; exact v2
            rw [g1] at e6
            rw [g2, am_i2b_nl] at e7
            rw [← hfo]
            exact step s4 s5 _ e6 e7
      refine loop n 0 s2 _ (by omega) m2 (by rw [e2, ms_u_f _ _ _ (by omega)]; exact c0) (fun i' e' he' => ?_) (c1.fr (fun j => by rw [e2, ms_u_f _ _ _ (by omega)]) (fun j => by rw [e2, ms_u_f _ _ _ (by omega)])) (fun k' hk' => absurd hk' (by omega))
      rw [List.getElem?_append] at he'
      rw [e2, c0]
      split at he'
      · rename_i q
        rw [ms_u_i _ (by omega)]
        exact c2 i' e' he'
      · rename_i q
        have : i' = K1.length := by
          have := (List.getElem?_eq_some_iff.mp he').1
          simp at this; omega
        subst this
        simp at he'
        subst he'
        exact ms_u_eq _ _ _ _
    have skip : ok e = false → ∀ x8, mw (d + 2) 183 (am_blk 183 24) [159, more, i, j, c, e.2, fo, fw, x8, x9] [] s1 Q := by
      intro hok x8
      have hf : [e].filter ok = [] := by rw [List.filter_cons, if_neg (by rw [hok]; decide)]; rfl
      rw [hf, List.append_nil] at knext
      exact knext s1 _ _ hm hK1
    refine w183_15 ⟨fun q => w183_16 ⟨fun q2 => skip ?_ _, fun q2 => ⟨fun q3 => skip ?_ _, fun q3 => write ?_ _⟩⟩, fun q => ⟨fun q2 => write ?_ _, fun q2 => w183_16 ⟨fun q3 => skip ?_ _, fun q3 => absurd (by omega) q3⟩⟩⟩
    · exact decide_eq_false (by split <;> omega)
    · exact decide_eq_false (by rw [if_neg q3]; omega)
    · exact decide_eq_true (by rw [if_pos (Classical.not_not.mp q3)]; omega)
    · exact decide_eq_true (by rw [if_neg q2]; omega)
    · exact decide_eq_false (by rw [if_pos (Classical.not_not.mp q2)]; omega)
  -- a run of the new ones
  have runB : ∀ (s1 : ms_S) (p : Nat) (i j : Nat) (b : rwt) (by0 c fo fw x8 x9 : Int), m_ch s s1 → j + p ≤ B.length → B[j]? = some b → (0 : Int) ≤ by0 + 700 → by0 ≤ 0 → ∀ q : Nat, q + p + 1 = B.length - j → (∀ k, k < q + 1 → B[j + k]? = some b) → (∀ t : Nat, (∀ k, k < t → B[j + k]? = some b) → B[j + t]? ≠ some b → 1 ≤ t → mw (d + 2) 183 (am_blk 183 15) [159, more, i, ((j + t : Nat) : Int), c, by0 + t, fo, fw, x8, x9] [] s1 Q) → mw (d + 2) 183 (am_blk 183 13) [159, more, i, ((j + q : Nat) : Int), c, by0 + ((q + 1 : Nat) : Int), fo, fw, x8, x9] [] s1 Q := by
    intro s1 p
    induction p with
    | zero =>
      intro i j b by0 c fo fw x8 x9 hm hjp hb hb0 hb1 q hq hall knext
      have hnone : B[j + q + 1]? ≠ some b := by rw [List.getElem?_eq_none (by omega)]; simp
      refine w183_13 (k_like (A := B) (fv := 105) (fn := 106) (by rw [hm _ _ (by omega)]; exact h101) hn (Or.inl ⟨rfl, rfl, rfl, by rw [hm _ _ (by omega)]; exact h104⟩) (hB.fr (fun j => hm _ _ (by omega)) (fun j => hm _ _ (by omega))) (hall q (by omega)) hB4 hB6 (by omega) ?_)
      rw [if_neg hnone]
      refine ⟨fun _ => ?_, fun c => absurd rfl c⟩
      rw [am_w_s (by omega)]
      exact knext (q + 1) hall (by rw [← Nat.add_assoc]; exact hnone) (by omega)
    | succ p ih =>
      intro i j b by0 c fo fw x8 x9 hm hjp hb hb0 hb1 q hq hall knext
      refine w183_13 (k_like (A := B) (fv := 105) (fn := 106) (by rw [hm _ _ (by omega)]; exact h101) hn (Or.inl ⟨rfl, rfl, rfl, by rw [hm _ _ (by omega)]; exact h104⟩) (hB.fr (fun j => hm _ _ (by omega)) (fun j => hm _ _ (by omega))) (hall q (by omega)) hB4 hB6 (by omega) ?_)
      by_cases c1 : B[j + q + 1]? = some b
      · rw [if_pos c1]
        refine ⟨fun c => absurd c (by decide), fun _ => ?_⟩
        rw [am_w_s (by omega), am_w_in (x := by0 + ((q + 1 : Nat) : Int) + 1) (by omega) (by omega)]
        have := ih i j b by0 c fo fw x8 x9 hm (by omega) hb hb0 hb1 (q + 1) (by omega) (fun k hk => by
          by_cases ck : k = q + 1
          · rw [ck]; exact c1
          · exact hall k (by omega)) knext
        have e1 : by0 + ((q + 1 : Nat) : Int) + 1 = by0 + ((q + 1 + 1 : Nat) : Int) := by omega
        rw [e1]
        exact this
      · rw [if_neg c1]
        refine ⟨fun _ => ?_, fun c => absurd rfl c⟩
        rw [am_w_s (by omega)]
        exact knext (q + 1) hall (by rw [← Nat.add_assoc]; exact c1) (by omega)
  have runA : ∀ (s1 : ms_S) (p : Nat) (i : Nat) (j : Int) (a : rwt) (c fo fw x8 x9 : Int), m_ch s s1 → A[i]? = some a → ∀ q : Nat, q + p + 1 = A.length - i → (∀ k, k < q + 1 → A[i + k]? = some a) → (∀ t : Nat, (∀ k, k < t → A[i + k]? = some a) → A[i + t]? ≠ some a → 1 ≤ t → mw (d + 2) 183 (am_blk 183 12) [159, more, ((i + t : Nat) : Int), j, c, -(t : Int), fo, fw, x8, x9] [] s1 Q) → mw (d + 2) 183 (am_blk 183 10) [159, more, ((i + q : Nat) : Int), j, c, -((q + 1 : Nat) : Int), fo, fw, x8, x9] [] s1 Q := by
    intro s1 p
    induction p with
    | zero =>
      intro i j a c fo fw x8 x9 hm ha q hq hall knext
      have hnone : A[i + q + 1]? ≠ some a := by rw [List.getElem?_eq_none (by omega)]; simp
      refine w183_10 (k_like (A := A) (fv := 108) (fn := 109) (by rw [hm _ _ (by omega)]; exact h101) hn (Or.inr ⟨rfl, rfl, rfl, by rw [hm _ _ (by omega)]; exact h107⟩) (hA.fr (fun j => hm _ _ (by omega)) (fun j => hm _ _ (by omega))) (hall q (by omega)) hA4 hA6 (by omega) ?_)
      rw [if_neg hnone]
      refine ⟨fun _ => ?_, fun c => absurd rfl c⟩
      rw [am_w_s (by omega)]
      exact knext (q + 1) hall (by rw [← Nat.add_assoc]; exact hnone) (by omega)
    | succ p ih =>
      intro i j a c fo fw x8 x9 hm ha q hq hall knext
      refine w183_10 (k_like (A := A) (fv := 108) (fn := 109) (by rw [hm _ _ (by omega)]; exact h101) hn (Or.inr ⟨rfl, rfl, rfl, by rw [hm _ _ (by omega)]; exact h107⟩) (hA.fr (fun j => hm _ _ (by omega)) (fun j => hm _ _ (by omega))) (hall q (by omega)) hA4 hA6 (by omega) ?_)
      by_cases c1 : A[i + q + 1]? = some a
      · rw [if_pos c1]
        refine ⟨fun c => absurd c (by decide), fun _ => ?_⟩
        rw [am_w_s (by omega), am_w_in (x := -((q + 1 : Nat) : Int) + (-1)) (by omega) (by omega)]
        have := ih i j a c fo fw x8 x9 hm ha (q + 1) (by omega) (fun k hk => by
          by_cases ck : k = q + 1
          · rw [ck]; exact c1
          · exact hall k (by omega)) knext
        have e1 : -((q + 1 : Nat) : Int) + (-1) = -((q + 1 + 1 : Nat) : Int) := by omega
        rw [e1]
        exact this
      · rw [if_neg c1]
        refine ⟨fun _ => ?_, fun c => absurd rfl c⟩
        rw [am_w_s (by omega)]
        exact knext (q + 1) hall (by rw [← Nat.add_assoc]; exact c1) (by omega)
  have main : ∀ (f i j : Nat) (s1 : ms_S) (K1 : List (rwt × Int)) (x4 x5 x6 x7 x8 x9 : Int), i ≤ A.length → j ≤ B.length → (A.length - i) + (B.length - j) ≤ f → m_ch s s1 → mCh s1 n K1 → K1.length + ((mg f (A.drop i) (B.drop j)).filter ok).length ≤ 1300 → (∀ s', m_ch s s' → mCh s' n (K1 ++ (mg f (A.drop i) (B.drop j)).filter ok) → Q 0 s') → mw (d + 2) 183 (am_blk 183 1) [159, more, i, j, x4, x5, x6, x7, x8, x9] [] s1 Q := by
    intro f
    induction f with
    | zero =>
      intro i j s1 K1 x4 x5 x6 x7 x8 x9 hi hj hf hm hK1 hKl kq
      refine w183_1 ⟨fun c => absurd c (by rw [hm _ _ (by omega)]; omega), fun _ => ⟨fun _ => kq s1 hm ?_, fun c => absurd (by rw [hm _ _ (by omega)]; omega) c⟩⟩
      simpa [mg] using hK1
    | succ f ih =>
      intro i j s1 K1 x4 x5 x6 x7 x8 x9 hi hj hf hm hK1 hKl kq
      have g107 : s1 107 0 = A.length := by rw [hm _ _ (by omega)]; exact h107
      have g104 : s1 104 0 = B.length := by rw [hm _ _ (by omega)]; exact h104
      have g101 : s1 101 0 = n := by rw [hm _ _ (by omega)]; exact h101
      -- how an entry ends
      have done : ∀ (e : rwt × Int) (ta tb : Nat) (c fo fw x8 x9 : Int), i + ta ≤ A.length → j + tb ≤ B.length → 1 ≤ ta + tb → mg (f + 1) (A.drop i) (B.drop j) = e :: mg f (A.drop (i + ta)) (B.drop (j + tb)) → e.1.length = n → ((fo = -1 ∧ ∃ p : Nat, fw = p ∧ B[p]? = some e.1) ∨ (∃ p : Nat, fo = p ∧ A[p]? = some e.1)) → mw (d + 2) 183 (am_blk 183 15) [159, more, ((i + ta : Nat) : Int), ((j + tb : Nat) : Int), c, e.2, fo, fw, x8, x9] [] s1 Q := by
        intro e ta tb c fo fw x8 x9 h1 h2 h3 hmg hel hfrom
        rw [hmg, List.filter_cons] at hKl
        refine fin s1 K1 e (i + ta) (j + tb) c fo fw x8 x9 hm hK1 (fun hok => by rw [if_pos hok, List.length_cons] at hKl; omega) hel hfrom (fun s2 x8 x9 hm2 hK2 => w183_24 ?_)
        refine ih (i + ta) (j + tb) s2 _ _ _ _ _ _ _ h1 h2 (by omega) hm2 hK2 ?_ (fun s' hm' hK' => kq s' hm' ?_)
        · rw [List.length_append]
          rw [List.filter_cons]
          by_cases hok : ok e = true
          · rw [if_pos hok, List.length_cons] at hKl; rw [if_pos hok]; show K1.length + 1 + _ ≤ 1300; omega
          · rw [if_neg hok] at hKl; rw [if_neg hok]; show K1.length + 0 + _ ≤ 1300; omega
        · rw [hmg, List.filter_cons]
          have e2 : (if ok e = true then e :: (mg f (A.drop (i + ta)) (B.drop (j + tb))).filter ok else (mg f (A.drop (i + ta)) (B.drop (j + tb))).filter ok) = [e].filter ok ++ (mg f (A.drop (i + ta)) (B.drop (j + tb))).filter ok := by
            rw [List.filter_cons]
            split <;> rfl
          rw [e2, ← List.append_assoc]
          exact hK'
      have b2 : ¬ (i = A.length ∧ j = B.length) → mw (d + 2) 183 (am_blk 183 2) [159, more, i, j, x4, x5, x6, x7, x8, x9] [] s1 Q := by
        intro hne
        -- the new ones first
        have pos : ∀ (c : Int), 0 < c → j < B.length → (∀ (b : rwt) (t : Nat), B[j]? = some b → (∀ k, k < t → B[j + k]? = some b) → B[j + t]? ≠ some b → 1 ≤ t → mg (f + 1) (A.drop i) (B.drop j) = (b, (t : Int)) :: mg f (A.drop i) (B.drop (j + t))) → mw (d + 2) 183 (am_blk 183 5) [159, more, i, j, x4, x5, x6, x7, x8, x9] [c] s1 Q := by
          intro c hc hjl hmg
          have hjb := List.getElem?_eq_getElem hjl
          refine w183_5 ⟨fun _ => w183_7 ⟨fun q => absurd q (by omega), fun _ => w183_9 ⟨fun _ => w183_12 ⟨fun q => absurd q (by omega), fun _ => ?_⟩, fun q => absurd hc q⟩⟩, fun q => absurd hc q⟩
          have e0 : am_w ((0 : Int) + 1) = 0 + ((0 + 1 : Nat) : Int) := by decide
          rw [e0]
          refine runB s1 (B.length - j - 1) i j B[j] 0 c (-1) j x8 x9 hm (by omega) hjb (by omega) (by omega) 0 (by omega) (fun k hk => by rw [show k = 0 by omega]; exact hjb) (fun t ht1 ht2 ht3 => ?_)
          have htl : j + t ≤ B.length := by
            have := ht1 (t - 1) (by omega)
            have := (List.getElem?_eq_some_iff.mp this).1
            omega
          have := done (B[j], (t : Int)) 0 t c (-1) j x8 x9 (by omega) htl (by omega) (by rw [Nat.add_zero]; exact hmg B[j] t hjb ht1 ht2 ht3) (rlB j _ hjb) (Or.inl ⟨rfl, j, rfl, hjb⟩)
          rw [Int.zero_add]
          simpa using this
        have neg : ∀ (c : Int), c < 0 → i < A.length → (∀ (a : rwt) (t : Nat), A[i]? = some a → (∀ k, k < t → A[i + k]? = some a) → A[i + t]? ≠ some a → 1 ≤ t → mg (f + 1) (A.drop i) (B.drop j) = (a, -(t : Int)) :: mg f (A.drop (i + t)) (B.drop j)) → mw (d + 2) 183 (am_blk 183 5) [159, more, i, j, x4, x5, x6, x7, x8, x9] [c] s1 Q := by
          intro c hc hil hmg
          have hia := List.getElem?_eq_getElem hil
          refine w183_5 ⟨fun q => absurd q (by omega), fun _ => w183_7 ⟨fun _ => w183_9 ⟨fun q => absurd q (by omega), fun _ => ?_⟩, fun q => absurd hc q⟩⟩
          have e0 : am_w ((0 : Int) + (-1)) = -((0 + 1 : Nat) : Int) := by decide
          rw [e0]
          refine runA s1 (A.length - i - 1) i j A[i] c i (-1) x8 x9 hm hia 0 (by omega) (fun k hk => by rw [show k = 0 by omega]; exact hia) (fun t ht1 ht2 ht3 => w183_12 ⟨fun _ => ?_, fun q => absurd hc q⟩)
          have htl : i + t ≤ A.length := by
            have := ht1 (t - 1) (by omega)
            have := (List.getElem?_eq_some_iff.mp this).1
            omega
          have := done (A[i], -(t : Int)) t 0 c i (-1) x8 x9 htl (by omega) (by omega) (by rw [Nat.add_zero]; exact hmg A[i] t hia ht1 ht2 ht3) (rlA i _ hia) (Or.inr ⟨i, rfl, hia⟩)
          simpa using this
        have rnA : ∀ (a : rwt) (t : Nat), A[i]? = some a → (∀ k, k < t → A[i + k]? = some a) → A[i + t]? ≠ some a → 1 ≤ t → A.drop i = a :: A.drop (i + 1) ∧ rn a (A.drop (i + 1)) + 1 = t ∧ (A.drop (i + 1)).drop (rn a (A.drop (i + 1))) = A.drop (i + t) := by
          intro a t ha h1 h2 h3
          have hlt := (List.getElem?_eq_some_iff.mp ha).1
          have e0 : A[i] = a := by rw [List.getElem?_eq_getElem hlt] at ha; cases ha; rfl
          obtain ⟨q1, q2⟩ := rn_drop a A (i + 1) (t - 1) (fun k hk => by have := h1 (k + 1) (by omega); rw [show i + 1 + k = i + (k + 1) by omega]; exact this) (by rw [show i + 1 + (t - 1) = i + t by omega]; exact h2)
          refine ⟨by rw [List.drop_eq_getElem_cons hlt, e0], by omega, ?_⟩
          rw [q1, q2, show i + 1 + (t - 1) = i + t by omega]
        have rnB : ∀ (b : rwt) (t : Nat), B[j]? = some b → (∀ k, k < t → B[j + k]? = some b) → B[j + t]? ≠ some b → 1 ≤ t → B.drop j = b :: B.drop (j + 1) ∧ rn b (B.drop (j + 1)) + 1 = t ∧ (B.drop (j + 1)).drop (rn b (B.drop (j + 1))) = B.drop (j + t) := by
          intro a t ha h1 h2 h3
          have hlt := (List.getElem?_eq_some_iff.mp ha).1
          have e0 : B[j] = a := by rw [List.getElem?_eq_getElem hlt] at ha; cases ha; rfl
          obtain ⟨q1, q2⟩ := rn_drop a B (j + 1) (t - 1) (fun k hk => by have := h1 (k + 1) (by omega); rw [show j + 1 + k = j + (k + 1) by omega]; exact this) (by rw [show j + 1 + (t - 1) = j + t by omega]; exact h2)
          refine ⟨by rw [List.drop_eq_getElem_cons hlt, e0], by omega, ?_⟩
          rw [q1, q2, show j + 1 + (t - 1) = j + t by omega]
        refine w183_2 ⟨fun ci => ⟨fun cj => ?_, fun cj => ?_⟩, fun ci => ?_⟩
        · have hil : i < A.length := by omega
          have hjl : j < B.length := by omega
          have hia := List.getElem?_eq_getElem hil
          have hjb := List.getElem?_eq_getElem hjl
          refine k_across g101 hn (hA.fr (fun j => hm _ _ (by omega)) (fun j => hm _ _ (by omega))) (hB.fr (fun j => hm _ _ (by omega)) (fun j => hm _ _ (by omega))) hia hjb hA4 hB4 (by omega) ?_
          have hAd : A.drop i = A[i] :: A.drop (i + 1) := List.drop_eq_getElem_cons hil
          have hBd : B.drop j = B[j] :: B.drop (j + 1) := List.drop_eq_getElem_cons hjl
          by_cases c1 : r_cmp A[i] B[j] < 0
          · refine neg _ c1 hil (fun a t ha h1 h2 h3 => ?_)
            rw [hia] at ha; cases ha
            obtain ⟨q1, q2, q3⟩ := rnA _ t hia h1 h2 h3
            rw [hAd, hBd]
            show (if r_cmp A[i] B[j] < 0 then _ else _) = _
            rw [if_pos c1, q2, q3]
          · by_cases c2 : 0 < r_cmp A[i] B[j]
            · refine pos _ c2 hjl (fun b t hb h1 h2 h3 => ?_)
              rw [hjb] at hb; cases hb
              obtain ⟨q1, q2, q3⟩ := rnB _ t hjb h1 h2 h3
              rw [hAd, hBd]
              show (if r_cmp A[i] B[j] < 0 then _ else if 0 < r_cmp A[i] B[j] then _ else _) = _
              rw [if_neg c1, if_pos c2, q2, q3]
            · have hc0 : r_cmp A[i] B[j] = 0 := by omega
              have hab : A[i] = B[j] := (r_cmp_0 (by rw [rlA i _ hia, rlB j _ hjb])).mp hc0
              rw [hc0]
              refine w183_5 ⟨fun q => absurd q (by omega), fun _ => w183_7 ⟨fun q => absurd q (by omega), fun _ => w183_9 ⟨fun q => absurd q (by omega), fun _ => ?_⟩⟩⟩
              have e0 : am_w ((0 : Int) + (-1)) = -((0 + 1 : Nat) : Int) := by decide
              rw [e0]
              refine runA s1 (A.length - i - 1) i j A[i] 0 i j x8 x9 hm hia 0 (by omega) (fun k hk => by rw [show k = 0 by omega]; exact hia) (fun ta ha1 ha2 ha3 => w183_12 ⟨fun q => absurd q (by omega), fun _ => ?_⟩)
              have htl : i + ta ≤ A.length := by
                have := ha1 (ta - 1) (by omega)
                have := (List.getElem?_eq_some_iff.mp this).1
                omega
              rw [am_w_in (x := -(ta : Int) + 1) (by omega) (by omega)]
              have e1 : -(ta : Int) + 1 = -(ta : Int) + ((0 + 1 : Nat) : Int) := by omega
              rw [e1]
              refine runB s1 (B.length - j - 1) (i + ta) j B[j] (-(ta : Int)) 0 i j x8 x9 hm (by omega) hjb (by omega) (by omega) 0 (by omega) (fun k hk => by rw [show k = 0 by omega]; exact hjb) (fun tb hb1 hb2 hb3 => ?_)
              have htb : j + tb ≤ B.length := by
                have := hb1 (tb - 1) (by omega)
                have := (List.getElem?_eq_some_iff.mp this).1
                omega
              obtain ⟨q1, q2, q3⟩ := rnA _ ta hia ha1 ha2 ha3
              obtain ⟨p1, p2, p3⟩ := rnB _ tb hjb hb1 hb2 hb3
              refine done (A[i], -(ta : Int) + tb) ta tb 0 i j x8 x9 htl htb (by omega) ?_ (rlA i _ hia) (Or.inr ⟨i, rfl, hia⟩)
              rw [hAd, hBd]
              show (if r_cmp A[i] B[j] < 0 then _ else if 0 < r_cmp A[i] B[j] then _ else _) = _
              rw [if_neg c1, if_neg c2, q3, p3, q2, p2]
              congr 2
              omega
        · have hil : i < A.length := by omega
          have hjl : j = B.length := by omega
          have hia := List.getElem?_eq_getElem hil
          refine neg _ (by decide) hil (fun a t ha h1 h2 h3 => ?_)
          obtain ⟨q1, q2, q3⟩ := rnA _ t ha h1 h2 h3
          have hBn : B.drop j = [] := List.drop_eq_nil_of_le (by omega)
          rw [q1, hBn]
          show (a, -((rn a (A.drop (i + 1)) + 1 : Nat) : Int)) :: mg f ((A.drop (i + 1)).drop (rn a (A.drop (i + 1)))) [] = _
          rw [q2, q3]
        · have hil : i = A.length := by omega
          have hjl : j < B.length := by omega
          refine pos _ (by decide) hjl (fun b t hb h1 h2 h3 => ?_)
          obtain ⟨q1, q2, q3⟩ := rnB _ t hb h1 h2 h3
          have hAn : A.drop i = [] := List.drop_eq_nil_of_le (by omega)
          rw [q1, hAn]
          show (b, ((rn b (B.drop (j + 1)) + 1 : Nat) : Int)) :: mg f [] ((B.drop (j + 1)).drop (rn b (B.drop (j + 1)))) = _
          rw [q2, q3]
      refine w183_1 ⟨fun c => b2 (by omega), fun c => ⟨fun c2 => kq s1 hm ?_, fun c2 => b2 (by omega)⟩⟩
      rw [List.drop_eq_nil_of_le (by omega), List.drop_eq_nil_of_le (by omega)]
      simpa [mg] using hK1
  refine w183_e (main (A.length + B.length) 0 0 s K 0 0 0 0 0 0 (by omega) (by omega) (by omega) (m_ch.rf s) hK (by rw [List.drop_zero, List.drop_zero]; exact hKl) (fun s' h1 h2 => kk s' h1 (by rw [List.drop_zero, List.drop_zero] at h2; exact h2)))
end
