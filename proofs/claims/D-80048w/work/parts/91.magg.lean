set_option maxRecDepth 100000
/-! the model: aggregates of the group at hand -/
theorem am_x_addl (a b : Int) : am_x (am_x a + b) = am_x (a + b) := by
  unfold am_x
  rw [Int64.ofInt_add, Int64.ofInt_toInt, ← Int64.ofInt_add]
section
variable {s s1 s2 s3 : ms_S} {T : xt} {sl ct : Nat → Int} {τ : List Int} {NE d w : Nat} {Q : Int → ms_S → Prop} {l m : rwt} {K L M : List rwt} {r g : Int}
def ag_f (act : Int) (vs : List Int) : Int := if act = 27 then am_x (i_sum vs) else if act = 28 then (a_fold min vs).getD 0 else (a_fold max vs).getD 0
theorem a_fold_s {op : Int → Int → Int} {vs : List Int} {x : Int} : a_fold op (vs ++ [x]) = a_stp op (a_fold op vs) x := by
  unfold a_fold; rw [List.foldl_append]; rfl
theorem a_fold_n {op : Int → Int → Int} : ∀ {vs : List Int}, vs ≠ [] → ∃ y, a_fold op vs = some y := by
  have key : ∀ (vs : List Int) (y : Int), ∃ z, vs.foldl (a_stp op) (some y) = some z := by
    intro vs
    induction vs with
    | nil => intro y; exact ⟨y, rfl⟩
    | cons x vs ih => intro y; exact ih _
  intro vs h
  cases vs with
  | nil => exact absurd rfl h
  | cons x vs => exact key vs x
theorem a_val_ag {act : Int} {ex : rwt → Option Int} {L : List rwt} (h : 27 ≤ act ∧ act ≤ 29) : a_val act ex L = if L.filterMap ex = [] then none else some (ag_f act (L.filterMap ex)) := by
  unfold a_val ag_f
  rw [if_neg (by omega), if_neg (by omega)]
  by_cases h7 : act = 27
  · rw [if_pos h7, if_pos h7]
  · rw [if_neg h7, if_neg h7]
    by_cases h8 : act = 28
    · rw [if_pos h8, if_pos h8]
      by_cases c : L.filterMap ex = []
      · rw [if_pos c, c]; rfl
      · rw [if_neg c]; obtain ⟨y, hy⟩ := a_fold_n (op := min) c; rw [hy]; rfl
    · rw [if_neg h8, if_neg h8]
      by_cases c : L.filterMap ex = []
      · rw [if_pos c, c]; rfl
      · rw [if_neg c]; obtain ⟨y, hy⟩ := a_fold_n (op := max) c; rw [hy]; rfl
theorem k_aggregated {e : Nat} {x : Int} {p : rwt → Bool} (hT : mt s T sl NE) (hR : mR s r w L) (hL : ∀ l ∈ L, rg τ l) (ht : t_ok τ) (h95 : s 95 0 = r) (hmb : ∀ (i : Nat) (l : rwt), L[i]? = some l → (s 98 i = s 96 0 ↔ p l = true)) (hL6 : L.length ≤ 600) (he : e < NE) (hag : x_wag T sl (cz ct (p0 T)) τ e) (hx : x = mk_kind (x_act T e) (x_v T e)) (hd : 255 ≤ d) (kk : ∀ s', m_n s s' → s' 92 0 = x_nl (a_val (x_act T e) (fun r => ev T (x_env sl r) 121 (x_a T e).toNat) (L.filter p)) → Q (rw_ov (a_val (x_act T e) (fun r => ev T (x_env sl r) 121 (x_a T e).toNat) (L.filter p))) s') : md_aggregated (d + 1) e x s Q := by
  have hr := hR.1
  have hN := hT.1.1
  generalize hex : (fun r => ev T (x_env sl r) 121 (x_a T e).toNat) = ex at *
  have hact : 25 ≤ x_act T e ∧ x_act T e ≤ 29 := by rcases hag with q | q <;> omega
  have hkx : x = x_act T e - 5 := by
    rw [hx]; unfold mk_kind
    rw [if_neg (by omega), if_neg (by omega), if_neg (by omega), if_neg (by omega), if_neg (by omega), if_neg (by omega), if_neg (by omega), if_neg (by omega), if_neg (by omega), if_neg (by omega)]
  let LF : Nat → List rwt := fun i => (L.take i).filter p
  let VS : Nat → List Int := fun i => (LF i).filterMap ex
  let F : ms_S → Prop := fun s1 => ∀ (q : Nat) (j : Int), q ≠ 92 → (q ≠ 93 ∨ j ≠ 0) → (q ≠ 97 ∨ j ≠ 0) → s1 q j = s q j
  have hFk : ∀ s1, F s1 → m_k s s1 := fun s1 h q j hq => h q j (by omega) (by omega) (by omega)
  have lfl : ∀ i, (LF i).length ≤ i := fun i => Nat.le_trans (List.length_filter_le _ _) (by rw [List.length_take]; omega)
  have vsl : ∀ i, (VS i).length ≤ i := fun i => Nat.le_trans (List.length_filterMap_le _ _) (lfl i)
  have loop : ∀ (k i : Nat) (s1 : ms_S) (x5 x11 : Int), i + k = L.length → F s1 → s1 97 0 = 0 → (27 ≤ x_act T e → x5 = ag_f (x_act T e) (VS i)) → mw (d + 1) 166 (am_blk 166 1) [159, (e : Int), x, (if x_act T e = 25 then ((LF i).length : Int) else ((VS i).length : Int)), 0, x5, 0, (if VS i = [] ∨ x_act T e = 25 then 0 else 1), s 97 0, s 93 0, i, x11, 0] [] s1 Q := by
    intro k
    induction k with
    | zero =>
      intro i s1 x5 x11 hi hF hg1 h5
      have e1 : i = L.length := by omega
      have eL : LF i = L.filter p := by show (L.take i).filter p = _; rw [e1, List.take_length]
      have eV : VS i = (L.filter p).filterMap ex := by show (LF i).filterMap ex = _; rw [eL]
      have hR1 := hR.k (hFk s1 hF)
      have hr1 := hR1.1
      have e95 : s1 95 0 = r := by rw [hF _ _ (by omega) (by omega) (by omega)]; exact h95
      refine w166_1 ⟨by omega, by omega, fun _ s2 e2 s3 e3 => ?_, fun w => absurd (by rw [e95]; omega) w⟩
      have u3 : m_n s s3 := by
        intro q j hq
        rw [e3]
        by_cases c3 : q = 93
        · subst c3
          rw [ms_u_if]
          by_cases cj : j = 0
          · rw [if_pos cj, cj]
          · rw [if_neg cj, e2, ms_u_f _ _ _ (by omega)]; exact hF _ _ (by omega) (by omega) (by omega)
        · rw [ms_u_f _ _ _ c3, e2]
          by_cases c7 : q = 97
          · subst c7
            rw [ms_u_if]
            by_cases cj : j = 0
            · rw [if_pos cj, cj]
            · rw [if_neg cj]; exact hF _ _ (by omega) (by omega) (by omega)
          · rw [ms_u_f _ _ _ c7]; exact hF _ _ hq (by omega) (by omega)
      have cnt : x_act T e = 25 ∨ x_act T e = 26 → mw (d + 1) 166 (am_blk 166 10) [159, (e : Int), x, (if x_act T e = 25 then ((LF i).length : Int) else ((VS i).length : Int)), 0, x5, 0, (if VS i = [] ∨ x_act T e = 25 then 0 else 1), s 97 0, s 93 0, i, x11, 0] [] s3 Q := by
        intro hc
        have ev1 : a_val (x_act T e) ex (L.filter p) = some (if x_act T e = 25 then ((LF i).length : Int) else ((VS i).length : Int)) := by
          unfold a_val
          by_cases c5 : x_act T e = 25
          · rw [if_pos c5, if_pos c5, eL]
          · rw [if_neg c5, if_neg c5, if_pos (by omega), eV]
        rw [ev1] at kk
        exact w166_10 (k_some (fun s4 u4 n4 => kk s4 (u3.tr u4) n4))
      refine ⟨fun q => cnt (by omega), fun q => ⟨fun q1 => ?_, fun q1 => cnt (by omega)⟩⟩
      rw [a_val_ag (by omega), ← eV] at kk
      rw [h5 (by omega)]
      refine ⟨fun q2 => k_nothing0 (fun s4 u4 n4 => w166_13 ?_), fun q2 => k_some (fun s4 u4 n4 => w166_13 ?_)⟩
      · have : VS i = [] := by
          apply Classical.byContradiction
          intro c
          rw [if_neg (by intro h; rcases h with h | h; exact c h; omega)] at q2
          exact absurd q2 (by decide)
        rw [if_pos this] at kk
        exact kk s4 (u3.tr u4) n4
      · have : VS i ≠ [] := by
          intro c
          rw [if_pos (Or.inl c)] at q2
          exact q2 rfl
        rw [if_neg this] at kk
        exact kk s4 (u3.tr u4) n4
    | succ k ih =>
      intro i s1 x5 x11 hi hF hg1 h5
      have hil : i < L.length := by omega
      have hk1 := hFk s1 hF
      have hR1 := hR.k hk1
      have hr1 := hR1.1
      have e95 : s1 95 0 = r := by rw [hF _ _ (by omega) (by omega) (by omega)]; exact h95
      have e96 : s1 96 0 = s 96 0 := hF _ _ (by omega) (by omega) (by omega)
      have e98 : s1 98 i = s 98 i := hF _ _ (by omega) (by omega) (by omega)
      have hmi := hmb i _ (List.getElem?_eq_getElem hil)
      have lfs : LF (i + 1) = LF i ++ (if p L[i] = true then [L[i]] else []) := by
        show (L.take (i + 1)).filter p = _
        rw [take_s hil, List.filter_append, filter_1]
      have nxt : ∀ (s2 : ms_S) (x3 x5 x7 x11 : Int), F s2 → s2 97 0 = 0 → x3 = (if x_act T e = 25 then ((LF (i + 1)).length : Int) else ((VS (i + 1)).length : Int)) → (27 ≤ x_act T e → x5 = ag_f (x_act T e) (VS (i + 1))) → x7 = (if VS (i + 1) = [] ∨ x_act T e = 25 then 0 else 1) → mw (d + 1) 166 (am_blk 166 8) [159, (e : Int), x, x3, 0, x5, 0, x7, s 97 0, s 93 0, i, x11, 0] [] s2 Q := by
        intro s2 x3 x5 x7 x11 hF2 hg2 h3 h5 h7
        refine w166_8 ?_
        rw [am_w_s (by omega), h3, h7]
        exact ih (i + 1) s2 x5 x11 (by omega) hF2 hg2 h5
      refine w166_1 ⟨by omega, by omega, fun w => absurd w (by rw [e95]; omega), fun _ => ⟨by omega, by omega, fun q => ?_, fun q => ?_⟩⟩
      · rw [e98, e96] at q
        have hp : ¬ p L[i] = true := fun c => q (hmi.mpr c)
        rw [if_neg hp, List.append_nil] at lfs
        have vss : VS (i + 1) = VS i := by show (LF (i + 1)).filterMap ex = _; rw [lfs]
        refine nxt s1 _ _ _ _ hF hg1 (by rw [lfs, vss]) (by rw [vss]; exact h5) (by rw [vss])
      · rw [e98, e96] at q
        have hp : p L[i] = true := hmi.mp (Classical.not_not.mp q)
        rw [if_pos hp] at lfs
        have vss : VS (i + 1) = VS i ++ [L[i]].filterMap ex := by show (LF (i + 1)).filterMap ex = _; rw [lfs, List.filterMap_append]
        have hll := lfl i
        have hvl := vsl i
        refine ⟨fun q2 => ?_, fun q2 => ?_⟩
        · have hn25 : x_act T e ≠ 25 := by omega
          rcases hag with c | ⟨h26, h29, hlt, t, hwt, -⟩
          · exact absurd c hn25
          have hlt0 : 0 ≤ x_a T e ∧ x_a T e < (e : Int) := hlt
          have ea : s1 24 e = x_a T e := by
            rw [hF _ _ (by omega) (by omega) (by omega)]
            exact ((hT.1.2 e he).2.2.2.1 (by omega)).1
          obtain ⟨hl, hm⟩ := hR1.row (List.getElem?_eq_getElem hil)
          rw [e95]
          refine k_rowAt hR1 rfl (by omega) (fun s2 e2 => ⟨by omega, by omega, ?_⟩)
          have k2 : m_k s1 s2 := by rw [e2]; exact m_k.u s1 0 _ (by omega) (by omega)
          have hF2 : F s2 := by
            intro q j h1 h2 h3
            rw [e2]
            by_cases c : q = 93
            · subst c; rw [ms_u_i _ (by omega)]; exact hF _ _ h1 h2 h3
            · rw [ms_u_f _ _ _ c]; exact hF _ _ h1 h2 h3
          have h93 : s2 93 0 = s1 88 r + ((i * w : Nat) : Int) := by rw [e2, ms_u_eq]
          have hg2 : s2 97 0 = 0 := by rw [e2, ms_u_f _ _ _ (by omega)]; exact hg1
          have ea2 : s2 24 e = (((x_a T e).toNat : Nat) : Int) := by rw [k2 _ _ (by omega), ea]; omega
          refine k_evr (hT.k (hk1.tr k2)) hg2 (by rw [h93]; exact hm.k k2) (hL _ (List.getElem_mem hil)) ht (e := (x_a T e).toNat) (by omega) ea2 hwt (by omega) (fun s3 u3 n3 => ?_)
          have hexv : ev T (x_env sl L[i]) 121 (x_a T e).toNat = ex L[i] := by rw [← hex]
          rw [hexv] at n3 ⊢
          have hF3 : F s3 := fun q j h1 h2 h3 => (u3 q j h1).trans (hF2 q j h1 h2 h3)
          have hg3 : s3 97 0 = 0 := by rw [u3 _ _ (by decide)]; exact hg2
          rw [n3]
          cases hv : ex L[i] with
          | none =>
            have fm : [L[i]].filterMap ex = [] := by simp [hv]
            rw [fm, List.append_nil] at vss
            exact ⟨fun _ => nxt s3 _ _ _ _ hF3 hg3 (by rw [if_neg hn25, if_neg hn25, vss]) (by rw [vss]; exact h5) (by rw [vss]), fun w => absurd (by decide) w⟩
          | some v =>
            have fm : [L[i]].filterMap ex = [v] := by simp [hv]
            rw [fm] at vss
            have hne : VS (i + 1) ≠ [] := by rw [vss]; simp
            have c3 : am_x ((if x_act T e = 25 then ((LF i).length : Int) else ((VS i).length : Int)) + 1) = (if x_act T e = 25 then ((LF (i + 1)).length : Int) else ((VS (i + 1)).length : Int)) := by
              rw [if_neg hn25, if_neg hn25, vss, List.length_append, am_x_in (by omega) (by omega)]; simp
            have c7 : (1 : Int) = (if VS (i + 1) = [] ∨ x_act T e = 25 then 0 else 1) := by rw [if_neg (by intro h; rcases h with h | h; exact hne h; exact hn25 h)]
            have any0 : (if VS i = [] ∨ x_act T e = 25 then (0 : Int) else 1) = 0 ↔ VS i = [] := by
              by_cases c : VS i = []
              · rw [if_pos (Or.inl c)]; simp [c]
              · rw [if_neg (by intro h; rcases h with h | h; exact c h; exact hn25 h)]; simp [c]
            have lc := lc_iff v x5
            have fin : ∀ z : Int, (27 ≤ x_act T e → z = ag_f (x_act T e) (VS (i + 1))) → ∀ x7, mw (d + 1) 166 (am_blk 166 7) [159, (e : Int), x, am_x ((if x_act T e = 25 then ((LF i).length : Int) else ((VS i).length : Int)) + 1), 0, x5, 0, x7, s 97 0, s 93 0, i, v, 0] [z] s3 Q := by
              intro z hz x7
              refine w166_7 (nxt s3 _ _ _ _ hF3 hg3 c3 hz c7)
            have stp : ∀ op : Int → Int → Int, VS i ≠ [] → (a_fold op (VS (i + 1))).getD 0 = op ((a_fold op (VS i)).getD 0) v := by
              intro op hne
              obtain ⟨y, hy⟩ := a_fold_n (op := op) hne
              rw [vss, a_fold_s, hy]; rfl
            have stp0 : ∀ op : Int → Int → Int, VS i = [] → (a_fold op (VS (i + 1))).getD 0 = v := by
              intro op h0
              rw [vss, a_fold_s, h0]; rfl
            refine ⟨fun w => absurd rfl w, fun _ => ⟨fun q3 => ⟨fun q4 => w166_5 (fin v (fun h27 => ?_) _), fun q4 => ⟨fun q5 => ⟨fun q6 => w166_6 (fin x5 (fun h27 => ?_) _), fun q6 => w166_5 (fin v (fun h27 => ?_) _)⟩, fun q5 => ⟨fun q6 => w166_6 (fin x5 (fun h27 => ?_) _), fun q6 => w166_5 (fin v (fun h27 => ?_) _)⟩⟩⟩, fun q3 => fin _ (fun h27 => ?_) _⟩⟩
            · have h0 := any0.mp q4
              unfold ag_f
              rw [if_neg (by omega)]
              split
              · rw [stp0 _ h0]
              · rw [stp0 _ h0]
            · have h0 : VS i ≠ [] := fun c => q4 (any0.mpr c)
              have h5 := h5 h27
              unfold ag_f at h5 ⊢
              rw [if_neg (by omega), if_neg (by omega)] at h5 ⊢
              rw [stp max h0, ← h5]
              have q6 : am_lcmp v x5 ≤ 0 := q6
              omega
            · have h0 : VS i ≠ [] := fun c => q4 (any0.mpr c)
              have h5 := h5 h27
              unfold ag_f at h5 ⊢
              rw [if_neg (by omega), if_neg (by omega)] at h5 ⊢
              rw [stp max h0, ← h5]
              have q6 : ¬ am_lcmp v x5 ≤ 0 := q6
              omega
            · have h0 : VS i ≠ [] := fun c => q4 (any0.mpr c)
              have h5 := h5 h27
              unfold ag_f at h5 ⊢
              rw [if_neg (by omega), if_pos (by omega)] at h5 ⊢
              rw [stp min h0, ← h5]
              have q6 : 0 ≤ am_lcmp v x5 := q6
              omega
            · have h0 : VS i ≠ [] := fun c => q4 (any0.mpr c)
              have h5 := h5 h27
              unfold ag_f at h5 ⊢
              rw [if_neg (by omega), if_pos (by omega)] at h5 ⊢
              rw [stp min h0, ← h5]
              have q6 : ¬ 0 ≤ am_lcmp v x5 := q6
              omega
            · have h5 := h5 h27
              unfold ag_f at h5 ⊢
              rw [if_pos (by omega)] at h5 ⊢
              show am_x (x5 + v) = _
              rw [vss, i_sum_app, h5, am_x_addl]
              simp [i_sum]
        · have h25 : x_act T e = 25 := by omega
          refine nxt s1 _ _ _ _ hF hg1 ?_ (fun c => absurd c (by omega)) ?_
          · rw [if_pos h25, if_pos h25, am_x_in (by omega) (by omega), lfs, List.length_append]; simp
          · rw [if_pos (Or.inr h25), if_pos (Or.inr h25)]
  have fF : F (ms_u s 97 0 0) := by
    intro q j h1 h2 h3
    by_cases c : q = 97
    · subst c; exact ms_u_i _ (by omega)
    · exact ms_u_f _ _ _ c
  refine w166_e (fun s1 e1 => ?_)
  have := loop L.length 0 s1 0 0 (by omega) (by rw [e1]; exact fF) (by rw [e1, ms_u_eq]) (fun h27 => by
    unfold ag_f
    split
    · show (0 : Int) = am_x 0; decide
    · split <;> rfl)
  have z1 : LF 0 = [] := by show (L.take 0).filter p = _; simp
  have z2 : VS 0 = [] := by show (LF 0).filterMap ex = _; rw [z1]; rfl
  rw [z1, z2, if_pos (Or.inl rfl)] at this
  simpa using this
end
