set_option maxRecDepth 100000
/-! nodes: a relation out of those beneath -/
def n_op (T : xt) (sl : Nat → Int) (X : nt) (n : Int) (L R : List rwt) : List rwt :=
  if n_kind X n = 1 then j_rows (x_tr T sl (n_cond X n).toNat) (decide (n_isL X n ≠ 0)) (n_wide X n).toNat L R
  else if n_kind X n = 2 then L.filter (x_tr T sl (n_cond X n).toNat)
  else if n_kind X n = 3 then L.map (x_vals T sl (n_list X n))
  else if n_kind X n = 4 then g_rows (x_vals T sl (n_list X n)) (n_list X n).length (g_af T sl (n_aggs X n)) L
  else if n_kind X n = 5 then s_rows 5 L []
  else if n_kind X n = 6 then L ++ R
  else if n_kind X n = 10 then (o_srt (o_cmp T sl ((n_list X n).zip (n_down X n))) L).take (n_most X n).toNat
  else s_rows (n_kind X n) L R
/-- all that is known of a node and those beneath -/
def n_ga (G : nG) : Nat → Int → Int → List Int → Nat → Prop
  | 0, _, _, _, _ => False
  | f + 1, lo, n, τ, N =>
    n ∈ gA G ∧ lo + 21 ≤ n ∧ τ.length ≤ 24 ∧ 1 ≤ N ∧ N ≤ 512 ∧ (N : Int) ≤ gcp G (n + 9) ∧ 2 * (N : Int) ≤ glm G (n + 9) ∧ 2 * (N : Int) ≤ gcp G (n + 12) ∧ (
    (n_kind (gX G) n = 0 ∧ n_left (gX G) n = -1 ∧ n_right (gX G) n = -1 ∧ 0 ≤ n_strm (gX G) n ∧ τ = List.replicate (gco G (n_strm (gX G) n).toNat + 1) 1 ∧ N = 8 ∧ n_keep (gX G) n ≤ 9223372036854775807 ∧ -1 ≤ n_keep (gX G) n)
    ∨ (n_kind (gX G) n = 1 ∧ n_left (gX G) n + 21 ≤ n ∧ n_right (gX G) n + 21 ≤ n ∧ 6 * (N : Int) ≤ gcp G (n + 12) ∧ (N : Int) ≤ gcp G (n + 15) ∧ (N : Int) ≤ gcp G (n + 18) ∧ ∃ τl τr Nl Nr, n_ga G f lo (n_left (gX G) n) τl Nl ∧ n_ga G f (n_left (gX G) n) (n_right (gX G) n) τr Nr ∧ τ = τl ++ τr ∧ N = Nl * Nr ∧ n_wide (gX G) n = (τr.length : Int) ∧ 0 ≤ n_cond (gX G) n ∧ n_cond (gX G) n < gN G ∧ ∃ t, x_wt (gT G) (gsl G) (gct G) τ 121 (n_cond (gX G) n).toNat t ∧ t ≠ 1)
    ∨ (n_kind (gX G) n = 2 ∧ n_right (gX G) n = -1 ∧ n_left (gX G) n + 21 ≤ n ∧ n_ga G f lo (n_left (gX G) n) τ N ∧ 0 ≤ n_cond (gX G) n ∧ n_cond (gX G) n < gN G ∧ ∃ t, x_wt (gT G) (gsl G) (gct G) τ 121 (n_cond (gX G) n).toNat t ∧ t ≠ 1)
    ∨ (n_kind (gX G) n = 3 ∧ n_right (gX G) n = -1 ∧ n_left (gX G) n + 21 ≤ n ∧ ∃ τl, n_ga G f lo (n_left (gX G) n) τl N ∧ (n_list (gX G) n).length ≤ 8 ∧ (∀ e ∈ n_list (gX G) n, e < gN G) ∧ x_wts (gT G) (gsl G) (gct G) τl (n_list (gX G) n) τ)
    ∨ (n_kind (gX G) n = 4 ∧ n_right (gX G) n = -1 ∧ n_left (gX G) n + 21 ≤ n ∧ 2 * (N : Int) ≤ gcp G (n + 18) ∧ ∃ τl σ, n_ga G f lo (n_left (gX G) n) τl N ∧ (n_list (gX G) n).length ≤ 8 ∧ (n_aggs (gX G) n).length ≤ 12 ∧ (∀ e ∈ n_list (gX G) n, e < gN G) ∧ (∀ e ∈ n_aggs (gX G) n, e < gN G ∧ x_wag (gT G) (gsl G) (gct G) τl e) ∧ x_wts (gT G) (gsl G) (gct G) τl (n_list (gX G) n) σ ∧ τ = σ ++ List.replicate (n_aggs (gX G) n).length 1)
    ∨ (n_kind (gX G) n = 5 ∧ n_right (gX G) n = -1 ∧ n_left (gX G) n + 21 ≤ n ∧ n_ga G f lo (n_left (gX G) n) τ N)
    ∨ ((n_kind (gX G) n = 6 ∨ n_kind (gX G) n = 7) ∧ n_left (gX G) n + 21 ≤ n ∧ n_right (gX G) n + 21 ≤ n ∧ ∃ Nl Nr, n_ga G f lo (n_left (gX G) n) τ Nl ∧ n_ga G f (n_left (gX G) n) (n_right (gX G) n) τ Nr ∧ N = Nl + Nr)
    ∨ ((n_kind (gX G) n = 8 ∨ n_kind (gX G) n = 9) ∧ n_left (gX G) n + 21 ≤ n ∧ n_right (gX G) n + 21 ≤ n ∧ ∃ Nr, n_ga G f lo (n_left (gX G) n) τ N ∧ n_ga G f (n_left (gX G) n) (n_right (gX G) n) τ Nr)
    ∨ (n_kind (gX G) n = 10 ∧ n_right (gX G) n = -1 ∧ n_left (gX G) n + 21 ≤ n ∧ (N : Int) ≤ gcp G (n + 15) ∧ (N : Int) ≤ gcp G (n + 18) ∧ (∃ Nl, n_ga G f lo (n_left (gX G) n) τ Nl ∧ N = min Nl 100) ∧ (n_list (gX G) n).length ≤ 8 ∧ (n_down (gX G) n).length = (n_list (gX G) n).length ∧ (∀ e ∈ n_list (gX G) n, e < gN G ∧ ∃ t, x_wt (gT G) (gsl G) (gct G) τ 121 e t) ∧ 0 ≤ n_most (gX G) n ∧ n_most (gX G) n ≤ 100))
theorem b_ok_re {w w' : Nat} {D : List (rwt × Int)} (h : b_ok w D) (hl : ∀ e ∈ D, e.1.length = w') : b_ok w' D := ⟨fun e he => ⟨hl e he, (h.1 e he).2⟩, h.2⟩
section
variable {W : nW} {G : nG} {c c' c2 : cs_S} {E E' : Int → bw_L} {P P' : List Int} {o o' o2 : Int → Int} {a b n r x lo : Int} {l m k : rwt} {U L L' R R' F F' V K : List rwt} {Q : Int → cs_S → Prop} {d w D N Nl Nr f : Nat} {τ τl τr : List Int} {t v z1 z2 s : Int} {es B : bw_L} {σ : List Nat}
theorem NL_op (h : n_kind (gX G) n ≠ 0) (hr : n_right (gX G) n = -1 ∨ True) : NL (gT G) (gsl G) (gX G) W (f + 1) n = n_op (gT G) (gsl G) (gX G) n (NL (gT G) (gsl G) (gX G) W f (n_left (gX G) n)) (NL (gT G) (gsl G) (gX G) W f (n_right (gX G) n)) := by
  conv => lhs; unfold NL
  rw [if_neg h]
  rfl
/-- a relation of typed rows is of typed rows, and not too many -/
theorem n_op_ok (h : n_ga G (f + 1) lo n τ N) (hT : x_T64 (gT G)) (hk : n_kind (gX G) n ≠ 0) (hl : ∀ lo τl Nl, n_ga G f lo (n_left (gX G) n) τl Nl → L.length ≤ Nl ∧ ∀ y ∈ L, rg τl y) (hr : ∀ lo τr Nr, n_ga G f lo (n_right (gX G) n) τr Nr → R.length ≤ Nr ∧ ∀ y ∈ R, rg τr y) : (n_op (gT G) (gsl G) (gX G) n L R).length ≤ N ∧ ∀ y ∈ n_op (gT G) (gsl G) (gX G) n L R, rg τ y := by
  obtain ⟨hA, hlo, h24, h1N, hN5, -, -, -, h⟩ := h
  unfold n_op
  rcases h with ⟨h0, -⟩ | ⟨h1, -, -, -, -, -, τl, τr, Nl, Nr, gl, gr, rfl, rfl, hwd, hc0, hc, t, ht, ht1⟩ | ⟨h1, -, -, gl, hc0, hc, t, ht, ht1⟩ | ⟨h1, -, -, τl, gl, h8, hlt, hx⟩ | ⟨h1, -, -, -, τl, σ, gl, h8, h12, hlt, ha, hx, rfl⟩ | ⟨h1, -, -, gl⟩ | ⟨h1, -, -, Nl, Nr, gl, gr, rfl⟩ | ⟨h1, -, -, Nr, gl, gr⟩ | ⟨h1, -, -, -, -, ⟨Nl, gl, rfl⟩, h8, hdl, he, hm0, hm1⟩
  · exact absurd h0 hk
  · rw [if_pos h1]
    obtain ⟨a1, a2⟩ := hl _ _ _ gl
    obtain ⟨b1, b2⟩ := hr _ _ _ gr
    have p2 : 1 ≤ Nr := by
      cases Nr with
      | zero => simp at h1N
      | succ k => omega
    refine ⟨j_rows_len a1 b1 p2, fun y hy => ?_⟩
    obtain ⟨x, hx, q⟩ := j_rows_mem hy
    rcases q with ⟨z, hz, rfl⟩ | rfl
    · exact (a2 x hx).app (b2 z hz)
    · refine (a2 x hx).app ?_
      have : (n_wide (gX G) n).toNat = τr.length := by omega
      rw [this]; exact rg_none
  · rw [if_neg (by omega), if_pos h1]
    obtain ⟨a1, a2⟩ := hl _ _ _ gl
    exact ⟨Nat.le_trans (List.length_filter_le _ _) a1, fun y hy => a2 y (List.mem_filter.mp hy).1⟩
  · rw [if_neg (by omega), if_neg (by omega), if_pos h1]
    obtain ⟨a1, a2⟩ := hl _ _ _ gl
    refine ⟨by rw [List.length_map]; exact a1, fun y hy => ?_⟩
    obtain ⟨x, hx1, rfl⟩ := List.mem_map.mp hy
    exact (a2 x hx1).vals hT _ _ hx
  · rw [if_neg (by omega), if_neg (by omega), if_neg (by omega), if_pos h1]
    obtain ⟨a1, a2⟩ := hl _ _ _ gl
    refine ⟨g_rows_len a1 h1N, fun y hy => ?_⟩
    unfold g_rows at hy
    obtain ⟨k, hk1, rfl⟩ := List.mem_map.mp hy
    have hgo : ∀ x ∈ g_of (x_vals (gT G) (gsl G) (n_list (gX G) n)) L k, rg τl x := fun x hx2 => a2 x (List.mem_filter.mp hx2).1
    refine rg.app ?_ ?_
    · unfold g_keys at hk1
      split at hk1
      · rename_i e0
        have e1 : n_list (gX G) n = [] := List.length_eq_zero_iff.mp e0
        rw [e1] at hx
        cases hx
        simp at hk1
        subst hk1
        exact ⟨rfl, fun k t ht => by simp at ht, fun v hv => by cases hv⟩
      · rw [dd_mem] at hk1
        obtain ⟨x, hx1, rfl⟩ := List.mem_map.mp hk1
        exact (a2 x hx1).vals hT _ _ hx
    · refine rg_ty1 (by unfold g_af; rw [List.length_map]) (fun v hv => ?_)
      unfold g_af at hv
      obtain ⟨a, ha1, rfl⟩ := List.mem_map.mp hv
      refine a_val_r ?_ (fun r hr1 => ev_r64 hT ((hgo r hr1).env) 121 _)
      have := List.length_filter_le (fun x => decide (x_vals (gT G) (gsl G) (n_list (gX G) n) x = k)) L
      unfold g_of
      omega
  · rw [if_neg (by omega), if_neg (by omega), if_neg (by omega), if_neg (by omega), if_pos h1]
    obtain ⟨a1, a2⟩ := hl _ _ _ gl
    refine ⟨Nat.le_trans s_rows_len (by rw [if_neg (by decide)]; simpa using a1), fun r hr => ?_⟩
    rw [s_rows_mem] at hr
    unfold s_in at hr
    rw [if_neg (by decide), if_neg (by decide)] at hr
    rcases hr with q | q
    · exact a2 r q
    · cases q
  · obtain ⟨a1, a2⟩ := hl _ _ _ gl
    obtain ⟨b1, b2⟩ := hr _ _ _ gr
    rcases h1 with h1 | h1
    · rw [if_neg (by omega), if_neg (by omega), if_neg (by omega), if_neg (by omega), if_neg (by omega), if_pos h1]
      refine ⟨by rw [List.length_append]; omega, fun r hr => ?_⟩
      rcases List.mem_append.mp hr with q | q
      · exact a2 r q
      · exact b2 r q
    · rw [if_neg (by omega), if_neg (by omega), if_neg (by omega), if_neg (by omega), if_neg (by omega), if_neg (by omega), if_neg (by omega)]
      refine ⟨Nat.le_trans s_rows_len (by rw [if_neg (by omega)]; omega), fun r hr => ?_⟩
      rw [s_rows_mem] at hr
      unfold s_in at hr
      rw [if_neg (by omega), if_neg (by omega)] at hr
      rcases hr with q | q
      · exact a2 r q
      · exact b2 r q
  · obtain ⟨a1, a2⟩ := hl _ _ _ gl
    rw [if_neg (by omega), if_neg (by omega), if_neg (by omega), if_neg (by omega), if_neg (by omega), if_neg (by omega), if_neg (by omega)]
    refine ⟨Nat.le_trans s_rows_len (by rw [if_pos h1]; exact a1), fun r hr => ?_⟩
    rw [s_rows_mem] at hr
    unfold s_in at hr
    rcases h1 with h1 | h1
    · rw [if_pos h1] at hr; exact a2 r hr.1
    · rw [if_neg (by omega), if_pos h1] at hr; exact a2 r hr.1
  · obtain ⟨a1, a2⟩ := hl _ _ _ gl
    rw [if_neg (by omega), if_neg (by omega), if_neg (by omega), if_neg (by omega), if_neg (by omega), if_neg (by omega), if_pos h1]
    refine ⟨?_, fun r hr => ?_⟩
    · rw [List.length_take, (o_srt_perm (cmp := o_cmp (gT G) (gsl G) ((n_list (gX G) n).zip (n_down (gX G) n)))).length_eq]; omega
    · exact a2 r (o_srt_perm.mem_iff.mp (List.mem_of_mem_take hr))
end
