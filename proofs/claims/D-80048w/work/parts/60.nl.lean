set_option maxRecDepth 100000
/-! relations of a plan's nodes, pure -/
abbrev nt : Type := Int → (Int × Int × Int) × (Int × Int) × (Int × Int × Int) × List Nat × List Nat × List Bool × Int
def n_kind (X : nt) (n : Int) : Int := (X n).1.1
def n_left (X : nt) (n : Int) : Int := (X n).1.2.1
def n_right (X : nt) (n : Int) : Int := (X n).1.2.2
def n_strm (X : nt) (n : Int) : Int := (X n).2.1.1
def n_keep (X : nt) (n : Int) : Int := (X n).2.1.2
def n_cond (X : nt) (n : Int) : Int := (X n).2.2.1.1
def n_isL (X : nt) (n : Int) : Int := (X n).2.2.1.2.1
def n_wide (X : nt) (n : Int) : Int := (X n).2.2.1.2.2
def n_list (X : nt) (n : Int) : List Nat := (X n).2.2.2.1
def n_aggs (X : nt) (n : Int) : List Nat := (X n).2.2.2.2.1
def n_down (X : nt) (n : Int) : List Bool := (X n).2.2.2.2.2.1
def n_most (X : nt) (n : Int) : Int := (X n).2.2.2.2.2.2
/-- streams' rows, and the watermark -/
abbrev nW : Type := (Nat → List rwt) × Int
def n_old (keep wm : Int) : Int := if wm < -9223372036854775808 + keep then -9223372036854775808 else wm - keep
def r_time (r : rwt) : Int := rw_ov (r.getD (r.length - 1) none)
def n_in (keep wm : Int) (r : rwt) : Bool := decide (keep < 0 ∨ n_old keep wm ≤ r_time r)
def g_af (T : xt) (sl : Nat → Int) (aggs : List Nat) (L : List rwt) : rwt := aggs.map (fun a => a_val (x_act T a) (fun r => ev T (x_env sl r) 121 (x_a T a).toNat) L)
def NL (T : xt) (sl : Nat → Int) (X : nt) (W : nW) : Nat → Int → List rwt
  | 0, _ => []
  | f + 1, n =>
    if n_kind X n = 0 then (W.1 (n_strm X n).toNat).filter (n_in (n_keep X n) W.2)
    else if n_kind X n = 1 then j_rows (x_tr T sl (n_cond X n).toNat) (decide (n_isL X n ≠ 0)) (n_wide X n).toNat (NL T sl X W f (n_left X n)) (NL T sl X W f (n_right X n))
    else if n_kind X n = 2 then (NL T sl X W f (n_left X n)).filter (x_tr T sl (n_cond X n).toNat)
    else if n_kind X n = 3 then (NL T sl X W f (n_left X n)).map (x_vals T sl (n_list X n))
    else if n_kind X n = 4 then g_rows (x_vals T sl (n_list X n)) (n_list X n).length (g_af T sl (n_aggs X n)) (NL T sl X W f (n_left X n))
    else if n_kind X n = 5 then s_rows 5 (NL T sl X W f (n_left X n)) []
    else if n_kind X n = 6 then NL T sl X W f (n_left X n) ++ NL T sl X W f (n_right X n)
    else if n_kind X n = 10 then (o_srt (o_cmp T sl ((n_list X n).zip (n_down X n))) (NL T sl X W f (n_left X n))).take (n_most X n).toNat
    else s_rows (n_kind X n) (NL T sl X W f (n_left X n)) (NL T sl X W f (n_right X n))
section
variable {T : xt} {sl : Nat → Int} {X : nt} {W : nW} {f : Nat} {n : Int}
theorem NL_0 (h : n_kind X n = 0) : NL T sl X W (f + 1) n = (W.1 (n_strm X n).toNat).filter (n_in (n_keep X n) W.2) := if_pos h
theorem NL_1 (h : n_kind X n = 1) : NL T sl X W (f + 1) n = j_rows (x_tr T sl (n_cond X n).toNat) (decide (n_isL X n ≠ 0)) (n_wide X n).toNat (NL T sl X W f (n_left X n)) (NL T sl X W f (n_right X n)) := by
  conv => lhs; unfold NL
  rw [if_neg (by omega), if_pos h]
theorem NL_2 (h : n_kind X n = 2) : NL T sl X W (f + 1) n = (NL T sl X W f (n_left X n)).filter (x_tr T sl (n_cond X n).toNat) := by
  conv => lhs; unfold NL
  rw [if_neg (by omega), if_neg (by omega), if_pos h]
theorem NL_3 (h : n_kind X n = 3) : NL T sl X W (f + 1) n = (NL T sl X W f (n_left X n)).map (x_vals T sl (n_list X n)) := by
  conv => lhs; unfold NL
  rw [if_neg (by omega), if_neg (by omega), if_neg (by omega), if_pos h]
theorem NL_4 (h : n_kind X n = 4) : NL T sl X W (f + 1) n = g_rows (x_vals T sl (n_list X n)) (n_list X n).length (g_af T sl (n_aggs X n)) (NL T sl X W f (n_left X n)) := by
  conv => lhs; unfold NL
  rw [if_neg (by omega), if_neg (by omega), if_neg (by omega), if_neg (by omega), if_pos h]
theorem NL_5 (h : n_kind X n = 5) : NL T sl X W (f + 1) n = s_rows 5 (NL T sl X W f (n_left X n)) [] := by
  conv => lhs; unfold NL
  rw [if_neg (by omega), if_neg (by omega), if_neg (by omega), if_neg (by omega), if_neg (by omega), if_pos h]
theorem NL_6 (h : n_kind X n = 6) : NL T sl X W (f + 1) n = NL T sl X W f (n_left X n) ++ NL T sl X W f (n_right X n) := by
  conv => lhs; unfold NL
  rw [if_neg (by omega), if_neg (by omega), if_neg (by omega), if_neg (by omega), if_neg (by omega), if_neg (by omega), if_pos h]
theorem NL_10 (h : n_kind X n = 10) : NL T sl X W (f + 1) n = (o_srt (o_cmp T sl ((n_list X n).zip (n_down X n))) (NL T sl X W f (n_left X n))).take (n_most X n).toNat := by
  conv => lhs; unfold NL
  rw [if_neg (by omega), if_neg (by omega), if_neg (by omega), if_neg (by omega), if_neg (by omega), if_neg (by omega), if_neg (by omega), if_pos h]
theorem NL_s (h : 7 ≤ n_kind X n ∧ n_kind X n ≤ 9) : NL T sl X W (f + 1) n = s_rows (n_kind X n) (NL T sl X W f (n_left X n)) (NL T sl X W f (n_right X n)) := by
  conv => lhs; unfold NL
  rw [if_neg (by omega), if_neg (by omega), if_neg (by omega), if_neg (by omega), if_neg (by omega), if_neg (by omega), if_neg (by omega), if_neg (by omega)]
end
/-- well formed nodes: of types τ, of at most N rows -/
def t_nn (t : Int) : Int := if t = 0 then 1 else t
def x_wts (T : xt) (sl ct : Nat → Int) (τ : List Int) : List Nat → List Int → Prop
  | [], σ => σ = []
  | e :: es, σ => ∃ t σ', x_wt T sl ct τ 121 e t ∧ x_wts T sl ct τ es σ' ∧ σ = t_nn t :: σ'
def x_wag (T : xt) (sl ct : Nat → Int) (τ : List Int) (a : Nat) : Prop := x_act T a = 25 ∨ (26 ≤ x_act T a ∧ x_act T a ≤ 29 ∧ x_lt T a (x_a T a) ∧ ∃ t, x_wt T sl ct τ 121 (x_a T a).toNat t ∧ (x_act T a = 26 ∨ t ≠ 2))
def n_wt (T : xt) (sl ct : Nat → Int) (NE : Nat) (X : nt) (co : Nat → Nat) : Nat → Int → List Int → Nat → Prop
  | 0, _, _, _ => False
  | f + 1, n, τ, N =>
    τ.length ≤ 24 ∧ 1 ≤ N ∧ (
    (n_kind X n = 0 ∧ 0 ≤ n_strm X n ∧ τ = List.replicate (co (n_strm X n).toNat + 1) 1 ∧ N = 8 ∧ n_keep X n ≤ 9223372036854775807)
    ∨ (n_kind X n = 1 ∧ ∃ τl τr Nl Nr, n_wt T sl ct NE X co f (n_left X n) τl Nl ∧ n_wt T sl ct NE X co f (n_right X n) τr Nr ∧ τ = τl ++ τr ∧ N = Nl * Nr ∧ n_wide X n = (τr.length : Int) ∧ 0 ≤ n_cond X n ∧ n_cond X n < NE ∧ ∃ t, x_wt T sl ct τ 121 (n_cond X n).toNat t ∧ t ≠ 1)
    ∨ (n_kind X n = 2 ∧ n_wt T sl ct NE X co f (n_left X n) τ N ∧ 0 ≤ n_cond X n ∧ n_cond X n < NE ∧ ∃ t, x_wt T sl ct τ 121 (n_cond X n).toNat t ∧ t ≠ 1)
    ∨ (n_kind X n = 3 ∧ ∃ τl, n_wt T sl ct NE X co f (n_left X n) τl N ∧ (n_list X n).length ≤ 8 ∧ (∀ e ∈ n_list X n, e < NE) ∧ x_wts T sl ct τl (n_list X n) τ)
    ∨ (n_kind X n = 4 ∧ ∃ τl σ, n_wt T sl ct NE X co f (n_left X n) τl N ∧ (n_list X n).length ≤ 8 ∧ (n_aggs X n).length ≤ 12 ∧ (∀ e ∈ n_list X n, e < NE) ∧ (∀ e ∈ n_aggs X n, e < NE ∧ x_wag T sl ct τl e) ∧ x_wts T sl ct τl (n_list X n) σ ∧ τ = σ ++ List.replicate (n_aggs X n).length 1)
    ∨ (n_kind X n = 5 ∧ n_wt T sl ct NE X co f (n_left X n) τ N)
    ∨ ((n_kind X n = 6 ∨ n_kind X n = 7) ∧ ∃ Nl Nr, n_wt T sl ct NE X co f (n_left X n) τ Nl ∧ n_wt T sl ct NE X co f (n_right X n) τ Nr ∧ N = Nl + Nr)
    ∨ ((n_kind X n = 8 ∨ n_kind X n = 9) ∧ ∃ Nr, n_wt T sl ct NE X co f (n_left X n) τ N ∧ n_wt T sl ct NE X co f (n_right X n) τ Nr)
    ∨ (n_kind X n = 10 ∧ n_wt T sl ct NE X co f (n_left X n) τ N ∧ (n_list X n).length ≤ 8 ∧ (n_down X n).length = (n_list X n).length ∧ (∀ e ∈ n_list X n, e < NE ∧ ∃ t, x_wt T sl ct τ 121 e t) ∧ 0 ≤ n_most X n ∧ n_most X n ≤ 100))
/-- streams' rows as they have to be -/
def nW_ok (co : Nat → Nat) (W : nW) : Prop := ∀ s, (W.1 s).length ≤ 8 ∧ ∀ r ∈ W.1 s, r.length = co s + 1 ∧ r.getD (co s) none ≠ none ∧ ∀ v ∈ r, x_r64 v
section
variable {T : xt} {sl ct : Nat → Int} {X : nt} {W : nW} {NE : Nat} {co : Nat → Nat} {τ : List Int} {l : rwt}
theorem rg_ty1 {m : Nat} (h1 : l.length = m) (h2 : ∀ v ∈ l, x_r64 v) : rg (List.replicate m 1) l := by
  refine ⟨by rw [h1, List.length_replicate], fun k t ht => ?_, h2⟩
  rw [List.getElem?_replicate] at ht
  split at ht
  · cases ht; exact ⟨fun q => absurd q (by decide), fun q => absurd q (by decide)⟩
  · cases ht
theorem rg.app {τ τ' : List Int} {l m : rwt} (h : rg τ l) (h' : rg τ' m) : rg (τ ++ τ') (l ++ m) := by
  refine ⟨by rw [List.length_append, List.length_append, h.1, h'.1], fun k t ht => ?_, fun v hv => ?_⟩
  · rw [List.getD_eq_getElem?_getD, List.getElem?_append, h.1]
    rw [List.getElem?_append] at ht
    by_cases p : k < τ.length
    · rw [if_pos p] at ht ⊢
      rw [← List.getD_eq_getElem?_getD]
      exact h.2.1 k t ht
    · rw [if_neg p] at ht ⊢
      rw [← List.getD_eq_getElem?_getD]
      exact h'.2.1 _ t ht
  · rcases List.mem_append.mp hv with q | q
    · exact h.2.2 v q
    · exact h'.2.2 v q
theorem rg_none {τ : List Int} : rg τ (List.replicate τ.length none) := by
  refine ⟨List.length_replicate, fun k t ht => ?_, fun v hv => ?_⟩
  · rw [List.getD_eq_getElem?_getD, List.getElem?_replicate]
    split
    · exact ⟨fun _ => Or.inl rfl, fun _ => rfl⟩
    · exact ⟨fun _ => Or.inl rfl, fun _ => rfl⟩
  · have := List.eq_of_mem_replicate hv
    subst this
    intro x hx; cases hx
theorem rg.envty (h : rg τ l) : ∀ e t, 0 ≤ sl e → τ[(sl e).toNat]? = some t → t = ct e → x_ty t (x_env sl l e) := fun e t _ h2 _ => h.2.1 _ t h2
theorem rg.evx (h : rg τ l) (hT : x_T64 T) {e : Nat} {t : Int} (hw : x_wt T sl ct τ 121 e t) : x_ty t (ev T (x_env sl l) 121 e) ∧ x_r64 (ev T (x_env sl l) 121 e) := ⟨ev_ty h.envty 121 e t hw, ev_r64 hT h.env 121 e⟩
theorem rg.vals (h : rg τ l) (hT : x_T64 T) : ∀ (es : List Nat) (σ : List Int), x_wts T sl ct τ es σ → rg σ (x_vals T sl es l) := by
  intro es
  induction es with
  | nil => intro σ hs; cases hs; exact ⟨rfl, fun k t ht => by simp at ht, fun v hv => by cases hv⟩
  | cons e es ih =>
    intro σ hs
    obtain ⟨t, σ', h1, h2, rfl⟩ := hs
    have h3 := ih σ' h2
    have h4 := h.evx hT h1
    refine ⟨?_, fun k t' ht => ?_, fun v hv => ?_⟩
    · show (x_vals T sl es l).length + 1 = σ'.length + 1; rw [h3.1]
    · cases k with
      | zero =>
        simp at ht
        subst ht
        show x_ty (t_nn t) (ev T (x_env sl l) 121 e)
        unfold t_nn
        split
        · exact ⟨fun q => absurd q (by decide), fun q => absurd q (by decide)⟩
        · exact h4.1
      | succ k =>
        simp at ht
        exact h3.2.1 k t' ht
    · rcases List.mem_cons.mp hv with q | q
      · subst q; exact h4.2
      · exact h3.2.2 v q
theorem x_wts_len : ∀ (es : List Nat) (σ : List Int), x_wts T sl ct τ es σ → σ.length = es.length := by
  intro es
  induction es with
  | nil => intro σ h; cases h; rfl
  | cons e es ih => intro σ h; obtain ⟨t, σ', h1, h2, rfl⟩ := h; simp [ih σ' h2]
theorem a_fold_mem {op : Int → Int → Int} (ho : ∀ a b, op a b = a ∨ op a b = b) : ∀ (vs : List Int) (acc : Option Int) (x : Int), vs.foldl (a_stp op) acc = some x → x ∈ vs ∨ acc = some x := by
  intro vs
  induction vs with
  | nil => intro acc x h; exact Or.inr h
  | cons v vs ih =>
    intro acc x h
    rcases ih _ x h with q | q
    · exact Or.inl (List.mem_cons_of_mem _ q)
    · cases acc with
      | none => cases q; exact Or.inl List.mem_cons_self
      | some y =>
        simp only [a_stp] at q
        cases q
        rcases ho y v with e | e
        · rw [e]; exact Or.inr rfl
        · rw [e]; exact Or.inl List.mem_cons_self
theorem a_val_r {act : Int} {ex : rwt → Option Int} {L : List rwt} (hL : L.length ≤ 1000000) (he : ∀ r ∈ L, x_r64 (ex r)) : x_r64 (a_val act ex L) := by
  have hfl := List.length_filterMap_le ex L
  have hm : ∀ x ∈ L.filterMap ex, -9223372036854775808 ≤ x ∧ x ≤ 9223372036854775807 := by
    intro x hx
    obtain ⟨r, hr, e⟩ := List.mem_filterMap.mp hx
    exact he r hr x e
  unfold a_val
  split
  · intro x hx; cases hx; omega
  split
  · intro x hx; cases hx; omega
  split
  · split
    · intro x hx; cases hx
    · intro x hx; cases hx; exact am_x_r _
  split
  · intro x hx
    rcases a_fold_mem (fun a b => by omega) _ _ x hx with q | q
    · exact hm x q
    · cases q
  · intro x hx
    rcases a_fold_mem (fun a b => by omega) _ _ x hx with q | q
    · exact hm x q
    · cases q
theorem g_af_perm {aggs : List Nat} {A B : List rwt} (h : A.Perm B) : g_af T sl aggs A = g_af T sl aggs B := by
  unfold g_af
  apply List.map_congr_left
  intro a _
  exact a_val_perm h
theorem j_rows_len {on : rwt → Bool} {isL : Bool} {w : Nat} {L R : List rwt} {Nl Nr : Nat} (hl : L.length ≤ Nl) (hr : R.length ≤ Nr) (h1 : 1 ≤ Nr) : (j_rows on isL w L R).length ≤ Nl * Nr := by
  have key : ∀ K : List rwt, (j_rows on isL w K R).length ≤ K.length * Nr := by
    intro K
    induction K with
    | nil => simp [j_rows]
    | cons a K ih =>
      unfold j_rows at *
      rw [List.flatMap_cons, List.length_append, List.length_cons, Nat.add_mul, Nat.one_mul]
      have : (if (isL && !(R.any (fun b => on (a ++ b)))) = true then [a ++ List.replicate w none] else (R.map (fun b => a ++ b)).filter on).length ≤ Nr := by
        split
        · exact h1
        · have := List.length_filter_le on (R.map (fun b => a ++ b))
          rw [List.length_map] at this
          omega
      omega
  exact Nat.le_trans (key L) (Nat.mul_le_mul_right _ hl)
theorem j_rows_mem {on : rwt → Bool} {isL : Bool} {w : Nat} {L R : List rwt} {x : rwt} (h : x ∈ j_rows on isL w L R) : ∃ a ∈ L, (∃ b ∈ R, x = a ++ b) ∨ x = a ++ List.replicate w none := by
  unfold j_rows at h
  obtain ⟨a, ha, hx⟩ := List.mem_flatMap.mp h
  refine ⟨a, ha, ?_⟩
  split at hx
  · simp at hx; exact Or.inr hx
  · obtain ⟨h1, h2⟩ := List.mem_filter.mp hx
    obtain ⟨b, hb, rfl⟩ := List.mem_map.mp h1
    exact Or.inl ⟨b, hb, rfl⟩
theorem s_rows_len {k : Int} {L R : List rwt} : (s_rows k L R).length ≤ (if k = 8 ∨ k = 9 then L.length else L.length + R.length) := by
  unfold s_rows
  by_cases h8 : k = 8
  · rw [if_pos h8, if_pos (Or.inl h8)]
    exact Nat.le_trans dd_len (List.length_filter_le _ _)
  · rw [if_neg h8]
    by_cases h9 : k = 9
    · rw [if_pos h9, if_pos (Or.inr h9)]
      exact Nat.le_trans dd_len (List.length_filter_le _ _)
    · rw [if_neg h9, if_neg (by omega)]
      have := dd_len (L := L ++ R)
      rw [List.length_append] at this
      exact this
theorem g_rows_len {kf : rwt → rwt} {nk : Nat} {af : List rwt → rwt} {L : List rwt} {N : Nat} (h : L.length ≤ N) (h1 : 1 ≤ N) : (g_rows kf nk af L).length ≤ N := by
  unfold g_rows g_keys
  rw [List.length_map]
  split
  · exact h1
  · have := dd_len (L := L.map kf)
    rw [List.length_map] at this
    omega
/-- rows are of their types, and no more than so many -/
theorem NL_ok (hT : x_T64 T) (hW : nW_ok co W) : ∀ (f : Nat) (n : Int) (τ : List Int) (N : Nat), N ≤ 1000000 → n_wt T sl ct NE X co f n τ N → (NL T sl X W f n).length ≤ N ∧ ∀ r ∈ NL T sl X W f n, rg τ r := by
  intro f
  induction f with
  | zero => intro n τ N _ h; exact h.elim
  | succ f ih =>
    intro n τ N hN h
    obtain ⟨h24, h1N, h⟩ := h
    rcases h with ⟨hk, hs0, rfl, rfl, -⟩ | ⟨hk, τl, τr, Nl, Nr, hl, hr, rfl, rfl, hw, hc0, hc1, t, ht, ht1⟩ | ⟨hk, hl, hc0, hc1, t, ht, ht1⟩ | ⟨hk, τl, hl, h8, hlt, hx⟩ | ⟨hk, τl, σ, hl, h8, h12, hlt, ha, hx, rfl⟩ | ⟨hk, hl⟩ | ⟨hk, Nl, Nr, hl, hr, rfl⟩ | ⟨hk, Nr, hl, hr⟩ | ⟨hk, hl, h8, hd, he, hm0, hm1⟩
    · rw [NL_0 hk]
      refine ⟨Nat.le_trans (List.length_filter_le _ _) (hW _).1, fun r hr => ?_⟩
      have := (hW (n_strm X n).toNat).2 r (List.mem_filter.mp hr).1
      exact rg_ty1 this.1 this.2.2
    · have p1 : 1 ≤ Nl := by
        cases Nl with
        | zero => simp at h1N
        | succ k => omega
      have p2 : 1 ≤ Nr := by
        cases Nr with
        | zero => simp at h1N
        | succ k => omega
      have q1 : Nl ≤ Nl * Nr := Nat.le_mul_of_pos_right _ p2
      have q2 : Nr ≤ Nl * Nr := Nat.le_mul_of_pos_left _ p1
      obtain ⟨a1, a2⟩ := ih _ _ _ (by omega) hl
      obtain ⟨b1, b2⟩ := ih _ _ _ (by omega) hr
      rw [NL_1 hk]
      refine ⟨j_rows_len a1 b1 p2, fun r hr => ?_⟩
      obtain ⟨a, ha, q⟩ := j_rows_mem hr
      rcases q with ⟨b, hb, rfl⟩ | rfl
      · exact (a2 a ha).app (b2 b hb)
      · refine (a2 a ha).app ?_
        have : (n_wide X n).toNat = τr.length := by omega
        rw [this]
        exact rg_none
    · obtain ⟨a1, a2⟩ := ih _ _ _ hN hl
      rw [NL_2 hk]
      exact ⟨Nat.le_trans (List.length_filter_le _ _) a1, fun r hr => a2 r (List.mem_filter.mp hr).1⟩
    · obtain ⟨a1, a2⟩ := ih _ _ _ hN hl
      rw [NL_3 hk]
      refine ⟨by rw [List.length_map]; exact a1, fun r hr => ?_⟩
      obtain ⟨x, hx1, rfl⟩ := List.mem_map.mp hr
      exact (a2 x hx1).vals hT _ _ hx
    · obtain ⟨a1, a2⟩ := ih _ _ _ hN hl
      rw [NL_4 hk]
      refine ⟨g_rows_len a1 h1N, fun r hr => ?_⟩
      unfold g_rows at hr
      obtain ⟨k, hk1, rfl⟩ := List.mem_map.mp hr
      have hgo : ∀ x ∈ g_of (x_vals T sl (n_list X n)) (NL T sl X W f (n_left X n)) k, rg τl x := fun x hx2 => a2 x (List.mem_filter.mp hx2).1
      refine rg.app ?_ ?_
      · unfold g_keys at hk1
        split at hk1
        · rename_i e0
          have e1 : n_list X n = [] := List.length_eq_zero_iff.mp e0
          rw [e1] at hx
          cases hx
          simp at hk1
          subst hk1
          exact ⟨rfl, fun k t ht => by simp at ht, fun v hv => by cases hv⟩
        · rw [dd_mem] at hk1
          obtain ⟨x, hx1, rfl⟩ := List.mem_map.mp hk1
          exact (a2 x hx1).vals hT _ _ hx
      · refine rg_ty1 (by unfold g_af; rw [List.length_map]) (fun v hv => ?_)
        unfold g_af at hv
        obtain ⟨a, ha1, rfl⟩ := List.mem_map.mp hv
        refine a_val_r ?_ (fun r hr1 => ev_r64 hT ((hgo r hr1).env) 121 _)
        have := List.length_filter_le (fun x => decide (x_vals T sl (n_list X n) x = k)) (NL T sl X W f (n_left X n))
        unfold g_of
        omega
    · obtain ⟨a1, a2⟩ := ih _ _ _ hN hl
      rw [NL_5 hk]
      refine ⟨Nat.le_trans s_rows_len (by rw [if_neg (by decide)]; simpa using a1), fun r hr => ?_⟩
      rw [s_rows_mem] at hr
      unfold s_in at hr
      rw [if_neg (by decide), if_neg (by decide)] at hr
      rcases hr with q | q
      · exact a2 r q
      · cases q
    · obtain ⟨a1, a2⟩ := ih _ _ _ (by omega) hl
      obtain ⟨b1, b2⟩ := ih _ _ _ (by omega) hr
      rcases hk with hk | hk
      · rw [NL_6 hk]
        refine ⟨by rw [List.length_append]; omega, fun r hr => ?_⟩
        rcases List.mem_append.mp hr with q | q
        · exact a2 r q
        · exact b2 r q
      · rw [NL_s (by omega)]
        refine ⟨Nat.le_trans s_rows_len (by rw [if_neg (by omega)]; omega), fun r hr => ?_⟩
        rw [s_rows_mem] at hr
        unfold s_in at hr
        rw [if_neg (by omega), if_neg (by omega)] at hr
        rcases hr with q | q
        · exact a2 r q
        · exact b2 r q
    · obtain ⟨a1, a2⟩ := ih _ _ _ hN hl
      rw [NL_s (by omega)]
      refine ⟨Nat.le_trans s_rows_len (by rw [if_pos hk]; exact a1), fun r hr => ?_⟩
      rw [s_rows_mem] at hr
      unfold s_in at hr
      rcases hk with hk | hk
      · rw [if_pos hk] at hr; exact a2 r hr.1
      · rw [if_neg (by omega), if_pos hk] at hr; exact a2 r hr.1
    · obtain ⟨a1, a2⟩ := ih _ _ _ hN hl
      rw [NL_10 hk]
      refine ⟨?_, fun r hr => ?_⟩
      · rw [List.length_take, (o_srt_perm (cmp := o_cmp T sl ((n_list X n).zip (n_down X n)))).length_eq]; omega
      · exact a2 r (o_srt_perm.mem_iff.mp (List.mem_of_mem_take hr))
end
