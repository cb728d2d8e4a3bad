set_option maxRecDepth 100000
/-! the acts on relations, pure, and what they make of differences -/
def x_tr (T : xt) (sl : Nat → Int) (e : Nat) (l : rwt) : Bool := decide (ev T (x_env sl l) 121 e = some 1)
def x_vals (T : xt) (sl : Nat → Int) (es : List Nat) (l : rwt) : rwt := es.map (fun e => ev T (x_env sl l) 121 e)
def j_in (on : rwt → Bool) (L R : List rwt) : List rwt := L.flatMap (fun a => (R.map (fun b => a ++ b)).filter on)
def j_al (on : rwt → Bool) (w : Nat) (L R : List rwt) : List rwt := (L.filter (fun a => !(R.any (fun b => on (a ++ b))))).map (fun a => a ++ List.replicate w none)
def j_rows (on : rwt → Bool) (isL : Bool) (w : Nat) (L R : List rwt) : List rwt := L.flatMap (fun a => if isL && !(R.any (fun b => on (a ++ b))) then [a ++ List.replicate w none] else (R.map (fun b => a ++ b)).filter on)
def dda : List rwt → List rwt → List rwt
  | acc, [] => acc
  | acc, x :: L => if x ∈ acc then dda acc L else dda (acc ++ [x]) L
def dd (L : List rwt) : List rwt := dda [] L
section
variable {on p : rwt → Bool} {f : rwt → rwt} {g : rwt → Int} {A A' B B' L L' R R' : List rwt} {l x : rwt} {D DA DB BA BB O O' : List (rwt × Int)} {w : Nat}
theorem f_df (h : b_df DA A' A) (hd : ∀ g, b_s g D = b_s (fun x => if p x then g x else 0) DA) : b_df D (A'.filter p) (A.filter p) := by
  intro g; rw [hd, h, ls_filter, ls_filter]
theorem p_df (h : b_df DA A' A) (hd : ∀ g, b_s g D = b_s (fun x => g (f x)) DA) : b_df D (A'.map f) (A.map f) := by
  intro g; rw [hd, h, ls_map, ls_map]
theorem a_df (ha : b_df DA A' A) (hb : b_df DB B' B) (hd : ∀ g, b_s g D = b_s g DA + b_s g DB) : b_df D (A' ++ B') (A ++ B) := by
  intro g; rw [hd, ha, hb, ls_app, ls_app]; omega
theorem j_in_ls : ls g (j_in on L R) = ls (fun a => ls (fun b => if on (a ++ b) then g (a ++ b) else 0) R) L := by
  unfold j_in
  rw [ls_flat]
  refine ls_congr (fun a _ => ?_)
  rw [ls_filter]
  have : ∀ K : List rwt, ls (fun x => if on x then g x else 0) (K.map (fun b => a ++ b)) = ls (fun b => if on (a ++ b) then g (a ++ b) else 0) K := fun K => ls_map
  exact this R
theorem j_al_ls : ls g (j_al on w L R) = ls (fun a => if R.any (fun b => on (a ++ b)) then 0 else g (a ++ List.replicate w none)) L := by
  unfold j_al
  have : ∀ K : List rwt, ls g (K.map (fun a => a ++ List.replicate w none)) = ls (fun a => g (a ++ List.replicate w none)) K := fun K => ls_map
  rw [this, ls_filter]
  refine ls_congr (fun a _ => ?_)
  cases R.any (fun b => on (a ++ b)) <;> rfl
theorem j_rows_ls {isL : Bool} : ls g (j_rows on isL w L R) = ls g (j_in on L R) + (if isL then ls g (j_al on w L R) else 0) := by
  unfold j_rows j_in
  rw [ls_flat, ls_flat]
  cases isL with
  | false => rw [if_neg (by decide)]; simp only [Bool.false_and, Bool.false_eq_true, if_false]; omega
  | true =>
    rw [if_pos rfl, j_al_ls, ← ls_add]
    refine ls_congr (fun a _ => ?_)
    simp only [Bool.true_and]
    cases hc : R.any (fun b => on (a ++ b)) with
    | true => simp
    | false =>
      simp only [Bool.not_false, if_true, ls]
      have : (R.map (fun b => a ++ b)).filter on = [] := by
        rw [List.filter_eq_nil_iff]
        intro y hy
        obtain ⟨b, hb, rfl⟩ := List.mem_map.mp hy
        rw [List.any_eq_false] at hc
        exact hc b hb
      rw [this]
      simp [ls]
/-- products of bags -/
def b_pr (on : rwt → Bool) (g : rwt → Int) (A B : List (rwt × Int)) : Int := b_s (fun a => b_s (fun b => if on (a ++ b) then g (a ++ b) else 0) B) A
theorem j_df (ha : b_df DA A' A) (hb : b_df DB B' B) (ia : b_is BA A') (ib : b_is BB B') (hd : ∀ g, b_s g D = b_pr on g DA BB + b_pr on g BA DB - b_pr on g DA DB) : b_df D (j_in on A' B') (j_in on A B) := by
  intro g
  rw [hd, j_in_ls, j_in_ls]
  unfold b_pr
  have e1 : b_s (fun a => b_s (fun b => if on (a ++ b) then g (a ++ b) else 0) BB) DA = b_s (fun a => ls (fun b => if on (a ++ b) then g (a ++ b) else 0) B') DA := b_s_congr (fun e _ => ib _)
  have e2 : ∀ K : List (rwt × Int), b_s (fun a => b_s (fun b => if on (a ++ b) then g (a ++ b) else 0) DB) K = b_s (fun a => ls (fun b => if on (a ++ b) then g (a ++ b) else 0) B') K - b_s (fun a => ls (fun b => if on (a ++ b) then g (a ++ b) else 0) B) K := by
    intro K
    rw [← b_s_sub]
    exact b_s_congr (fun e _ => hb _)
  rw [e1, e2, e2, ha, ha, ia, ia]
  omega
/-! each once -/
theorem dda_mem : ∀ (L acc : List rwt), x ∈ dda acc L ↔ x ∈ acc ∨ x ∈ L := by
  intro L
  induction L with
  | nil => intro acc; simp [dda]
  | cons y L ih =>
    intro acc
    unfold dda
    split
    · rename_i h
      rw [ih, List.mem_cons]
      constructor
      · rintro (q | q)
        · exact Or.inl q
        · exact Or.inr (Or.inr q)
      · rintro (q | q | q)
        · exact Or.inl q
        · subst q; exact Or.inl h
        · exact Or.inr q
    · rw [ih, List.mem_append, List.mem_singleton, List.mem_cons, or_assoc]
theorem dda_nd : ∀ (L acc : List rwt), acc.Nodup → (dda acc L).Nodup := by
  intro L
  induction L with
  | nil => intro acc h; exact h
  | cons y L ih =>
    intro acc h
    unfold dda
    split
    · exact ih acc h
    · rename_i hy
      refine ih _ ?_
      rw [List.nodup_append]
      refine ⟨h, by simp, fun a ha b hb => ?_⟩
      simp at hb
      subst hb
      intro e
      subst e
      exact hy ha
theorem dd_mem : x ∈ dd L ↔ x ∈ L := by unfold dd; rw [dda_mem]; simp
theorem dd_nd : (dd L).Nodup := dda_nd L [] List.nodup_nil
theorem dda_app : ∀ (L M acc : List rwt), dda acc (L ++ M) = dda (dda acc L) M := by
  intro L
  induction L with
  | nil => intro M acc; rfl
  | cons y L ih =>
    intro M acc
    simp only [List.cons_append, dda]
    split
    · exact ih M acc
    · exact ih M _
theorem dd_len : (dd L).length ≤ L.length := nd_len _ _ dd_nd (fun _ h => dd_mem.mp h)
/-- a row's place in a set of two -/
def s_in (k : Int) (L R : List rwt) (l : rwt) : Prop := if k = 8 then l ∈ L ∧ l ∉ R else if k = 9 then l ∈ L ∧ l ∈ R else l ∈ L ∨ l ∈ R
def s_rows (k : Int) (L R : List rwt) : List rwt := if k = 8 then dd (L.filter (fun x => decide (x ∉ R))) else if k = 9 then dd (L.filter (fun x => decide (x ∈ R))) else dd (L ++ R)
theorem s_rows_mem {k : Int} : l ∈ s_rows k L R ↔ s_in k L R l := by
  unfold s_rows s_in
  split
  · rw [dd_mem, List.mem_filter]; simp
  · split
    · rw [dd_mem, List.mem_filter]; simp
    · rw [dd_mem, List.mem_append]
theorem s_rows_nd {k : Int} : (s_rows k L R).Nodup := by
  unfold s_rows
  split
  · exact dd_nd
  · split
    · exact dd_nd
    · exact dd_nd
theorem s_rows_ls {k : Int} : ls (r_ind l) (s_rows k L R) = if l ∈ s_rows k L R then 1 else 0 := ls_ind_nd s_rows_nd
/-- rows that weren't touched are there as they were -/
theorem s_df {k : Int} {wa wb : Nat} (ha : b_df DA A' A) (hb : b_df DB B' B) (sa : b_ok wa DA) (sb : b_ok wb DB) (hd1 : ∀ l, ((∃ n, (l, n) ∈ DA) ∨ ∃ n, (l, n) ∈ DB) → b_s (r_ind l) D = (if l ∈ s_rows k A' B' then 1 else 0) - (if l ∈ s_rows k A B then 1 else 0)) (hd2 : ∀ l, (∀ n, (l, n) ∉ DA) → (∀ n, (l, n) ∉ DB) → b_s (r_ind l) D = 0) : b_df D (s_rows k A' B') (s_rows k A B) := by
  refine b_df_of (fun l => ?_)
  rw [s_rows_ls, s_rows_ls]
  by_cases p : (∃ n, (l, n) ∈ DA) ∨ ∃ n, (l, n) ∈ DB
  · exact hd1 l p
  · have pa : ∀ n, (l, n) ∉ DA := fun n q => p (Or.inl ⟨n, q⟩)
    have pb : ∀ n, (l, n) ∉ DB := fun n q => p (Or.inr ⟨n, q⟩)
    rw [hd2 l pa pb]
    have ea := ha.no sa pa
    have eb := hb.no sb pb
    have ma : l ∈ A' ↔ l ∈ A := by rw [← ls_ind_mem, ← ls_ind_mem, ea]
    have mb : l ∈ B' ↔ l ∈ B := by rw [← ls_ind_mem, ← ls_ind_mem, eb]
    have : l ∈ s_rows k A' B' ↔ l ∈ s_rows k A B := by
      rw [s_rows_mem, s_rows_mem]
      unfold s_in
      rw [ma, mb]
    by_cases q : l ∈ s_rows k A B
    · rw [if_pos q, if_pos (this.mpr q)]; rfl
    · rw [if_neg q, if_neg (fun u => q (this.mp u))]; rfl
end
/-! groups -/
def g_keys (kf : rwt → rwt) (nk : Nat) (L : List rwt) : List rwt := if nk = 0 then [[]] else dd (L.map kf)
def g_of (kf : rwt → rwt) (L : List rwt) (k : rwt) : List rwt := L.filter (fun x => decide (kf x = k))
def g_rows (kf : rwt → rwt) (nk : Nat) (af : List rwt → rwt) (L : List rwt) : List rwt := (g_keys kf nk L).map (fun k => k ++ af (g_of kf L k))
section
variable {kf : rwt → rwt} {nk : Nat} {af : List rwt → rwt} {A A' L : List rwt} {l k : rwt} {D DA : List (rwt × Int)} {w : Nat}
theorem g_keys_nd : (g_keys kf nk L).Nodup := by
  unfold g_keys
  split
  · simp
  · exact dd_nd
theorem g_keys_len (hk : ∀ x ∈ L, (kf x).length = nk) (h : k ∈ g_keys kf nk L) : k.length = nk := by
  unfold g_keys at h
  split at h
  · rename_i e; simp at h; subst h; exact e.symm
  · rw [dd_mem] at h
    obtain ⟨x, hx, rfl⟩ := List.mem_map.mp h
    exact hk x hx
theorem g_rows_mem (hk : ∀ x ∈ L, (kf x).length = nk) (hkl : k.length = nk) {t : rwt} : k ++ t ∈ g_rows kf nk af L ↔ k ∈ g_keys kf nk L ∧ t = af (g_of kf L k) := by
  unfold g_rows
  rw [List.mem_map]
  constructor
  · rintro ⟨k', hk', e⟩
    have h1 := g_keys_len hk hk'
    have := List.append_inj e (by omega)
    obtain ⟨e1, e2⟩ := this
    subst e1
    exact ⟨hk', e2.symm⟩
  · rintro ⟨h1, h2⟩
    exact ⟨k, h1, by rw [h2]⟩
theorem g_rows_nd (hk : ∀ x ∈ L, (kf x).length = nk) : (g_rows kf nk af L).Nodup := by
  unfold g_rows List.Nodup
  rw [List.pairwise_map]
  refine (g_keys_nd (kf := kf) (nk := nk) (L := L)).imp_of_mem (fun {a b} ha hb hne e => ?_)
  have h1 := g_keys_len hk ha
  have h2 := g_keys_len hk hb
  exact hne (List.append_inj e (by omega)).1
theorem g_keys_mem (h0 : nk ≠ 0) : k ∈ g_keys kf nk L ↔ g_of kf L k ≠ [] := by
  unfold g_keys g_of
  rw [if_neg h0, dd_mem, List.mem_map]
  constructor
  · rintro ⟨x, hx, e⟩ q
    rw [List.filter_eq_nil_iff] at q
    exact q x hx (by simp [e])
  · intro q
    obtain ⟨x, hx⟩ := List.exists_mem_of_ne_nil _ q
    rw [List.mem_filter] at hx
    exact ⟨x, hx.1, by simpa using hx.2⟩
/-- a group that no touched row has: its rows are the same -/
theorem g_same (ha : b_df DA A' A) (hk : ∀ n x, (x, n) ∈ DA → kf x ≠ k) : (g_of kf A' k).Perm (g_of kf A k) := by
  refine ls_perm_of (fun g => ?_)
  unfold g_of
  rw [ls_filter, ls_filter]
  have h := ha (fun x => if decide (kf x = k) then g x else 0)
  have h0 : b_s (fun x => if decide (kf x = k) then g x else 0) DA = 0 := by
    have : b_s (fun x => if decide (kf x = k) then g x else 0) DA = b_s (fun _ => 0) DA := b_s_congr (fun e he => by
      have := hk e.2 e.1 he
      simp [this])
    rw [this]
    clear this h ha hk
    induction DA with
    | nil => rfl
    | cons e D ih => obtain ⟨x, n⟩ := e; simp only [b_s, ih]; omega
  omega
theorem g_df (hp : ∀ A B : List rwt, A.Perm B → af A = af B) (ha : b_df DA A' A) (hk' : ∀ x ∈ A', (kf x).length = nk) (hk : ∀ x ∈ A, (kf x).length = nk) (tk : rwt → Prop) (ht : ∀ k, ¬ tk k → ∀ n x, (x, n) ∈ DA → kf x ≠ k)
    (hd1 : ∀ k t, k.length = nk → tk k → b_s (r_ind (k ++ t)) D = (if k ∈ g_keys kf nk A' ∧ t = af (g_of kf A' k) then 1 else 0) - (if k ++ t ∈ g_rows kf nk af A then 1 else 0)) (hd2 : ∀ k t, k.length = nk → ¬ tk k → b_s (r_ind (k ++ t)) D = 0) (hd3 : ∀ l : rwt, l.length < nk → b_s (r_ind l) D = 0) : b_df D (g_rows kf nk af A') (g_rows kf nk af A) := by
  refine b_df_of (fun l => ?_)
  rw [ls_ind_nd (g_rows_nd hk'), ls_ind_nd (g_rows_nd hk)]
  by_cases hl : l.length < nk
  · rw [hd3 l hl, if_neg, if_neg]
    · rfl
    · intro q
      unfold g_rows at q
      obtain ⟨k, h1, rfl⟩ := List.mem_map.mp q
      have := g_keys_len hk h1
      rw [List.length_append] at hl; omega
    · intro q
      unfold g_rows at q
      obtain ⟨k, h1, rfl⟩ := List.mem_map.mp q
      have := g_keys_len hk' h1
      rw [List.length_append] at hl; omega
  · have e : l = l.take nk ++ l.drop nk := (List.take_append_drop nk l).symm
    have hlen : (l.take nk).length = nk := by rw [List.length_take]; omega
    generalize l.take nk = k at *
    generalize l.drop nk = t at *
    subst e
    by_cases q : tk k
    · rw [hd1 k t hlen q]
      have := g_rows_mem (af := af) hk' hlen (t := t)
      by_cases u : k ++ t ∈ g_rows kf nk af A'
      · rw [if_pos u, if_pos (this.mp u)]
      · rw [if_neg u, if_neg (fun v => u (this.mpr v))]
    · rw [hd2 k t hlen q]
      have hs := g_same ha (ht k q)
      have h1 := g_rows_mem (af := af) hk' hlen (t := t)
      have h2 := g_rows_mem (af := af) hk hlen (t := t)
      have h3 : k ∈ g_keys kf nk A' ↔ k ∈ g_keys kf nk A := by
        by_cases h0 : nk = 0
        · unfold g_keys; rw [if_pos h0, if_pos h0]
        · rw [g_keys_mem h0, g_keys_mem h0]
          constructor
          · intro u v; rw [v] at hs; exact u (List.Perm.eq_nil hs)
          · intro u v; rw [v] at hs; exact u (List.Perm.eq_nil hs.symm)
      have : k ++ t ∈ g_rows kf nk af A' ↔ k ++ t ∈ g_rows kf nk af A := by rw [h1, h2, h3, hp _ _ hs]
      by_cases u : k ++ t ∈ g_rows kf nk af A
      · rw [if_pos u, if_pos (this.mpr u)]; rfl
      · rw [if_neg u, if_neg (fun v => u (this.mp v))]; rfl
end
