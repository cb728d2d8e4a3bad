set_option maxRecDepth 100000
/-! what readers of expressions add, pure -/
def x_p0 (T : xt) (K lo e : Nat) : Prop :=
  ((x_act T e = 0 ∨ x_act T e = 1 ∨ (x_act T e = 2 ∧ (x_v T e = 0 ∨ x_v T e = 1))))
  ∨ (x_act T e = 3 ∧ 0 ≤ x_a T e ∧ x_a T e ≤ K ∧ (x_b T e = -1 ∨ (0 ≤ x_b T e ∧ x_b T e ≤ K)))
  ∨ (x_two (x_act T e) ∧ (lo ≤ x_a T e ∧ x_a T e < e) ∧ (lo ≤ x_b T e ∧ x_b T e < e))
  ∨ ((x_act T e = 6 ∨ x_act T e = 13 ∨ x_act T e = 14 ∨ x_act T e = 22) ∧ (lo ≤ x_a T e ∧ x_a T e < e) ∧ x_b T e = -1)
  ∨ ((x_act T e = 15 ∨ x_act T e = 16) ∧ (lo ≤ x_a T e ∧ x_a T e < e) ∧ ∃ L : List Nat, L ≠ [] ∧ L.length ≤ 8 ∧ x_li T (x_b T e) L ∧ ∀ q ∈ L, lo ≤ q ∧ q < e)
  ∨ (x_act T e = 23 ∧ (lo ≤ x_a T e ∧ x_a T e < e) ∧ (lo ≤ x_b T e ∧ x_b T e < e) ∧ (lo ≤ x_c T e ∧ x_c T e < e))
/-- a tree without aggregates -/
def x_na (T : xt) (K lo x : Nat) : Prop := lo ≤ x ∧ ∀ e, lo ≤ e → e ≤ x → x_act T e < 25 ∧ x_p0 T K lo e
def x_p (T : xt) (K lo e : Nat) : Prop := (x_act T e < 25 → x_p0 T K lo e) ∧ x_act T e ≤ 29 ∧ (26 ≤ x_act T e → ∃ l x : Nat, x_a T e = x ∧ lo ≤ l ∧ x < e ∧ x_na T K l x)
section
variable {T T' : xt} {K lo lo' e : Nat}
theorem x_li_congr : ∀ (L : List Nat) (q : Int), (∀ i ∈ L, x_n T' i = x_n T i) → x_li T q L → x_li T' q L := by
  intro L
  induction L with
  | nil => intro q _ h; exact h
  | cons k L ih =>
    intro q hi h
    obtain ⟨h1, h2⟩ := h
    refine ⟨h1, ?_⟩
    rw [hi k List.mem_cons_self]
    exact ih _ (fun i hi' => hi i (List.mem_cons_of_mem _ hi')) h2
theorem x_p0.congr (h : x_p0 T K lo e) (ha : x_act T' e = x_act T e ∧ x_a T' e = x_a T e ∧ x_b T' e = x_b T e ∧ x_c T' e = x_c T e ∧ x_v T' e = x_v T e) (hlt : ∀ i, lo ≤ i → i < e → x_n T' i = x_n T i) (hl : lo' ≤ lo) : x_p0 T' K lo' e := by
  obtain ⟨e1, e2, e3, e4, e5⟩ := ha
  unfold x_p0 at h ⊢
  rw [e1, e2, e3, e4, e5]
  rcases h with h | h | h | h | ⟨h1, h2, L, h3, h4, h5, h6⟩ | h
  · exact Or.inl h
  · exact Or.inr (Or.inl h)
  · exact Or.inr (Or.inr (Or.inl ⟨h.1, by omega, by omega⟩))
  · exact Or.inr (Or.inr (Or.inr (Or.inl ⟨h.1, by omega, h.2.2⟩)))
  · exact Or.inr (Or.inr (Or.inr (Or.inr (Or.inl ⟨h1, by omega, L, h3, h4, x_li_congr L _ (fun i hi => hlt i (h6 i hi).1 (h6 i hi).2) h5, fun q hq => by have := h6 q hq; omega⟩))))
  · exact Or.inr (Or.inr (Or.inr (Or.inr (Or.inr ⟨h.1, by omega, by omega, by omega⟩))))
theorem x_na.congr {x : Nat} (h : x_na T K lo x) (he : ∀ i, i ≤ x → x_act T' i = x_act T i ∧ x_a T' i = x_a T i ∧ x_b T' i = x_b T i ∧ x_c T' i = x_c T i ∧ x_v T' i = x_v T i) (hn : ∀ i, lo ≤ i → i < x → x_n T' i = x_n T i) : x_na T' K lo x := by
  refine ⟨h.1, fun i h1 h2 => ?_⟩
  obtain ⟨g1, g2⟩ := h.2 i h1 h2
  refine ⟨by rw [(he i h2).1]; exact g1, g2.congr (he i h2) (fun j hj1 hj => hn j hj1 (by omega)) (Nat.le_refl _)⟩
theorem x_p.congr (h : x_p T K lo e) (he : ∀ i, i ≤ e → x_act T' i = x_act T i ∧ x_a T' i = x_a T i ∧ x_b T' i = x_b T i ∧ x_c T' i = x_c T i ∧ x_v T' i = x_v T i) (hn : ∀ i, lo ≤ i → i < e → x_n T' i = x_n T i) (hl : lo' ≤ lo) : x_p T' K lo' e := by
  have ee := he e (Nat.le_refl e)
  refine ⟨fun q => (h.1 (by rw [← ee.1]; exact q)).congr ee hn hl, by rw [ee.1]; exact h.2.1, fun q => ?_⟩
  rw [ee.1] at q
  obtain ⟨l, x, h1, h2, h3, h4⟩ := h.2.2 q
  exact ⟨l, x, by rw [ee.2.1]; exact h1, by omega, h3, h4.congr (fun i hi => he i (by omega)) (fun i hi1 hi => hn i (by omega) (by omega))⟩
theorem x_p.of_eq (h : x_p T K lo e) (he : ∀ i, i ≤ e → T' i = T i) (hl : lo' ≤ lo) : x_p T' K lo' e :=
  h.congr (fun i hi => by unfold x_act x_a x_b x_c x_v; rw [he i hi]; exact ⟨rfl, rfl, rfl, rfl, rfl⟩) (fun i _ hi => by unfold x_n; rw [he i (by omega)]) hl
end
/-- who stands right above -/
def x_kid (T : xt) (a e : Nat) : Prop := 4 ≤ x_act T a ∧ x_act T a ≤ 29 ∧ (x_a T a = e ∨ ((x_act T a = 15 ∨ x_act T a = 16) ∧ ∃ L : List Nat, x_li T (x_b T a) L ∧ e ∈ L ∧ ∀ i ∈ L, i < a) ∨ (x_act T a ≠ 15 ∧ x_act T a ≠ 16 ∧ x_b T a = e) ∨ (x_act T a = 23 ∧ x_c T a = e))
/-- each has one above it, but for some -/
def xo (T : xt) (lo hi : Nat) (R : Nat → Prop) : Prop := ∀ e, lo ≤ e → e < hi → R e ∨ ∃ a, e < a ∧ a < hi ∧ x_kid T a e
section
variable {T T' : xt} {K lo m hi a e : Nat} {R R' : Nat → Prop} {r : Int × Int × Int × Int × Int × Int}
theorem x_kid.congr (h : x_kid T a e) (ha : x_act T' a = x_act T a ∧ x_a T' a = x_a T a ∧ x_b T' a = x_b T a ∧ x_c T' a = x_c T a) (hn : ∀ L : List Nat, x_li T (x_b T a) L → (x_act T a = 15 ∨ x_act T a = 16) → (∀ i ∈ L, i < a) → ∀ i ∈ L, x_n T' i = x_n T i) : x_kid T' a e := by
  obtain ⟨h1, h2, h3⟩ := h
  obtain ⟨e1, e2, e3, e4⟩ := ha
  unfold x_kid
  rw [e1, e2, e3, e4]
  refine ⟨h1, h2, ?_⟩
  rcases h3 with h3 | ⟨h3, L, h4, h5, h6⟩ | h3 | h3
  · exact Or.inl h3
  · exact Or.inr (Or.inl ⟨h3, L, x_li_congr L _ (hn L h4 h3 h6) h4, h5, h6⟩)
  · exact Or.inr (Or.inr (Or.inl h3))
  · exact Or.inr (Or.inr (Or.inr h3))
theorem x_kid.of_eq (h : x_kid T a e) (he : ∀ i, i ≤ a → T' i = T i) : x_kid T' a e :=
  h.congr (by unfold x_act x_a x_b x_c; rw [he a (Nat.le_refl _)]; exact ⟨rfl, rfl, rfl, rfl⟩) (fun L _ _ h2 i hi => by unfold x_n; rw [he i (by have := h2 i hi; omega)])
theorem x_li_uq : ∀ (L L' : List Nat) (q : Int), x_li T q L → x_li T q L' → L = L' := by
  intro L
  induction L with
  | nil =>
    intro L' q h h'
    cases L' with
    | nil => rfl
    | cons k L' => have h : q < 0 := h; have h' := h'.1; omega
  | cons k L ih =>
    intro L' q h h'
    cases L' with
    | nil => have h' : q < 0 := h'; have h := h.1; omega
    | cons k' L' =>
      obtain ⟨h1, h2⟩ := h
      obtain ⟨h1', h2'⟩ := h'
      have : k = k' := by omega
      subst this
      rw [ih L' _ h2 h2']
theorem xo.of_eq (h : xo T lo hi R) (he : ∀ i, i < hi → T' i = T i) : xo T' lo hi R := by
  intro e h1 h2
  rcases h e h1 h2 with q | ⟨a, q1, q2, q3⟩
  · exact Or.inl q
  · exact Or.inr ⟨a, q1, q2, q3.of_eq (fun i hi => he i (by omega))⟩
theorem xo.mono (h : xo T lo hi R) (hr : ∀ e, R e → R' e) : xo T lo hi R' := fun e h1 h2 => (h e h1 h2).imp (hr e) id
theorem xo.nil (T : xt) (lo : Nat) (R : Nat → Prop) : xo T lo lo R := fun e h1 h2 => by omega
theorem xo.app (h1 : xo T lo m R) (h2 : xo T m hi R') (hm : m ≤ hi) : xo T lo hi (fun e => R e ∨ R' e) := by
  intro e g1 g2
  by_cases c : e < m
  · rcases h1 e g1 c with q | ⟨a, q1, q2, q3⟩
    · exact Or.inl (Or.inl q)
    · exact Or.inr ⟨a, q1, by omega, q3⟩
  · rcases h2 e (by omega) g2 with q | ⟨a, q1, q2, q3⟩
    · exact Or.inl (Or.inr q)
    · exact Or.inr ⟨a, q1, q2, q3⟩
/-- one more above them all -/
theorem xo.add (h : xo T lo hi R) (hk : ∀ e, R e → lo ≤ e → e < hi → x_kid (x_up T hi r) hi e) : xo (x_up T hi r) lo (hi + 1) (fun e => e + 1 = hi + 1) := by
  intro e g1 g2
  by_cases c : e = hi
  · exact Or.inl (by omega)
  · rcases h e g1 (by omega) with q | ⟨a, q1, q2, q3⟩
    · exact Or.inr ⟨hi, by omega, by omega, hk e q g1 (by omega)⟩
    · exact Or.inr ⟨a, q1, by omega, q3.of_eq (fun i hi' => x_up_ne _ (by omega))⟩
theorem x_kid_a (h : 4 ≤ r.1 ∧ r.1 ≤ 24) (hk : r.2.1 = (e : Int)) : x_kid (x_up T hi r) hi e := by
  unfold x_kid x_act x_a
  rw [x_up_eq]
  exact ⟨h.1, by omega, Or.inl hk⟩
theorem x_kid_g (h : 26 ≤ r.1 ∧ r.1 ≤ 29) (hk : r.2.1 = (e : Int)) : x_kid (x_up T hi r) hi e := by
  unfold x_kid x_act x_a
  rw [x_up_eq]
  exact ⟨by omega, h.2, Or.inl hk⟩
theorem x_kid_b (h : 4 ≤ r.1 ∧ r.1 ≤ 24 ∧ r.1 ≠ 15 ∧ r.1 ≠ 16) (hk : r.2.2.1 = (e : Int)) : x_kid (x_up T hi r) hi e := by
  unfold x_kid x_act x_b
  rw [x_up_eq]
  exact ⟨h.1, by omega, Or.inr (Or.inr (Or.inl ⟨h.2.2.1, h.2.2.2, hk⟩))⟩
theorem x_kid_c (h : r.1 = 23) (hk : r.2.2.2.1 = (e : Int)) : x_kid (x_up T hi r) hi e := by
  unfold x_kid x_act x_c
  rw [x_up_eq]
  exact ⟨by omega, by omega, Or.inr (Or.inr (Or.inr ⟨h, hk⟩))⟩
end
/-- what stood stays, what comes stands behind lo -/
def eY (K lo : Nat) (V V' : pV) : Prop := vA V ≤ vA V' ∧ vN V ≤ vN V' ∧ (∀ e, e < vN V → vT V' e = vT V e ∧ vB V' e = vB V e) ∧ (∀ e, vN V ≤ e → e < vN V' → x_p (vT V') K lo e ∧ (vB V' e).1 ≤ K ∧ (vB V' e).2 ≤ K) ∧ ∃ g, vG V' = vG V ++ g ∧ (∀ e ∈ g, vN V ≤ e ∧ e < vN V') ∧ ∀ e, vN V ≤ e → e < vN V' → (25 ≤ x_act (vT V') e ↔ e ∈ g)
def v_wd (V : pV) (e : Nat) : Nat := if x_b (vT V) e = -1 then 1 else 3
def eX (K : Nat) (V V' : pV) : Prop := eY K (vN V) V V' ∧ vA V < vA V' ∧ vA V' ≤ K ∧ vN V < vN V' ∧ vD V' = vD V ∧ vS V' = vS V ∧ vM V' = vM V ∧ (vM V = false → vG V' = vG V) ∧ x_n (vT V') (vN V' - 1) = -1
  ∧ (x_act (vT V') (vN V' - 1) = 3 → ∃ j : Nat, (vB V' (vN V' - 1)).1 = vA V + j ∧ vA V' = vA V + 2 * j + v_wd V' (vN V' - 1) ∧ x_a (vT V') (vN V' - 1) = ((vA V + j : Nat) : Int) ∧ (x_b (vT V') (vN V' - 1) = -1 ∨ x_b (vT V') (vN V' - 1) = ((vA V + j + 2 : Nat) : Int)))
  ∧ xo (vT V') (vN V) (vN V') (fun e => e + 1 = vN V')
section
variable {K lo lo' k e : Nat} {V V1 V2 V3 : pV} {m : Bool}
theorem eY.rf (V : pV) : eY K lo V V := ⟨Nat.le_refl _, Nat.le_refl _, fun _ _ => ⟨rfl, rfl⟩, fun e h1 h2 => absurd h1 (by omega), [], by rw [List.append_nil], fun e he => (List.not_mem_nil he).elim, fun e h1 h2 => absurd h1 (by omega)⟩
theorem eY.lw (h : eY K lo V V1) (hl : lo' ≤ lo) : eY K lo' V V1 := ⟨h.1, h.2.1, h.2.2.1, fun e h1 h2 => ⟨(h.2.2.2.1 e h1 h2).1.of_eq (fun _ _ => rfl) hl, (h.2.2.2.1 e h1 h2).2⟩, h.2.2.2.2⟩
theorem eY.tr (h1 : eY K lo V V1) (h2 : eY K lo V1 V2) : eY K lo V V2 := by
  obtain ⟨a1, a2, a3, a4, g, a5, a6, a7⟩ := h1
  obtain ⟨b1, b2, b3, b4, g', b5, b6, b7⟩ := h2
  refine ⟨by omega, by omega, fun e he => ?_, fun e he1 he2 => ?_, g ++ g', by rw [b5, a5, List.append_assoc], fun e he => ?_, fun e he1 he2 => ?_⟩
  · rw [(b3 e (by omega)).1, (b3 e (by omega)).2]; exact a3 e he
  · by_cases c : e < vN V1
    · rw [(b3 e c).2]
      exact ⟨(a4 e he1 c).1.of_eq (fun i hi => (b3 i (by omega)).1) (Nat.le_refl _), (a4 e he1 c).2⟩
    · exact b4 e (by omega) he2
  · rcases List.mem_append.mp he with he | he
    · have := a6 e he; omega
    · have := b6 e he; omega
  · by_cases c : e < vN V1
    · have hact : x_act (vT V2) e = x_act (vT V1) e := by unfold x_act; rw [(b3 e c).1]
      rw [hact, a7 e he1 c, List.mem_append]
      constructor
      · exact Or.inl
      · rintro (q | q)
        · exact q
        · have := b6 e q; omega
    · rw [b7 e (by omega) he2, List.mem_append]
      constructor
      · exact Or.inr
      · rintro (q | q)
        · have := a6 e q; omega
        · exact q
theorem eY.at (V : pV) (h : vA V ≤ k) : eY K lo V (v_at V k) := ⟨h, Nat.le_refl _, fun _ _ => ⟨rfl, rfl⟩, fun e h1 h2 => absurd h2 (by show ¬ e < vN V; omega), [], by rw [List.append_nil]; rfl, fun e he => (List.not_mem_nil he).elim, fun e h1 h2 => absurd h2 (by show ¬ e < vN V; omega)⟩
theorem eY.deep (V : pV) : eY K lo V (v_deep V k) := ⟨Nat.le_refl _, Nat.le_refl _, fun _ _ => ⟨rfl, rfl⟩, fun e h1 h2 => absurd h2 (by show ¬ e < vN V; omega), [], by rw [List.append_nil]; rfl, fun e he => (List.not_mem_nil he).elim, fun e h1 h2 => absurd h2 (by show ¬ e < vN V; omega)⟩
theorem eY.may (V : pV) : eY K lo V (v_may V m) := ⟨Nat.le_refl _, Nat.le_refl _, fun _ _ => ⟨rfl, rfl⟩, fun e h1 h2 => absurd h2 (by show ¬ e < vN V; omega), [], by rw [List.append_nil]; rfl, fun e he => (List.not_mem_nil he).elim, fun e h1 h2 => absurd h2 (by show ¬ e < vN V; omega)⟩
theorem eY.add {r : Int × Int × Int × Int × Int × Int} {tok beg : Nat} (hp : x_p (x_up (vT V) (vN V) r) K lo (vN V)) (ht : tok ≤ K) (hb : beg ≤ K) (h25 : r.1 < 25) : eY K lo V (v_add V r tok beg) := by
  refine ⟨Nat.le_refl _, by show vN V ≤ vN V + 1; omega, fun e he => ⟨x_up_ne _ (by omega), if_neg (by omega)⟩, fun e h1 h2 => ?_, [], by rw [List.append_nil]; rfl, fun e he => (List.not_mem_nil he).elim, fun e h1 h2 => ?_⟩
  · have h2 : e < vN V + 1 := h2
    have he : e = vN V := by omega
    subst he
    refine ⟨hp, ?_⟩
    show (if vN V = vN V then (tok, beg) else vB V (vN V)).1 ≤ K ∧ (if vN V = vN V then (tok, beg) else vB V (vN V)).2 ≤ K
    rw [if_pos rfl]
    exact ⟨ht, hb⟩
  · have h2 : e < vN V + 1 := h2
    have he : e = vN V := by omega
    subst he
    constructor
    · intro q
      have : x_act (x_up (vT V) (vN V) r) (vN V) = r.1 := by unfold x_act; rw [x_up_eq]
      have q : 25 ≤ x_act (x_up (vT V) (vN V) r) (vN V) := q
      omega
    · intro q; exact (List.not_mem_nil q).elim
/-- a node of aggregates, and its place among them -/
theorem eY.addg {r : Int × Int × Int × Int × Int × Int} {tok beg : Nat} (hp : x_p (x_up (vT V) (vN V) r) K lo (vN V)) (ht : tok ≤ K) (hb : beg ≤ K) (h25 : 25 ≤ r.1) : eY K lo V (v_agg (v_add V r tok beg) (vG V ++ [vN V])) := by
  refine ⟨Nat.le_refl _, by show vN V ≤ vN V + 1; omega, fun e he => ⟨x_up_ne _ (by omega), if_neg (by omega)⟩, fun e h1 h2 => ?_, [vN V], rfl, fun e he => ?_, fun e h1 h2 => ?_⟩
  · have h2 : e < vN V + 1 := h2
    have he : e = vN V := by omega
    subst he
    refine ⟨hp, ?_⟩
    show (if vN V = vN V then (tok, beg) else vB V (vN V)).1 ≤ K ∧ (if vN V = vN V then (tok, beg) else vB V (vN V)).2 ≤ K
    rw [if_pos rfl]
    exact ⟨ht, hb⟩
  · have := List.mem_singleton.mp he
    subst this
    exact ⟨Nat.le_refl _, by show vN V < vN V + 1; omega⟩
  · have h2 : e < vN V + 1 := h2
    have he : e = vN V := by omega
    subst he
    constructor
    · intro _; exact List.mem_singleton.mpr rfl
    · intro _
      show 25 ≤ x_act (x_up (vT V) (vN V) r) (vN V)
      unfold x_act; rw [x_up_eq]; exact h25
/-- a row's value, or what stands next, is written: of the last one -/
theorem eY.row {r : Int × Int × Int × Int × Int × Int} (h : eY K lo V V1) (he : vN V ≤ e) (he1 : e + 1 = vN V1) (h1 : r.1 = x_act (vT V1) e ∧ r.2.1 = x_a (vT V1) e ∧ r.2.2.1 = x_b (vT V1) e ∧ r.2.2.2.1 = x_c (vT V1) e) (hp : x_p (x_up (vT V1) e r) K lo e) : eY K lo V (v_row V1 e r) := by
  obtain ⟨a1, a2, a3, a4, g, a5, a6, a7⟩ := h
  refine ⟨a1, a2, fun i hi => ⟨by show x_up (vT V1) e r i = _; rw [x_up_ne _ (by omega)]; exact (a3 i hi).1, (a3 i hi).2⟩, fun i hi1 hi2 => ?_, g, a5, a6, fun i hi1 hi2 => ?_⟩
  · have hi2 : i < vN V1 := hi2
    by_cases c : i = e
    · rw [c]; exact ⟨hp, (a4 e he (by omega)).2⟩
    · exact ⟨(a4 i hi1 hi2).1.of_eq (fun j hj => by show x_up (vT V1) e r j = _; rw [x_up_ne _ (by omega)]) (Nat.le_refl _), (a4 i hi1 hi2).2⟩
  · have hi2 : i < vN V1 := hi2
    rw [← a7 i hi1 hi2]
    show 25 ≤ x_act (x_up (vT V1) e r) i ↔ _
    by_cases c : i = e
    · rw [c]; unfold x_act; rw [x_up_eq, h1.1]; rfl
    · unfold x_act; rw [x_up_ne _ c]
/-- lists in in ( ): the next one -/
theorem eY.nx {v : Int} (h1 : eY K lo V V1) (h2 : eY K (vN V1) V1 V2) (hl : lo ≤ vN V) (he : vN V ≤ e) (he1 : e + 1 = vN V1) : eY K lo V (v_row V2 e (r_n (vT V2 e) v)) := by
  have h12 := h1.tr (h2.lw (by have := h1.2.1; omega))
  obtain ⟨a1, a2, a3, a4, g, a5, a6, a7⟩ := h12
  obtain ⟨b1, b2, b3, b4, -⟩ := h2
  have tab : ∀ i, (x_act (x_up (vT V2) e (r_n (vT V2 e) v)) i = x_act (vT V2) i ∧ x_a (x_up (vT V2) e (r_n (vT V2 e) v)) i = x_a (vT V2) i ∧ x_b (x_up (vT V2) e (r_n (vT V2 e) v)) i = x_b (vT V2) i ∧ x_c (x_up (vT V2) e (r_n (vT V2 e) v)) i = x_c (vT V2) i ∧ x_v (x_up (vT V2) e (r_n (vT V2 e) v)) i = x_v (vT V2) i) := by
    intro i
    by_cases c : i = e
    · rw [c]; unfold x_act x_a x_b x_c x_v; rw [x_up_eq]; exact ⟨rfl, rfl, rfl, rfl, rfl⟩
    · unfold x_act x_a x_b x_c x_v; rw [x_up_ne _ c]; exact ⟨rfl, rfl, rfl, rfl, rfl⟩
  have nxt : ∀ i, i ≠ e → x_n (x_up (vT V2) e (r_n (vT V2 e) v)) i = x_n (vT V2) i := fun i c => by unfold x_n; rw [x_up_ne _ c]
  refine ⟨a1, a2, fun i hi => ⟨by show x_up (vT V2) e _ i = _; rw [x_up_ne _ (by omega)]; exact (a3 i hi).1, (a3 i hi).2⟩, fun i hi1 hi2 => ⟨?_, (a4 i hi1 hi2).2⟩, g, a5, a6, fun i hi1 hi2 => ?_⟩
  · have hi2 : i < vN V2 := hi2
    show x_p (x_up (vT V2) e (r_n (vT V2 e) v)) K lo i
    by_cases c : i ≤ e
    · exact (a4 i hi1 hi2).1.congr (fun j _ => tab j) (fun j _ hj => nxt j (by omega)) (Nat.le_refl _)
    · exact (b4 i (by omega) hi2).1.congr (fun j _ => tab j) (fun j hj1 hj => nxt j (by omega)) (by omega)
  · rw [← a7 i hi1 hi2]
    show 25 ≤ x_act (x_up (vT V2) e (r_n (vT V2 e) v)) i ↔ _
    rw [(tab i).1]
end
section
variable {K k : Nat} {V V1 V2 : pV}
theorem eX.ox (h : eX K V V1) : xo (vT V1) (vN V) (vN V1) (fun e => e + 1 = vN V1) := h.2.2.2.2.2.2.2.2.2.2
theorem eX.ox2 (hx : eX K V V1) (x2 : eX K (v_at V1 k) V2) : xo (vT V2) (vN V) (vN V2) (fun e => e + 1 = vN V1 ∨ e + 1 = vN V2) := by
  have h2 : xo (vT V2) (vN V1) (vN V2) (fun e => e + 1 = vN V2) := x2.ox
  have ag : ∀ e, e < vN V1 → vT V2 e = vT V1 e ∧ vB V2 e = vB V1 e := x2.1.2.2.1
  have b4 : vN V1 < vN V2 := x2.2.2.2.1
  exact (hx.ox.of_eq (fun i hi => (ag i hi).1)).app h2 (by omega)
end
/-! the contract of readers -/
def bgE (b : Int → Int) (n k : Nat) (m : Bool) : Prop := tk_bs b n k m ∨ tk_is b n k (st_str (-44))
def rP (bg : (Int → Int) → Nat → Nat → Bool → Prop) (mX : Nat → ms_S → (Int → ms_S → Prop) → Prop) (B0 : Nat) (pl : Int) (b : Int → Int) (n K : Nat) (R : Int) (V : pV) (v : Int) (c' : cs_S) : Prop :=
  (∃ V', CE c' pl b n K R V' ∧ (eX K V V' ∧ bg b n (vA V) (vM V)) ∧ v = ((vN V' - 1 : Nat) : Int) ∧ ∀ (si : Nat) (s : ms_S) (D : Nat) (P : Int → ms_S → Prop), ME s b n K R si V → B0 ≤ D → (∀ s', ME s' b n K R si V' → eF si s s' → s' 74 0 = (tk_p b n (vA V) : Int) → P v s') → mX D s P)
  ∨ (∃ f p, CF c' pl f p ∧ ∀ (si : Nat) (s : ms_S) (D : Nat) (P : Int → ms_S → Prop), ME s b n K R si V → B0 ≤ D → (∀ v' s', MF s' f p → eF si s s' → P v' s') → mX D s P)
def rX (bg : (Int → Int) → Nat → Nat → Bool → Prop) (kX : Nat → Int → cs_S → (Int → cs_S → Prop) → Prop) (mX : Nat → ms_S → (Int → ms_S → Prop) → Prop) (B0 : Nat) (L : Nat) : Prop :=
  ∀ (pl : Int) (b : Int → Int) (n K : Nat) (R : Int) (c : cs_S) (V : pV) (D : Nat) (Q : Int → cs_S → Prop), CE c pl b n K R V → vD V + L = 12 → B0 ≤ D → (∀ v c', c_sm (eW pl R) c c' → rP bg mX B0 pl b n K R V v c' → Q v c') → kX D pl c Q
/-- of one with a fault nothing is read -/
def rF (kX : Nat → Int → cs_S → (Int → cs_S → Prop) → Prop) (B0 : Nat) : Prop := ∀ (pl f p : Int) (c : cs_S) (D : Nat) (Q : Int → cs_S → Prop), CF c pl f p → B0 ≤ D → Q 0 c → kX D pl c Q
def mF0 (mX : Nat → ms_S → (Int → ms_S → Prop) → Prop) (B0 : Nat) : Prop := ∀ (f p : Int) (s : ms_S) (D : Nat) (P : Int → ms_S → Prop), MF s f p → B0 ≤ D → (∀ v s', (∀ (q : Nat) (j : Int), q ≠ 74 → s' q j = s q j) → P v s') → mX D s P
