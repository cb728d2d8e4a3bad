set_option maxRecDepth 100000
/-! aggregates and orders, pure -/
def i_sum : List Int → Int
  | [] => 0
  | x :: L => x + i_sum L
def a_stp (op : Int → Int → Int) (acc : Option Int) (x : Int) : Option Int := match acc with
  | none => some x
  | some v => some (op v x)
def a_fold (op : Int → Int → Int) (vs : List Int) : Option Int := vs.foldl (a_stp op) none
def a_val (act : Int) (ex : rwt → Option Int) (L : List rwt) : Option Int :=
  if act = 25 then some (L.length : Int)
  else if act = 26 then some ((L.filterMap ex).length : Int)
  else if act = 27 then (if L.filterMap ex = [] then none else some (am_x (i_sum (L.filterMap ex))))
  else if act = 28 then a_fold min (L.filterMap ex)
  else a_fold max (L.filterMap ex)
theorem i_sum_perm {A B : List Int} (h : A.Perm B) : i_sum A = i_sum B := by
  induction h with
  | nil => rfl
  | cons x _ ih => simp only [i_sum, ih]
  | swap x y l => simp only [i_sum]; omega
  | trans _ _ ih1 ih2 => exact ih1.trans ih2
theorem i_sum_app {A B : List Int} : i_sum (A ++ B) = i_sum A + i_sum B := by
  induction A with
  | nil => simp [i_sum]
  | cons x A ih => simp only [List.cons_append, i_sum, ih]; omega
theorem a_fold_perm {op : Int → Int → Int} (hc : ∀ a b c, op (op a b) c = op (op a c) b) (hs : ∀ a b, op a b = op b a) {A B : List Int} (h : A.Perm B) : ∀ acc, A.foldl (a_stp op) acc = B.foldl (a_stp op) acc := by
  induction h with
  | nil => intro acc; rfl
  | cons x _ ih => intro acc; exact ih _
  | swap x y l =>
    intro acc
    simp only [List.foldl_cons]
    congr 1
    cases acc with
    | none => simp only [a_stp]; rw [hs]
    | some v => simp only [a_stp]; rw [hc]
  | trans _ _ ih1 ih2 => intro acc; exact (ih1 acc).trans (ih2 acc)
theorem a_val_perm {act : Int} {ex : rwt → Option Int} {A B : List rwt} (h : A.Perm B) : a_val act ex A = a_val act ex B := by
  unfold a_val
  have hf := h.filterMap ex
  rw [h.length_eq, hf.length_eq, i_sum_perm hf]
  have e1 : (A.filterMap ex = []) ↔ (B.filterMap ex = []) := by
    constructor
    · intro q; rw [q] at hf; exact List.Perm.eq_nil hf.symm
    · intro q; rw [q] at hf; exact List.Perm.eq_nil hf
  have e2 : a_fold min (A.filterMap ex) = a_fold min (B.filterMap ex) := a_fold_perm (fun a b c => by omega) (fun a b => by omega) hf none
  have e3 : a_fold max (A.filterMap ex) = a_fold max (B.filterMap ex) := a_fold_perm (fun a b c => by omega) (fun a b => by omega) hf none
  rw [e2, e3]
  simp only [e1]
/-! orders -/
def o_cmp (T : xt) (sl : Nat → Int) : List (Nat × Bool) → rwt → rwt → Int
  | [], a, b => r_cmp a b
  | (e, d) :: es, a, b => if r_oc (ev T (x_env sl a) 121 e) (ev T (x_env sl b) 121 e) ≠ 0 then (if d then - r_oc (ev T (x_env sl a) 121 e) (ev T (x_env sl b) 121 e) else r_oc (ev T (x_env sl a) 121 e) (ev T (x_env sl b) 121 e)) else o_cmp T sl es a b
theorem o_cmp_sw {T : xt} {sl : Nat → Int} : ∀ (es : List (Nat × Bool)) (a b : rwt), o_cmp T sl es b a = - o_cmp T sl es a b := by
  intro es
  induction es with
  | nil => intro a b; exact r_cmp_sw a b
  | cons ed es ih =>
    obtain ⟨e, d⟩ := ed
    intro a b
    unfold o_cmp
    rw [r_oc_sw (ev T (x_env sl a) 121 e) (ev T (x_env sl b) 121 e)]
    by_cases p : r_oc (ev T (x_env sl a) 121 e) (ev T (x_env sl b) 121 e) = 0
    · rw [if_neg (by omega), if_neg (by omega)]; exact ih a b
    · rw [if_pos (by omega), if_pos p]
      cases d
      · rw [if_neg (by decide), if_neg (by decide)]
      · rw [if_pos rfl, if_pos rfl]
theorem o_cmp_0 {T : xt} {sl : Nat → Int} : ∀ (es : List (Nat × Bool)) {a b : rwt}, a.length = b.length → (o_cmp T sl es a b = 0 ↔ a = b) := by
  intro es
  induction es with
  | nil => intro a b h; exact r_cmp_0 h
  | cons ed es ih =>
    obtain ⟨e, d⟩ := ed
    intro a b h
    unfold o_cmp
    by_cases p : r_oc (ev T (x_env sl a) 121 e) (ev T (x_env sl b) 121 e) = 0
    · rw [if_neg (by omega)]; exact ih h
    · rw [if_pos p]
      constructor
      · intro q; exfalso
        cases d
        · rw [if_neg (by decide)] at q; exact p q
        · rw [if_pos rfl] at q; omega
      · intro q; subst q; exact absurd (r_oc_0.mpr rfl) p
theorem o_cmp_tr {T : xt} {sl : Nat → Int} : ∀ (es : List (Nat × Bool)) {a b c : rwt}, a.length = b.length → b.length = c.length → o_cmp T sl es a b < 0 → o_cmp T sl es b c < 0 → o_cmp T sl es a c < 0 := by
  intro es
  induction es with
  | nil => intro a b c h1 h2; exact r_cmp_tr h1 h2
  | cons ed es ih =>
    obtain ⟨e, d⟩ := ed
    intro a b c h1 h2
    unfold o_cmp
    generalize ev T (x_env sl a) 121 e = x
    generalize ev T (x_env sl b) 121 e = y
    generalize ev T (x_env sl c) 121 e = z
    intro q1 q2
    by_cases p1 : r_oc x y = 0
    · have e1 := r_oc_0.mp p1
      subst e1
      rw [if_neg (by omega)] at q1
      by_cases p2 : r_oc x z = 0
      · rw [if_neg (by omega)] at q2 ⊢; exact ih h1 h2 q1 q2
      · rw [if_pos p2] at q2 ⊢; exact q2
    · rw [if_pos p1] at q1
      by_cases p2 : r_oc y z = 0
      · have e1 := r_oc_0.mp p2
        subst e1
        rw [if_pos p1]; exact q1
      · rw [if_pos p2] at q2
        cases d
        · rw [if_neg (by decide)] at q1 q2
          have := r_oc_tr q1 q2
          rw [if_pos (by omega), if_neg (by decide)]; exact this
        · rw [if_pos rfl] at q1 q2
          have := r_oc_tr (x := z) (y := y) (z := x) (by rw [r_oc_sw y z]; exact q2) (by rw [r_oc_sw x y]; exact q1)
          rw [r_oc_sw x z] at this
          rw [if_pos (by omega), if_pos rfl]; exact this
/-- an order on rows of a list -/
def o_good (cmp : rwt → rwt → Int) (L : List rwt) : Prop := ∀ a ∈ L, ∀ b ∈ L, cmp b a = - cmp a b ∧ (cmp a b = 0 ↔ a = b) ∧ ∀ c ∈ L, cmp a b < 0 → cmp b c < 0 → cmp a c < 0
def o_sd (cmp : rwt → rwt → Int) (L : List rwt) : Prop := L.Pairwise (fun a b => cmp a b ≤ 0)
def o_ins (cmp : rwt → rwt → Int) (x : rwt) : List rwt → List rwt
  | [] => [x]
  | y :: L => if cmp x y ≤ 0 then x :: y :: L else y :: o_ins cmp x L
def o_srt (cmp : rwt → rwt → Int) : List rwt → List rwt
  | [] => []
  | x :: L => o_ins cmp x (o_srt cmp L)
section
variable {cmp : rwt → rwt → Int} {A B L M : List rwt} {x : rwt}
theorem o_cmp_good {T : xt} {sl : Nat → Int} {es : List (Nat × Bool)} {w : Nat} (h : ∀ a ∈ L, a.length = w) : o_good (o_cmp T sl es) L := fun a ha b hb => ⟨o_cmp_sw es a b, o_cmp_0 es (by rw [h a ha, h b hb]), fun c hc h1 h2 => o_cmp_tr es (by rw [h a ha, h b hb]) (by rw [h b hb, h c hc]) h1 h2⟩
theorem o_good.sub (h : o_good cmp L) (hs : ∀ x ∈ M, x ∈ L) : o_good cmp M := fun a ha b hb => ⟨(h a (hs a ha) b (hs b hb)).1, (h a (hs a ha) b (hs b hb)).2.1, fun c hc => (h a (hs a ha) b (hs b hb)).2.2 c (hs c hc)⟩
theorem o_good.le (h : o_good cmp L) {a b c : rwt} (ha : a ∈ L) (hb : b ∈ L) (hc : c ∈ L) (h1 : cmp a b ≤ 0) (h2 : cmp b c ≤ 0) : cmp a c ≤ 0 := by
  by_cases p : cmp a b = 0
  · have := (h a ha b hb).2.1.mp p; subst this; exact h2
  · by_cases q : cmp b c = 0
    · have := (h b hb c hc).2.1.mp q; subst this; exact h1
    · have := (h a ha b hb).2.2 c hc (by omega) (by omega); omega
theorem o_ins_perm : (o_ins cmp x L).Perm (x :: L) := by
  induction L with
  | nil => exact List.Perm.refl _
  | cons y L ih =>
    unfold o_ins
    split
    · exact List.Perm.refl _
    · exact (ih.cons y).trans (List.Perm.swap x y L)
theorem o_srt_perm : (o_srt cmp L).Perm L := by
  induction L with
  | nil => exact List.Perm.refl _
  | cons y L ih => exact o_ins_perm.trans (ih.cons y)
theorem o_ins_sd (h : o_good cmp (x :: L)) (hs : o_sd cmp L) : o_sd cmp (o_ins cmp x L) := by
  induction L with
  | nil => exact List.pairwise_singleton _ _
  | cons y L ih =>
    unfold o_sd at hs
    rw [List.pairwise_cons] at hs
    have hx : x ∈ x :: y :: L := List.mem_cons_self
    have hy : y ∈ x :: y :: L := List.mem_cons_of_mem _ List.mem_cons_self
    unfold o_ins
    split
    · rename_i q
      unfold o_sd
      rw [List.pairwise_cons, List.pairwise_cons]
      refine ⟨fun b hb => ?_, hs⟩
      rcases List.mem_cons.mp hb with e | e
      · subst e; exact q
      · exact h.le hx hy (List.mem_cons_of_mem _ hb) q (hs.1 b e)
    · rename_i q
      unfold o_sd
      rw [List.pairwise_cons]
      refine ⟨fun b hb => ?_, ih (h.sub (fun z hz => by
        rcases List.mem_cons.mp hz with e | e
        · subst e; exact List.mem_cons_self
        · exact List.mem_cons_of_mem _ (List.mem_cons_of_mem _ e))) hs.2⟩
      rcases List.mem_cons.mp (o_ins_perm.mem_iff.mp hb) with e | e
      · subst e; have := (h b hx y hy).1; omega
      · exact hs.1 b e
theorem o_srt_sd (h : o_good cmp L) : o_sd cmp (o_srt cmp L) := by
  induction L with
  | nil => exact List.Pairwise.nil
  | cons y L ih =>
    refine o_ins_sd (h.sub (fun z hz => ?_)) (ih (h.sub (fun z hz => List.mem_cons_of_mem _ hz)))
    rcases List.mem_cons.mp hz with e | e
    · subst e; exact List.mem_cons_self
    · exact List.mem_cons_of_mem _ (o_srt_perm.mem_iff.mp e)
theorem o_uniq : ∀ (A B : List rwt), A.Perm B → o_good cmp A → o_sd cmp A → o_sd cmp B → A = B := by
  intro A
  induction A with
  | nil => intro B hp _ _ _; exact (List.Perm.eq_nil hp.symm).symm
  | cons a A ih =>
    intro B hp hg ha hb
    cases B with
    | nil => exact List.Perm.eq_nil hp
    | cons b B =>
      unfold o_sd at ha hb
      rw [List.pairwise_cons] at ha hb
      have e : a = b := by
        have h1 : b ∈ a :: A := hp.mem_iff.mpr List.mem_cons_self
        have h2 : a ∈ b :: B := hp.mem_iff.mp List.mem_cons_self
        rcases List.mem_cons.mp h1 with q | q
        · exact q.symm
        · rcases List.mem_cons.mp h2 with q2 | q2
          · exact q2
          · have c1 := ha.1 b q
            have c2 := hb.1 a q2
            have g := hg a List.mem_cons_self b h1
            exact g.2.1.mp (by omega)
      subst e
      rw [ih B (List.Perm.cons_inv hp) (hg.sub (fun z hz => List.mem_cons_of_mem _ hz)) ha.2 hb.2]
theorem o_srt_uniq (hg : o_good cmp L) (hp : A.Perm L) (hs : o_sd cmp A) : A = o_srt cmp L := o_uniq A _ (hp.trans o_srt_perm.symm) (hg.sub (fun z hz => hp.mem_iff.mp hz)) hs (o_srt_sd hg)
end
