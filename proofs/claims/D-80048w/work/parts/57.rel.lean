set_option maxRecDepth 100000
/-! relations as lists of rows; bags that are lists, or differences of lists -/
def ls (g : rwt → Int) : List rwt → Int
  | [] => 0
  | x :: L => g x + ls g L
section
variable {g h : rwt → Int} {A B L M L' : List rwt} {l x : rwt} {D : List (rwt × Int)} {w : Nat}
theorem ls_app : ls g (A ++ B) = ls g A + ls g B := by
  induction A with
  | nil => simp [ls]
  | cons e A ih => simp only [List.cons_append, ls, ih]; omega
theorem ls_map {f : rwt → rwt} : ls g (L.map f) = ls (fun x => g (f x)) L := by
  induction L with
  | nil => rfl
  | cons e A ih => simp only [List.map_cons, ls, ih]
theorem ls_filter {p : rwt → Bool} : ls g (L.filter p) = ls (fun x => if p x then g x else 0) L := by
  induction L with
  | nil => rfl
  | cons e A ih =>
    rw [List.filter_cons]
    simp only [ls]
    split
    · simp only [ls, ih]
    · rw [ih]; omega
theorem ls_flat {f : rwt → List rwt} : ls g (L.flatMap f) = ls (fun x => ls g (f x)) L := by
  induction L with
  | nil => rfl
  | cons e A ih => simp only [List.flatMap_cons, ls, ls_app, ih]
theorem ls_congr (hh : ∀ x ∈ L, g x = h x) : ls g L = ls h L := by
  induction L with
  | nil => rfl
  | cons e A ih => simp only [ls]; rw [hh e List.mem_cons_self, ih (fun x hx => hh x (List.mem_cons_of_mem _ hx))]
theorem ls_add : ls (fun x => g x + h x) L = ls g L + ls h L := by
  induction L with
  | nil => rfl
  | cons e A ih => simp only [ls, ih]; omega
theorem ls_sub : ls (fun x => g x - h x) L = ls g L - ls h L := by
  induction L with
  | nil => rfl
  | cons e A ih => simp only [ls, ih]; omega
theorem ls_le (hh : ∀ x ∈ L, g x ≤ h x) : ls g L ≤ ls h L := by
  induction L with
  | nil => exact Int.le_refl _
  | cons e A ih =>
    simp only [ls]
    have := hh e List.mem_cons_self
    have := ih (fun x hx => hh x (List.mem_cons_of_mem _ hx))
    omega
theorem ls_one : ls (fun _ => 1) L = (L.length : Int) := by
  induction L with
  | nil => rfl
  | cons e A ih => simp only [ls, ih, List.length_cons]; omega
theorem ls_zero : ls (fun _ => 0) L = 0 := by
  induction L with
  | nil => rfl
  | cons e A ih => simp only [ls, ih]; rfl
theorem ls_perm (hp : A.Perm B) : ls g A = ls g B := by
  induction hp with
  | nil => rfl
  | cons x _ ih => simp only [ls, ih]
  | swap x y l => simp only [ls]; omega
  | trans _ _ ih1 ih2 => exact ih1.trans ih2
theorem ls_ind_nn : 0 ≤ ls (r_ind l) L := by
  induction L with
  | nil => exact Int.le_refl _
  | cons e A ih => simp only [ls]; unfold r_ind at *; split <;> omega
theorem ls_ind_mem : 0 < ls (r_ind l) L ↔ l ∈ L := by
  induction L with
  | nil => simp [ls]
  | cons e A ih =>
    simp only [ls, List.mem_cons]
    have := ls_ind_nn (l := l) (L := A)
    by_cases p : e = l
    · subst p
      have : r_ind e e = 1 := if_pos rfl
      constructor
      · intro _; exact Or.inl rfl
      · intro _; omega
    · have e0 : r_ind l e = 0 := if_neg p
      rw [e0]
      constructor
      · intro q; exact Or.inr (ih.mp (by omega))
      · intro q
        rcases q with q | q
        · exact absurd q.symm p
        · have := ih.mpr q; omega
theorem ls_ind_0 : ls (r_ind l) L = 0 ↔ l ∉ L := by
  have h1 := ls_ind_mem (l := l) (L := L)
  have h2 := ls_ind_nn (l := l) (L := L)
  constructor
  · intro e q; have := h1.mpr q; omega
  · intro q
    apply Classical.byContradiction
    intro e
    exact q (h1.mp (by omega))
theorem ls_ind_nd (h : L.Nodup) : ls (r_ind l) L = if l ∈ L then 1 else 0 := by
  induction L with
  | nil => simp [ls]
  | cons e A ih =>
    rw [List.nodup_cons] at h
    simp only [ls]
    rw [ih h.2]
    unfold r_ind
    by_cases p : e = l
    · subst p
      rw [if_pos rfl, if_neg h.1, if_pos List.mem_cons_self]; rfl
    · rw [if_neg p]
      by_cases q : l ∈ A
      · rw [if_pos q, if_pos (List.mem_cons_of_mem _ q)]; rfl
      · rw [if_neg q, if_neg]
        · rfl
        · intro u; rcases List.mem_cons.mp u with u | u
          · exact p u.symm
          · exact q u
theorem ls_count : ls (r_ind l) L = (L.count l : Int) := by
  induction L with
  | nil => rfl
  | cons e A ih =>
    simp only [ls, List.count_cons]
    rw [ih]
    unfold r_ind
    by_cases p : e = l
    · subst p; simp; omega
    · rw [if_neg p]; simp [p]
/-- alike sums: the same rows -/
theorem ls_perm_of (hh : ∀ g, ls g A = ls g B) : A.Perm B := by
  rw [List.perm_iff_count]
  intro a
  have := hh (r_ind a)
  rw [ls_count, ls_count] at this
  omega
/-! bags and lists -/
def b_is (D : List (rwt × Int)) (L : List rwt) : Prop := ∀ g, b_s g D = ls g L
def b_df (D : List (rwt × Int)) (L' L : List rwt) : Prop := ∀ g, b_s g D = ls g L' - ls g L
theorem b_s_congr {D : List (rwt × Int)} (hh : ∀ e ∈ D, g e.1 = h e.1) : b_s g D = b_s h D := by
  induction D with
  | nil => rfl
  | cons e D ih =>
    obtain ⟨x, n⟩ := e
    simp only [b_s]
    rw [hh (x, n) List.mem_cons_self, ih (fun e he => hh e (List.mem_cons_of_mem _ he))]
theorem b_s_add : b_s (fun x => g x + h x) D = b_s g D + b_s h D := by
  induction D with
  | nil => rfl
  | cons e D ih => obtain ⟨x, n⟩ := e; simp only [b_s, ih, Int.mul_add]; omega
theorem b_s_sub : b_s (fun x => g x - h x) D = b_s g D - b_s h D := by
  induction D with
  | nil => rfl
  | cons e D ih => obtain ⟨x, n⟩ := e; simp only [b_s, ih, Int.mul_sub]; omega
theorem b_s_split (D : List (rwt × Int)) (x : rwt) : b_s g D = b_s (r_ind x) D * g x + b_s g (D.filter (fun e => decide (e.1 ≠ x))) := by
  induction D with
  | nil => simp [b_s]
  | cons e D ih =>
    obtain ⟨y, n⟩ := e
    rw [List.filter_cons]
    by_cases p : y = x
    · subst p
      simp only [b_s]
      rw [ih, if_neg (by simp)]
      have : r_ind y y = 1 := if_pos rfl
      rw [this, Int.add_mul]
      have : n * 1 * g y = n * g y := by rw [Int.mul_one]
      omega
    · simp only [b_s]
      rw [ih, if_pos (by simp [p])]
      have : r_ind x y = 0 := if_neg p
      rw [this]
      simp only [b_s]
      rw [Int.mul_zero, Int.zero_add]
      omega
theorem b_s_ext0 : ∀ (k : Nat) (D : List (rwt × Int)), D.length ≤ k → (∀ l, b_s (r_ind l) D = 0) → ∀ g, b_s g D = 0 := by
  intro k
  induction k with
  | zero =>
    intro D hk _ g
    have : D = [] := List.length_eq_zero_iff.mp (by omega)
    subst this; rfl
  | succ k ih =>
    intro D hk hh g
    cases D with
    | nil => rfl
    | cons e D =>
      obtain ⟨x, n⟩ := e
      rw [b_s_split _ x, hh x, Int.zero_mul, Int.zero_add]
      have hf : ((x, n) :: D).filter (fun e => decide (e.1 ≠ x)) = D.filter (fun e => decide (e.1 ≠ x)) := by
        rw [List.filter_cons, if_neg (by simp)]
      rw [hf]
      refine ih _ ?_ (fun l => ?_) g
      · have := List.length_filter_le (fun e : rwt × Int => decide (e.1 ≠ x)) D
        rw [List.length_cons] at hk
        omega
      · by_cases p : l = x
        · subst p
          refine b_s_none (fun e he => ?_)
          have := (List.mem_filter.mp he).2
          simpa using this
        · have h1 := hh l
          rw [b_s_split _ x, hf] at h1
          have h2 : r_ind l x = 0 := if_neg (fun q => p q.symm)
          rw [h2, Int.mul_zero, Int.zero_add] at h1
          exact h1
theorem b_s_lb : b_s g (L.map (fun x => (x, (1 : Int)))) = ls g L := by
  induction L with
  | nil => rfl
  | cons e A ih => simp only [List.map_cons, b_s, ls, ih]; omega
theorem b_s_lbn : b_s g (L.map (fun x => (x, (-1 : Int)))) = - ls g L := by
  induction L with
  | nil => rfl
  | cons e A ih => simp only [List.map_cons, b_s, ls, ih]; omega
theorem b_df_of (hh : ∀ l, b_s (r_ind l) D = ls (r_ind l) L' - ls (r_ind l) L) : b_df D L' L := by
  intro g
  have := b_s_ext0 _ (D ++ (L'.map (fun x => (x, (-1 : Int))) ++ L.map (fun x => (x, (1 : Int))))) (Nat.le_refl _) (fun l => by
    rw [b_s_app, b_s_app, b_s_lb, b_s_lbn, hh]; omega) g
  rw [b_s_app, b_s_app, b_s_lb, b_s_lbn] at this
  omega
theorem b_is_of (hh : ∀ l, b_s (r_ind l) D = ls (r_ind l) L) : b_is D L := by
  have h2 := b_df_of (D := D) (L' := L) (L := []) (fun l => by rw [hh]; show _ = _ - 0; omega)
  intro g
  have := h2 g
  have e0 : ls g [] = 0 := rfl
  omega
theorem b_is_nil : b_is [] [] := fun _ => rfl
theorem b_is.df (h : b_is D L) : b_df D L [] := fun g => by rw [h g]; show _ = _ - 0; omega
theorem b_is.mem (h : b_is D L) (hs : b_ok w D) {e : rwt × Int} (he : e ∈ D) : 0 < e.2 ∧ e.1 ∈ L := by
  have h1 := b_s_mem (l := e.1) (m := e.2) hs he
  rw [h (r_ind e.1)] at h1
  have h2 := (hs.1 e he).2
  have h3 := ls_ind_nn (l := e.1) (L := L)
  refine ⟨by omega, ls_ind_mem.mp (by omega)⟩
theorem b_is.has (h : b_is D L) (hs : b_ok w D) (hx : x ∈ L) : ∃ n, (x, n) ∈ D ∧ 0 < n := by
  have h1 := ls_ind_mem.mpr hx
  rw [← h (r_ind x)] at h1
  obtain ⟨m, hm, h2, h3⟩ := b_s_pos (l := x) hs (by omega)
  exact ⟨m, hm, by omega⟩
theorem b_is.len (h : b_is D L) (hs : b_ok w D) : D.length ≤ L.length := by
  have := nd_len (D.map (·.1)) L (b_ok_rn hs) (fun y hy => by
    obtain ⟨e, he, rfl⟩ := List.mem_map.mp hy
    exact (h.mem hs he).2)
  rw [List.length_map] at this
  exact this
theorem b_df.mem (h : b_df D L' L) (hs : b_ok w D) {e : rwt × Int} (he : e ∈ D) : e.1 ∈ L' ∨ e.1 ∈ L := by
  have h1 := b_s_mem (l := e.1) (m := e.2) hs he
  rw [h (r_ind e.1)] at h1
  have h2 := (hs.1 e he).2
  by_cases p : e.1 ∈ L'
  · exact Or.inl p
  · right
    have := ls_ind_0.mpr p
    have := ls_ind_nn (l := e.1) (L := L)
    exact ls_ind_mem.mp (by omega)
theorem b_df.no (h : b_df D L' L) (hs : b_ok w D) (hx : ∀ n, (x, n) ∉ D) : ls (r_ind x) L' = ls (r_ind x) L := by
  have h1 := h (r_ind x)
  rw [b_s_none (fun e he q => hx e.2 (by rw [← q]; exact he))] at h1
  omega
theorem b_m_sg (hs : b_ok w D) : b_m D = b_s (fun x => if 0 ≤ b_s (r_ind x) D then 1 else -1) D := by
  have key : ∀ K : List (rwt × Int), (∀ e ∈ K, e ∈ D) → b_m K = b_s (fun x => if 0 ≤ b_s (r_ind x) D then 1 else -1) K := by
    intro K
    induction K with
    | nil => intro _; rfl
    | cons e K ih =>
      intro hK
      obtain ⟨x, n⟩ := e
      simp only [b_m, b_s]
      rw [ih (fun e he => hK e (List.mem_cons_of_mem _ he)), b_s_mem hs (hK (x, n) List.mem_cons_self)]
      split <;> omega
  exact key D (fun _ h => h)
theorem b_df.m (h : b_df D L' L) (hs : b_ok w D) : b_m D ≤ (L'.length : Int) + (L.length : Int) := by
  rw [b_m_sg hs, h, ← ls_one, ← ls_one]
  have h1 : ls (fun x => if 0 ≤ b_s (r_ind x) D then 1 else -1) L' ≤ ls (fun _ => 1) L' := ls_le (fun x _ => by split <;> omega)
  have h2 : ls (fun x => 0 - (if 0 ≤ b_s (r_ind x) D then 1 else -1)) L ≤ ls (fun _ => 1) L := ls_le (fun x _ => by split <;> omega)
  rw [ls_sub, ls_zero] at h2
  omega
theorem b_is.m (h : b_is D L) (hs : b_ok w D) : b_m D ≤ (L.length : Int) := by
  have := h.df.m hs
  simp only [List.length_nil] at this
  omega
theorem b_df.is {O : List (rwt × Int)} {O' : List (rwt × Int)} (h : b_df D L' L) (ho : b_is O L) (hs : ∀ g, b_s g O' = b_s g O + b_s g D) : b_is O' L' := by
  intro g; rw [hs, ho, h]; omega
theorem b_is.perm (h : b_is D L) (h2 : b_is D M) : L.Perm M := ls_perm_of (fun g => by rw [← h g, ← h2 g])
theorem b_df.perm (h : b_df [] L' L) : L'.Perm L := ls_perm_of (fun g => by have := h g; simp only [b_s] at this; omega)
end
