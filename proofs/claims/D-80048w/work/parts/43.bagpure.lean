set_option maxRecDepth 100000
/-! bags as lists of rows, each with how often; sums over them -/
abbrev rwt : Type := List (Option Int)
def b_s (g : rwt → Int) : List (rwt × Int) → Int
  | [] => 0
  | (x, n) :: L => n * g x + b_s g L
def b_m : List (rwt × Int) → Int
  | [] => 0
  | (_, n) :: L => n.natAbs + b_m L
def b_ok (w : Nat) (L : List (rwt × Int)) : Prop := (∀ e ∈ L, e.1.length = w ∧ e.2 ≠ 0) ∧ L.Pairwise (fun a b => r_cmp a.1 b.1 < 0)
def r_ind (l x : rwt) : Int := if x = l then 1 else 0
section
variable {w : Nat} {A B L : List (rwt × Int)} {l : rwt} {m n : Int} {g : rwt → Int}
theorem b_s_app : b_s g (A ++ B) = b_s g A + b_s g B := by
  induction A with
  | nil => simp [b_s]
  | cons e A ih => obtain ⟨x, k⟩ := e; simp only [List.cons_append, b_s, ih]; omega
theorem b_m_app : b_m (A ++ B) = b_m A + b_m B := by
  induction A with
  | nil => simp [b_m]
  | cons e A ih => obtain ⟨x, k⟩ := e; simp only [List.cons_append, b_m, ih]; omega
theorem b_m_pos : 0 ≤ b_m L := by
  induction L with
  | nil => simp [b_m]
  | cons e A ih => obtain ⟨x, k⟩ := e; simp only [b_m]; omega
theorem b_m_mem {e : rwt × Int} (h : e ∈ L) : (e.2.natAbs : Int) ≤ b_m L := by
  induction L with
  | nil => cases h
  | cons a A ih =>
    obtain ⟨x, k⟩ := a
    simp only [b_m]
    have := b_m_pos (L := A)
    rcases List.mem_cons.mp h with h | h
    · subst h; simp only; omega
    · have := ih h; omega
theorem b_ok_nil (w : Nat) : b_ok w [] := ⟨fun e h => (by cases h), List.Pairwise.nil⟩
theorem b_ok_new (h : b_ok w (A ++ B)) (hl : l.length = w) (hA : ∀ a ∈ A, r_cmp a.1 l < 0) (hB : ∀ b ∈ B, r_cmp l b.1 < 0) (hn : n ≠ 0) : b_ok w (A ++ (l, n) :: B) := by
  obtain ⟨h1, h2⟩ := h
  rw [List.pairwise_append] at h2
  refine ⟨fun e he => ?_, ?_⟩
  · rw [List.mem_append, List.mem_cons] at he
    rcases he with he | he | he
    · exact h1 e (List.mem_append_left _ he)
    · subst he; exact ⟨hl, hn⟩
    · exact h1 e (List.mem_append_right _ he)
  · rw [List.pairwise_append, List.pairwise_cons]
    refine ⟨h2.1, ⟨hB, h2.2.1⟩, fun a ha b hb => ?_⟩
    rcases List.mem_cons.mp hb with hb | hb
    · subst hb; exact hA a ha
    · exact h2.2.2 a ha b hb
theorem b_ok_set (h : b_ok w (A ++ (l, m) :: B)) (hn : n ≠ 0) : b_ok w (A ++ (l, n) :: B) := by
  obtain ⟨h1, h2⟩ := h
  rw [List.pairwise_append, List.pairwise_cons] at h2
  refine ⟨fun e he => ?_, ?_⟩
  · rw [List.mem_append, List.mem_cons] at he
    rcases he with he | he | he
    · exact h1 e (List.mem_append_left _ he)
    · subst he
      exact ⟨(h1 (l, m) (List.mem_append_right _ List.mem_cons_self)).1, hn⟩
    · exact h1 e (List.mem_append_right _ (List.mem_cons_of_mem _ he))
  · rw [List.pairwise_append, List.pairwise_cons]
    refine ⟨h2.1, h2.2.1, fun a ha b hb => ?_⟩
    rcases List.mem_cons.mp hb with hb | hb
    · subst hb; exact h2.2.2 a ha (l, m) List.mem_cons_self
    · exact h2.2.2 a ha b (List.mem_cons_of_mem _ hb)
theorem b_ok_del {e : rwt × Int} (h : b_ok w (A ++ e :: B)) : b_ok w (A ++ B) := by
  obtain ⟨h1, h2⟩ := h
  rw [List.pairwise_append, List.pairwise_cons] at h2
  refine ⟨fun a ha => h1 a ?_, ?_⟩
  · rcases List.mem_append.mp ha with ha | ha
    · exact List.mem_append_left _ ha
    · exact List.mem_append_right _ (List.mem_cons_of_mem _ ha)
  · rw [List.pairwise_append]
    exact ⟨h2.1, h2.2.1.2, fun a ha b hb => h2.2.2 a ha b (List.mem_cons_of_mem _ hb)⟩
theorem b_s_set : b_s g (A ++ (l, m + n) :: B) = b_s g (A ++ (l, m) :: B) + n * g l := by
  rw [b_s_app, b_s_app]; simp only [b_s]; rw [Int.add_mul]; omega
theorem b_s_new : b_s g (A ++ (l, n) :: B) = b_s g (A ++ B) + n * g l := by
  rw [b_s_app, b_s_app]; simp only [b_s]; omega
theorem b_s_del (h : m + n = 0) : b_s g (A ++ B) = b_s g (A ++ (l, m) :: B) + n * g l := by
  rw [b_s_app, b_s_app]; simp only [b_s]
  have : m = - n := by omega
  subst this
  rw [Int.neg_mul]; omega
theorem b_m_set : b_m (A ++ (l, m + n) :: B) ≤ b_m (A ++ (l, m) :: B) + n.natAbs := by
  rw [b_m_app, b_m_app]; simp only [b_m]; omega
theorem b_m_new : b_m (A ++ (l, n) :: B) = b_m (A ++ B) + n.natAbs := by
  rw [b_m_app, b_m_app]; simp only [b_m]; omega
theorem b_m_del {e : rwt × Int} : b_m (A ++ B) ≤ b_m (A ++ e :: B) := by
  obtain ⟨x, k⟩ := e
  rw [b_m_app, b_m_app]; simp only [b_m]; omega
/-- a row that isn't there counts nothing -/
theorem b_s_none (h : ∀ e ∈ L, e.1 ≠ l) : b_s (r_ind l) L = 0 := by
  induction L with
  | nil => rfl
  | cons e L ih =>
    obtain ⟨x, k⟩ := e
    simp only [b_s]
    rw [ih (fun e he => h e (List.mem_cons_of_mem _ he))]
    have : x ≠ l := h (x, k) List.mem_cons_self
    unfold r_ind
    rw [if_neg this]
    omega
theorem b_s_mem (h : b_ok w L) (hm : (l, m) ∈ L) : b_s (r_ind l) L = m := by
  obtain ⟨A, B, rfl⟩ := List.append_of_mem hm
  have h2 := h.2
  rw [List.pairwise_append, List.pairwise_cons] at h2
  have hA : ∀ e ∈ A, e.1 ≠ l := by
    intro e he w
    have := h2.2.2 e he (l, m) List.mem_cons_self
    rw [w] at this
    have e0 := r_cmp_rf l
    dsimp only at this
    omega
  have hB : ∀ e ∈ B, e.1 ≠ l := by
    intro e he w
    have := h2.2.1.1 e he
    rw [w] at this
    have e0 := r_cmp_rf l
    dsimp only at this
    omega
  rw [b_s_app]
  simp only [b_s]
  rw [b_s_none hA, b_s_none hB]
  unfold r_ind
  rw [if_pos rfl]
  omega
theorem b_s_pos (h : b_ok w L) (hs : b_s (r_ind l) L ≠ 0) : ∃ m, (l, m) ∈ L ∧ m ≠ 0 ∧ b_s (r_ind l) L = m := by
  by_cases c : ∃ e ∈ L, e.1 = l
  · obtain ⟨⟨x, m⟩, he, e1⟩ := c
    dsimp only at e1
    subst e1
    exact ⟨m, he, (h.1 _ he).2, b_s_mem h he⟩
  · exact absurd (b_s_none (fun e he w => c ⟨e, he, w⟩)) hs
end
/-! sums over bags -/
def b_sum (f : Int → Int) : List Int → Int
  | [] => 0
  | b :: l => f b + b_sum f l
theorem b_sum_congr {f g : Int → Int} {l : List Int} (h : ∀ b ∈ l, f b = g b) : b_sum f l = b_sum g l := by
  induction l with
  | nil => rfl
  | cons a l ih => simp only [b_sum]; rw [h a List.mem_cons_self, ih (fun b hb => h b (List.mem_cons_of_mem _ hb))]
theorem b_sum_le {f g : Int → Int} {l : List Int} (h : ∀ b ∈ l, f b ≤ g b) : b_sum f l ≤ b_sum g l := by
  induction l with
  | nil => exact Int.le_refl _
  | cons a l ih =>
    simp only [b_sum]
    have := h a List.mem_cons_self
    have := ih (fun b hb => h b (List.mem_cons_of_mem _ hb))
    omega
theorem b_sum_upd {f g : Int → Int} {l : List Int} {b : Int} (hn : l.Nodup) (hb : b ∈ l) (h : ∀ a ∈ l, a ≠ b → g a = f a) : b_sum g l = b_sum f l + (g b - f b) := by
  induction l with
  | nil => cases hb
  | cons a l ih =>
    simp only [b_sum]
    rw [List.nodup_cons] at hn
    by_cases e : a = b
    · subst e
      have : b_sum g l = b_sum f l := b_sum_congr (fun x hx => h x (List.mem_cons_of_mem _ hx) (fun w => hn.1 (w ▸ hx)))
      omega
    · have hbl : b ∈ l := by
        rcases List.mem_cons.mp hb with w | w
        · exact absurd w.symm e
        · exact w
      have := ih hn.2 hbl (fun x hx => h x (List.mem_cons_of_mem _ hx))
      have := h a List.mem_cons_self e
      omega
theorem b_sum_nn {f : Int → Int} {l : List Int} (h : ∀ b ∈ l, 0 ≤ f b) : 0 ≤ b_sum f l := by
  induction l with
  | nil => exact Int.le_refl _
  | cons a l ih =>
    simp only [b_sum]
    have := h a List.mem_cons_self
    have := ih (fun b hb => h b (List.mem_cons_of_mem _ hb))
    omega
