set_option maxRecDepth 100000
theorem l_ins_get {α : Type} {E : List α} {k j : Nat} {x e : α} (hk : k ≤ E.length) (h : (E.take k ++ x :: E.drop k)[j]? = some e) : (j < k ∧ E[j]? = some e) ∨ (j = k ∧ e = x) ∨ (k < j ∧ E[j - 1]? = some e) := by
  rw [List.getElem?_append] at h
  have hl : (E.take k).length = k := by rw [List.length_take]; omega
  rw [hl] at h
  split at h
  · rename_i hj
    left
    rw [List.getElem?_take_of_lt hj] at h
    exact ⟨hj, h⟩
  · rename_i hj
    by_cases ej : j = k
    · subst ej
      right; left
      rw [Nat.sub_self] at h
      simp at h
      exact ⟨rfl, h.symm⟩
    · right; right
      have e1 : j - k = (j - k - 1) + 1 := by omega
      rw [e1, List.getElem?_cons_succ, List.getElem?_drop] at h
      have e2 : k + (j - k - 1) = j - 1 := by omega
      rw [e2] at h
      exact ⟨by omega, h⟩
theorem l_del_get {α : Type} {E : List α} {k j : Nat} {e : α} (hk : k < E.length) (h : (E.take k ++ E.drop (k + 1))[j]? = some e) : (j < k ∧ E[j]? = some e) ∨ (k ≤ j ∧ E[j + 1]? = some e) := by
  rw [List.getElem?_append] at h
  have hl : (E.take k).length = k := by rw [List.length_take]; omega
  rw [hl] at h
  split at h
  · rename_i hj
    left
    rw [List.getElem?_take_of_lt hj] at h
    exact ⟨hj, h⟩
  · rename_i hj
    right
    rw [List.getElem?_drop] at h
    have e2 : k + 1 + (j - k) = j + 1 := by omega
    rw [e2] at h
    exact ⟨by omega, h⟩
theorem l_ins_len {α : Type} {E : List α} {k : Nat} (x : α) (hk : k ≤ E.length) : (E.take k ++ x :: E.drop k).length = E.length + 1 := by
  rw [List.length_append, List.length_cons, List.length_take, List.length_drop]; omega
theorem l_del_len {α : Type} {E : List α} {k : Nat} (hk : k < E.length) : (E.take k ++ E.drop (k + 1)).length + 1 = E.length := by
  rw [List.length_append, List.length_take, List.length_drop]; omega
theorem l_ins_mem {α : Type} {E : List α} {k : Nat} {x e : α} (h : e ∈ E.take k ++ x :: E.drop k) : e = x ∨ e ∈ E := by
  rcases List.mem_append.mp h with h | h
  · exact Or.inr (List.mem_of_mem_take h)
  · rcases List.mem_cons.mp h with h | h
    · exact Or.inl h
    · exact Or.inr (List.mem_of_mem_drop h)
theorem l_split {α : Type} (E : List α) (k : Nat) : E = E.take k ++ E.drop k := (List.take_append_drop k E).symm
theorem p2_lt {i j : Nat} (h : (8 : Int) * 2 ^ i < 8 * 2 ^ j) : (2 : Int) * (8 * 2 ^ i) ≤ 8 * 2 ^ j := by
  have h1 : (2 : Int) ^ i < 2 ^ j := by omega
  have h2 : i < j := by
    have : ((2 ^ i : Nat) : Int) < ((2 ^ j : Nat) : Int) := by
      rw [Int.natCast_pow, Int.natCast_pow]; exact h1
    have h0 : 2 ^ i < 2 ^ j := Int.ofNat_lt.mp this
    exact (Nat.pow_lt_pow_iff_right (by decide)).mp h0
  have h3 : 2 ^ (i + 1) ≤ 2 ^ j := Nat.pow_le_pow_right (by decide) h2
  have h4 : ((2 ^ (i + 1) : Nat) : Int) ≤ ((2 ^ j : Nat) : Int) := by omega
  rw [Int.natCast_pow, Int.natCast_pow, Int.pow_succ] at h4
  have e : ((2 : Nat) : Int) = 2 := rfl
  rw [e] at h4
  omega
section
variable {C : bw_C} {c c' c2 : cs_S} {b r x : Int} {E : Int → bw_L} {P : List Int} {o o' o2 : Int → Int} {l : rwt} {d w : Nat} {n : Int} {Q : Int → cs_S → Prop}
/-- bags differ from one another and from the pool -/
theorem BI.b7 (h : BI C c E P o) (hb : b ∈ C.1) : b ≠ 7 ∧ 0 ≤ b := by
  have h1 := (h.bag hb).1
  have := c_r_in (c := c) (a := b) (by rw [h1]; decide)
  refine ⟨?_, this.1⟩
  intro e; subst e; rw [h.1.1] at h1; cases h1
theorem BI.bm1 (h : BI C c E P o) (hb : b ∈ C.1) : b ≠ -1 := by have := (h.b7 hb).2; omega
theorem k_grow (h : BI C c E P o) (hb : b ∈ C.1) (hf : ((E b).length : Int) = bw_ln c b) (hc : ((E b).length : Int) < C.2.1 b)
    (kk : ∀ c', BI C c' E P o → bx c o c' o → c_up (fun q a => a = b ∧ (q = 241 ∨ q = 242)) c c' → ((E b).length : Int) < bw_ln c' b → Q 0 c') : kbag_grow (d + 1) b c Q := by
  have hB := h.bag hb
  have hle := h.le hb
  refine k_grow0 hB h.nn hf (by omega) (fun c1 u g ga gt gl gm gn => ?_)
  obtain ⟨i1, i2, i3, i4, i5, r1, r2, r3, r4, r5, r6⟩ := id h
  have hpos : 8 ≤ bw_ln c b := by
    obtain ⟨j, hj⟩ := hB.2.2.2.2.2.1
    unfold bw_ln
    rw [hj]
    have : (0 : Int) < 2 ^ j := Int.pow_pos (by decide)
    omega
  obtain ⟨p1, p2⟩ := i1.up (o' := o) u (by omega) (by omega) (by omega) (by omega) (fun x hx => (i1.2.2.2.2.2.2.2 x hx).2)
  have oth : ∀ a ∈ C.1, a ≠ b → bw_B c1 a (E a) o ∧ c_v c1 241 a 0 = c_v c 241 a 0 ∧ c_v c1 242 a 0 = c_v c 242 a 0 ∧ bw_ln c1 a = bw_ln c a := fun a ha hne =>
    (i2 a ha).up u (by omega) (by omega) (by omega) (by omega) (by omega) (by omega) (fun e he => by omega) (fun e he => ((i2 a ha).2.2.2.2.2.2.2.2.2.2 e he).2)
  have lim : bw_ln c1 b ≤ C.2.2.1 b := by
    obtain ⟨a1, a2, ⟨j, a3⟩, a4, a5⟩ := r1 b hb
    obtain ⟨i, hi⟩ := hB.2.2.2.2.2.1
    have hi : bw_ln c b = 8 * 2 ^ i := hi
    rw [gl, a3, hi]
    exact p2_lt (by omega)
  have esum : b_sum (bw_ln c1) C.1 = b_sum (bw_ln c) C.1 + bw_ln c b := by
    rw [b_sum_upd i5 hb (fun a ha hne => (oth a ha hne).2.2.2), gl]; omega
  have hln : ∀ a ∈ C.1, c_v c 241 a 0 < c_n c ∧ c_v c 242 a 0 < c_n c := fun a ha => ⟨(c_r_in (by rw [(i2 a ha).2.2.1]; decide)).2, (c_r_in (by rw [(i2 a ha).2.2.2.1]; decide)).2⟩
  refine kk c1 ⟨p1, fun a ha => ?_, fun a ha a' ha' hne => ?_, fun y hy => ?_, i5, fun a ha => ?_, r2, r3, r4, ?_, ?_⟩ ⟨u.mono (fun q a hw => by unfold bw_w; omega), fun _ _ w => w⟩ u ?_
  · by_cases e : a = b
    · subst e; exact g
    · exact (oth a ha e).1
  · by_cases e : a = b
    · subst e
      have e' : a' ≠ a := fun w => hne w.symm
      have := hln a' ha'
      rw [ga, gt, (oth a' ha' e').2.1, (oth a' ha' e').2.2.1]
      omega
    · by_cases e' : a' = b
      · subst e'
        have := hln a ha
        rw [ga, gt, (oth a ha e).2.1, (oth a ha e).2.2.1]
        omega
      · rw [(oth a ha e).2.1, (oth a ha e).2.2.1, (oth a' ha' e').2.1, (oth a' ha' e').2.2.1]
        exact i3 a ha a' ha' hne
  · have := i4 y hy; omega
  · obtain ⟨a1, a2, a3, a4, a5⟩ := r1 a ha
    refine ⟨a1, a2, a3, a4, ?_⟩
    by_cases e : a = b
    · subst e; exact lim
    · rw [(oth a ha e).2.2.2]; exact a5
  · rw [gm, esum, p2, r5]; omega
  · rw [gn, esum, p2]; omega
  · rw [gl]; omega
end
