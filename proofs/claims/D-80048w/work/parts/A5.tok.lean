set_option maxRecDepth 100000
/-! TOKENS, pure: which is which -/
def tk_w (b : Int → Int) (n k : Nat) : List Int := tk_tx b (tk_p b n k) (tk_e b n k - tk_p b n k)
/-- a word or a sign of this text -/
def tk_is (b : Int → Int) (n k : Nat) (w : List Int) : Prop := (tk_kd (tk_s b n k) = 1 ∨ tk_kd (tk_s b n k) = 3) ∧ tk_w b n k = w
/-- a name -/
def tk_nm (b : Int → Int) (n k : Nat) : Prop := tk_s b n k = 1 ∧ ¬ tkn (tk_w b n k)
section
variable {b : Int → Int} {n k : Nat}
theorem tk_kd_1 {s : Int} : tk_kd s = 1 ↔ s = 1 := by
  unfold tk_kd
  by_cases h0 : s = 0
  · rw [if_pos h0]; omega
  · rw [if_neg h0]
    by_cases h1 : s = 1
    · rw [if_pos h1]; omega
    · rw [if_neg h1]
      by_cases h2 : s = 2
      · rw [if_pos h2]; omega
      · rw [if_neg h2]
        by_cases h3 : s = 3
        · rw [if_pos h3]; omega
        · rw [if_neg h3]; omega
theorem tk_kd_3 {s : Int} : tk_kd s = 3 ↔ (s ≠ 0 ∧ s ≠ 1 ∧ s ≠ 2 ∧ s ≠ 3) := by
  unfold tk_kd
  by_cases h0 : s = 0
  · rw [if_pos h0]; omega
  · rw [if_neg h0]
    by_cases h1 : s = 1
    · rw [if_pos h1]; omega
    · rw [if_neg h1]
      by_cases h2 : s = 2
      · rw [if_pos h2]; omega
      · rw [if_neg h2]
        by_cases h3 : s = 3
        · rw [if_pos h3]; omega
        · rw [if_neg h3]; omega
theorem tk_kd_2 {s : Int} : tk_kd s = 2 ↔ s = 2 := by
  unfold tk_kd
  by_cases h0 : s = 0
  · rw [if_pos h0]; omega
  · rw [if_neg h0]
    by_cases h1 : s = 1
    · rw [if_pos h1]; omega
    · rw [if_neg h1]
      by_cases h2 : s = 2
      · rw [if_pos h2]; omega
      · rw [if_neg h2]
        by_cases h3 : s = 3
        · rw [if_pos h3]; omega
        · rw [if_neg h3]; omega
theorem tk_kd_0 {s : Int} : tk_kd s = 0 ↔ s = 0 := by
  unfold tk_kd
  by_cases h0 : s = 0
  · rw [if_pos h0]; omega
  · rw [if_neg h0]
    by_cases h1 : s = 1
    · rw [if_pos h1]; omega
    · rw [if_neg h1]
      by_cases h2 : s = 2
      · rw [if_pos h2]; omega
      · rw [if_neg h2]
        by_cases h3 : s = 3
        · rw [if_pos h3]; omega
        · rw [if_neg h3]; omega
theorem tk_tx_1 (p : Nat) : tk_tx b p 1 = [b p] := rfl
theorem tk_tx_2 (p : Nat) : tk_tx b p 2 = [b p, b (p + 1 : Nat)] := rfl
theorem tk_tx_hd {p m : Nat} : tk_tx b p (m + 1) = b p :: (tk_tx b p (m + 1)).tail := by
  unfold tk_tx
  rw [List.range_succ_eq_map, List.map_cons]
  rfl
/-- what a token is -/
theorem tk_form : (tk_s b n k = 0 ∧ tk_p b n k = n ∧ tk_w b n k = []) ∨ (tk_p b n k < n ∧ (
    (lx_L (b (tk_p b n k)) ∧ (tk_s b n k = 1 ∨ tk_s b n k = 3) ∧ (tk_s b n k = 1 → tk_e b n k - tk_p b n k ≤ 12))
    ∨ (lx_D (b (tk_p b n k)) ∧ (tk_s b n k = 2 ∨ tk_s b n k = 3))
    ∨ ((tk_s b n k = 400 ∧ tk_w b n k = [60, 62]) ∨ (tk_s b n k = 401 ∧ tk_w b n k = [60, 61]) ∨ (tk_s b n k = 402 ∧ tk_w b n k = [62, 61]))
    ∨ (tk_s b n k = 3 ∨ (lx_S (tk_s b n k) ∧ tk_w b n k = [tk_s b n k])))) := by
  by_cases h : tk_p b n k < n
  · right
    refine ⟨h, ?_⟩
    unfold tk_w tk_s tk_e
    by_cases hl : lx_L (b (tk_p b n k))
    · left
      rw [lx_tok_w h hl]
      refine ⟨hl, ?_, ?_⟩
      · show (if _ then (3 : Int) else 1) = 1 ∨ (if _ then (3 : Int) else 1) = 3
        split
        · exact Or.inr rfl
        · exact Or.inl rfl
      · show (if _ then (3 : Int) else 1) = 1 → _
        split
        · intro q; omega
        · intro _; show lx_end b n lx_W _ - _ ≤ 12; omega
    · by_cases hd : lx_D (b (tk_p b n k))
      · right; left
        rw [lx_tok_n h hd]
        refine ⟨hd, ?_⟩
        show (if _ then (3 : Int) else 2) = 2 ∨ (if _ then (3 : Int) else 2) = 3
        split
        · exact Or.inr rfl
        · exact Or.inl rfl
      · by_cases ht : lx_two (b (tk_p b n k)) (if tk_p b n k + 1 < n then b (tk_p b n k + 1 : Nat) else 0) ≠ 0
        · right; right; left
          have h2 := (lx_two_c ht).2
          have hn : tk_p b n k + 1 < n := by
            by_cases c : tk_p b n k + 1 < n
            · exact c
            · rw [if_neg c] at h2; omega
          rw [lx_tok_2 h hl hd ht]
          rw [if_pos hn] at ht ⊢
          show (lx_two _ _ = 400 ∧ tk_tx b _ (tk_p b n k + 2 - tk_p b n k) = _) ∨ (lx_two _ _ = 401 ∧ tk_tx b _ (tk_p b n k + 2 - tk_p b n k) = _) ∨ (lx_two _ _ = 402 ∧ tk_tx b _ (tk_p b n k + 2 - tk_p b n k) = _)
          rw [show tk_p b n k + 2 - tk_p b n k = 2 by omega, tk_tx_2]
          unfold lx_two at ht ⊢
          split
          · rename_i q; left; exact ⟨rfl, by rw [q.1, q.2]⟩
          · split
            · rename_i q; right; left; exact ⟨rfl, by rw [q.1, q.2]⟩
            · split
              · rename_i q; right; right; exact ⟨rfl, by rw [q.1, q.2]⟩
              · rename_i q1 q2 q3; rw [if_neg q1, if_neg q2, if_neg q3] at ht; exact absurd rfl ht
        · right; right; right
          rw [lx_tok_1 h hl hd ht]
          show (if lx_S (b (tk_p b n k)) then b (tk_p b n k) else 3) = 3 ∨ (lx_S (if lx_S (b (tk_p b n k)) then b (tk_p b n k) else 3) ∧ tk_tx b _ (tk_p b n k + 1 - tk_p b n k) = [if lx_S (b (tk_p b n k)) then b (tk_p b n k) else 3])
          rw [show tk_p b n k + 1 - tk_p b n k = 1 by omega, tk_tx_1]
          by_cases hS : lx_S (b (tk_p b n k))
          · right; rw [if_pos hS]; exact ⟨hS, rfl⟩
          · left; rw [if_neg hS]
  · left
    have h1 := tk_p_n (b := b) (n := n) k
    have h2 : tk_p b n k = n := by omega
    refine ⟨tk_s0.mpr h2, h2, ?_⟩
    unfold tk_w tk_e
    rw [lx_tok_end (by omega)]
    show tk_tx b _ (tk_p b n k - tk_p b n k) = []
    rw [Nat.sub_self]
    rfl
theorem tk_w_hd (h : tk_p b n k < n) : ∃ w, tk_w b n k = b (tk_p b n k) :: w := by
  have := tk_e_le h
  unfold tk_w
  rw [show tk_e b n k - tk_p b n k = (tk_e b n k - tk_p b n k - 1) + 1 by omega]
  exact ⟨_, tk_tx_hd⟩
/-- a word -/
theorem tk_is_w {x : Int} {w : List Int} (hx : lx_L x) : tk_is b n k (x :: w) ↔ (tk_s b n k = 1 ∧ tk_w b n k = x :: w) := by
  unfold tk_is
  rw [tk_kd_1, tk_kd_3]
  constructor
  · rintro ⟨h1, h2⟩
    refine ⟨?_, h2⟩
    rcases tk_form (b := b) (n := n) (k := k) with f | ⟨hp, f | f | f | f⟩
    · rw [f.2.2] at h2; cases h2
    · omega
    · omega
    · unfold lx_L at hx
      rcases f with ⟨-, f⟩ | ⟨-, f⟩ | ⟨-, f⟩ <;> (rw [f] at h2; simp at h2; omega)
    · rcases f with f | ⟨f1, f2⟩
      · omega
      · rw [f2] at h2
        simp at h2
        unfold lx_L at hx
        unfold lx_S at f1
        omega
  · rintro ⟨h1, h2⟩
    exact ⟨Or.inl h1, h2⟩
/-- a sign -/
theorem tk_is_s {x : Int} (hx : lx_S x) : tk_is b n k [x] ↔ tk_s b n k = x := by
  unfold tk_is
  rw [tk_kd_1, tk_kd_3]
  have hx' := hx
  unfold lx_S at hx'
  constructor
  · rintro ⟨h1, h2⟩
    rcases tk_form (b := b) (n := n) (k := k) with f | ⟨hp, f | f | f | f⟩
    · rw [f.2.2] at h2; cases h2
    · obtain ⟨w, hw⟩ := tk_w_hd hp
      rw [hw] at h2
      simp at h2
      have := f.1
      unfold lx_L at this
      omega
    · omega
    · rcases f with ⟨-, f⟩ | ⟨-, f⟩ | ⟨-, f⟩ <;> (rw [f] at h2; simp at h2)
    · rcases f with f | ⟨f1, f2⟩
      · omega
      · rw [f2] at h2
        simp at h2
        exact h2
  · intro h
    rcases tk_form (b := b) (n := n) (k := k) with f | ⟨hp, f | f | f | f⟩
    · omega
    · omega
    · omega
    · omega
    · rcases f with f | ⟨f1, f2⟩
      · omega
      · refine ⟨Or.inr ⟨by omega, by omega, by omega, by omega⟩, ?_⟩
        rw [f2, h]
theorem tk_is_2 : (tk_is b n k [60, 62] ↔ tk_s b n k = 400) ∧ (tk_is b n k [60, 61] ↔ tk_s b n k = 401) ∧ (tk_is b n k [62, 61] ↔ tk_s b n k = 402) := by
  unfold tk_is
  rw [tk_kd_1, tk_kd_3]
  rcases tk_form (b := b) (n := n) (k := k) with f | ⟨hp, f | f | f | f⟩
  · rw [f.2.2, f.1]; simp
  · obtain ⟨w, hw⟩ := tk_w_hd hp
    have := f.1
    unfold lx_L at this
    rw [hw]
    refine ⟨⟨fun h => ?_, fun h => by omega⟩, ⟨fun h => ?_, fun h => by omega⟩, ⟨fun h => ?_, fun h => by omega⟩⟩ <;> (have h := h.2; simp at h; omega)
  · refine ⟨⟨fun h => by omega, fun h => by omega⟩, ⟨fun h => by omega, fun h => by omega⟩, ⟨fun h => by omega, fun h => by omega⟩⟩
  · rcases f with ⟨f1, f2⟩ | ⟨f1, f2⟩ | ⟨f1, f2⟩ <;> rw [f1, f2] <;> simp
  · rcases f with f | ⟨f1, f2⟩
    · rw [f]; simp
    · have f3 := f1
      unfold lx_S at f1
      rw [f2]
      refine ⟨⟨fun h => ?_, fun h => by omega⟩, ⟨fun h => ?_, fun h => by omega⟩, ⟨fun h => ?_, fun h => by omega⟩⟩ <;> (have h := h.2; simp at h)
end
