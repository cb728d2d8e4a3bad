set_option maxRecDepth 100000
/-! TOKENS, pure: of n bytes b -/
abbrev lx_L (c : Int) : Prop := 97 ≤ c ∧ c ≤ 122
abbrev lx_D (c : Int) : Prop := 48 ≤ c ∧ c ≤ 57
abbrev lx_B (c : Int) : Prop := c = 32 ∨ c = 9 ∨ c = 13 ∨ c = 10
abbrev lx_W (c : Int) : Prop := lx_L c ∨ lx_D c
abbrev lx_S (c : Int) : Prop := c = 40 ∨ c = 41 ∨ c = 44 ∨ c = 46 ∨ c = 43 ∨ c = 45 ∨ c = 42 ∨ c = 47 ∨ c = 37 ∨ c = 61 ∨ c = 60 ∨ c = 62
def lx_run (b : Int → Int) (n : Nat) (f : Int → Prop) [DecidablePred f] : Nat → Nat → Nat
  | 0, p => p
  | m + 1, p => if p < n ∧ f (b p) then lx_run b n f m (p + 1) else p
def lx_end (b : Int → Int) (n : Nat) (f : Int → Prop) [DecidablePred f] (p : Nat) : Nat := lx_run b n f (n - p) p
def lx_num (b : Int → Int) (n : Nat) : Nat → Nat → Bool → Int → Bool × Int
  | 0, _, g, v => (g, v)
  | m + 1, p, g, v => if p < n ∧ lx_D (b p) then (if g = true ∧ (v < 922337203685477580 ∨ (v = 922337203685477580 ∧ b p - 48 ≤ 7)) then lx_num b n m (p + 1) true (10 * v + (b p - 48)) else lx_num b n m (p + 1) false v) else (g, v)
def lx_nm (b : Int → Int) (n p : Nat) (g : Bool) (v : Int) : Bool × Int := lx_num b n (n - p) p g v
def lx_two (c d : Int) : Int := if c = 60 ∧ d = 62 then 400 else if c = 60 ∧ d = 61 then 401 else if c = 62 ∧ d = 61 then 402 else 0
def lx_tok (b : Int → Int) (n p : Nat) : Int × Nat × Int :=
  if n ≤ p then (0, p, 0)
  else if lx_L (b p) then (if 12 < lx_end b n lx_W p - p then 3 else 1, lx_end b n lx_W p, 0)
  else if lx_D (b p) then (if (lx_nm b n p true 0).1 = false ∨ (lx_end b n lx_D p < n ∧ lx_L (b (lx_end b n lx_D p))) then 3 else 2, lx_end b n lx_D p, (lx_nm b n p true 0).2)
  else if lx_two (b p) (if p + 1 < n then b (p + 1 : Nat) else 0) ≠ 0 then (lx_two (b p) (if p + 1 < n then b (p + 1 : Nat) else 0), p + 2, 0)
  else (if lx_S (b p) then b p else 3, p + 1, 0)
def tk_p (b : Int → Int) (n : Nat) : Nat → Nat
  | 0 => lx_end b n lx_B 0
  | k + 1 => lx_end b n lx_B (lx_tok b n (tk_p b n k)).2.1
def tk_s (b : Int → Int) (n k : Nat) : Int := (lx_tok b n (tk_p b n k)).1
def tk_e (b : Int → Int) (n k : Nat) : Nat := (lx_tok b n (tk_p b n k)).2.1
def tk_v (b : Int → Int) (n k : Nat) : Int := (lx_tok b n (tk_p b n k)).2.2
def tk_t (b : Int → Int) (n k : Nat) : List Int := (List.range (tk_e b n k - tk_p b n k)).map (fun i => b ((tk_p b n k + i : Nat) : Int))
section
variable {b : Int → Int} {n p k : Nat} {g : Bool} {v : Int}
theorem lx_end_go {f : Int → Prop} [DecidablePred f] (h : p < n) (hf : f (b p)) : lx_end b n f p = lx_end b n f (p + 1) := by
  unfold lx_end
  rw [show n - p = (n - (p + 1)) + 1 by omega]
  conv => lhs; unfold lx_run
  rw [if_pos ⟨h, hf⟩]
theorem lx_end_no {f : Int → Prop} [DecidablePred f] (h : ¬ (p < n ∧ f (b p))) : lx_end b n f p = p := by
  unfold lx_end
  cases hm : n - p with
  | zero => rfl
  | succ m => unfold lx_run; rw [if_neg h]
theorem lx_end_ge {f : Int → Prop} [DecidablePred f] : ∀ (m p : Nat), m = n - p → p ≤ lx_end b n f p ∧ (p ≤ n → lx_end b n f p ≤ n) ∧ ¬ (lx_end b n f p < n ∧ f (b (lx_end b n f p))) ∧ ∀ q, p ≤ q → q < lx_end b n f p → q < n ∧ f (b q) := by
  intro m
  induction m with
  | zero =>
    intro p hm
    rw [lx_end_no (by omega)]
    exact ⟨Nat.le_refl p, fun h => h, by omega, fun q h1 h2 => by omega⟩
  | succ m ih =>
    intro p hm
    by_cases hf : f (b p)
    · rw [lx_end_go (by omega) hf]
      obtain ⟨h1, h2, h3, h4⟩ := ih (p + 1) (by omega)
      refine ⟨by omega, fun _ => h2 (by omega), h3, fun q hq1 hq2 => ?_⟩
      by_cases c : q = p
      · rw [c]; exact ⟨by omega, hf⟩
      · exact h4 q (by omega) hq2
    · rw [lx_end_no (fun h => hf h.2)]
      exact ⟨Nat.le_refl p, fun h => h, fun h => hf h.2, fun q h1 h2 => by omega⟩
theorem lx_nm_no (h : ¬ (p < n ∧ lx_D (b p))) : lx_nm b n p g v = (g, v) := by
  unfold lx_nm
  cases hm : n - p with
  | zero => rfl
  | succ m => unfold lx_num; rw [if_neg h]
theorem lx_nm_yes (h : p < n) (hd : lx_D (b p)) (hg : g = true ∧ (v < 922337203685477580 ∨ (v = 922337203685477580 ∧ b p - 48 ≤ 7))) : lx_nm b n p g v = lx_nm b n (p + 1) true (10 * v + (b p - 48)) := by
  unfold lx_nm
  rw [show n - p = (n - (p + 1)) + 1 by omega]
  conv => lhs; unfold lx_num
  rw [if_pos ⟨h, hd⟩, if_pos hg]
theorem lx_nm_bad (h : p < n) (hd : lx_D (b p)) (hg : ¬ (g = true ∧ (v < 922337203685477580 ∨ (v = 922337203685477580 ∧ b p - 48 ≤ 7)))) : lx_nm b n p g v = lx_nm b n (p + 1) false v := by
  unfold lx_nm
  rw [show n - p = (n - (p + 1)) + 1 by omega]
  conv => lhs; unfold lx_num
  rw [if_pos ⟨h, hd⟩, if_neg hg]
theorem lx_nm_r : ∀ (m p : Nat) (g : Bool) (v : Int), m = n - p → 0 ≤ v → v ≤ 9223372036854775807 → 0 ≤ (lx_nm b n p g v).2 ∧ (lx_nm b n p g v).2 ≤ 9223372036854775807 := by
  intro m
  induction m with
  | zero =>
    intro p g v hm h0 h1
    rw [lx_nm_no (by omega)]
    exact ⟨h0, h1⟩
  | succ m ih =>
    intro p g v hm h0 h1
    by_cases hd : lx_D (b p)
    · by_cases hg : g = true ∧ (v < 922337203685477580 ∨ (v = 922337203685477580 ∧ b p - 48 ≤ 7))
      · rw [lx_nm_yes (by omega) hd hg]
        unfold lx_D at hd
        exact ih (p + 1) _ _ (by omega) (by omega) (by omega)
      · rw [lx_nm_bad (by omega) hd hg]
        exact ih (p + 1) _ _ (by omega) h0 h1
    · rw [lx_nm_no (fun h => hd h.2)]
      exact ⟨h0, h1⟩
theorem lx_two_c {c d : Int} (h : lx_two c d ≠ 0) : (c = 60 ∨ c = 62) ∧ (d = 61 ∨ d = 62) := by
  unfold lx_two at h
  split at h
  · omega
  · split at h
    · omega
    · split at h
      · omega
      · exact absurd rfl h
/-- a token by what begins it -/
theorem lx_tok_end (h : n ≤ p) : lx_tok b n p = (0, p, 0) := if_pos h
theorem lx_tok_w (h : p < n) (hl : lx_L (b p)) : lx_tok b n p = (if 12 < lx_end b n lx_W p - p then 3 else 1, lx_end b n lx_W p, 0) := by
  unfold lx_tok; rw [if_neg (by omega), if_pos hl]
theorem lx_tok_n (h : p < n) (hd : lx_D (b p)) : lx_tok b n p = (if (lx_nm b n p true 0).1 = false ∨ (lx_end b n lx_D p < n ∧ lx_L (b (lx_end b n lx_D p))) then 3 else 2, lx_end b n lx_D p, (lx_nm b n p true 0).2) := by
  unfold lx_tok; rw [if_neg (by omega), if_neg (by unfold lx_D at hd; unfold lx_L; omega), if_pos hd]
theorem lx_tok_2 (h : p < n) (hl : ¬ lx_L (b p)) (hd : ¬ lx_D (b p)) (ht : lx_two (b p) (if p + 1 < n then b (p + 1 : Nat) else 0) ≠ 0) : lx_tok b n p = (lx_two (b p) (if p + 1 < n then b (p + 1 : Nat) else 0), p + 2, 0) := by
  unfold lx_tok; rw [if_neg (by omega), if_neg hl, if_neg hd, if_pos ht]
theorem lx_tok_1 (h : p < n) (hl : ¬ lx_L (b p)) (hd : ¬ lx_D (b p)) (ht : ¬ lx_two (b p) (if p + 1 < n then b (p + 1 : Nat) else 0) ≠ 0) : lx_tok b n p = (if lx_S (b p) then b p else 3, p + 1, 0) := by
  unfold lx_tok; rw [if_neg (by omega), if_neg hl, if_neg hd, if_neg ht]
theorem lx_tok_go (h : p < n) : p < (lx_tok b n p).2.1 ∧ (lx_tok b n p).2.1 ≤ n ∧ (lx_tok b n p).1 ≠ 0 := by
  by_cases hl : lx_L (b p)
  · rw [lx_tok_w h hl]
    have h1 : lx_end b n lx_W p = lx_end b n lx_W (p + 1) := lx_end_go h (Or.inl hl)
    obtain ⟨a1, a2, -⟩ := lx_end_ge (b := b) (n := n) (f := lx_W) _ (p + 1) rfl
    refine ⟨by show p < lx_end b n lx_W p; omega, by show lx_end b n lx_W p ≤ n; have := a2 (by omega); omega, ?_⟩
    show (if _ then (3 : Int) else 1) ≠ 0
    split <;> decide
  · by_cases hd : lx_D (b p)
    · rw [lx_tok_n h hd]
      have h1 : lx_end b n lx_D p = lx_end b n lx_D (p + 1) := lx_end_go h hd
      obtain ⟨a1, a2, -⟩ := lx_end_ge (b := b) (n := n) (f := lx_D) _ (p + 1) rfl
      refine ⟨by show p < lx_end b n lx_D p; omega, by show lx_end b n lx_D p ≤ n; have := a2 (by omega); omega, ?_⟩
      show (if _ then (3 : Int) else 2) ≠ 0
      split <;> decide
    · by_cases ht : lx_two (b p) (if p + 1 < n then b (p + 1 : Nat) else 0) ≠ 0
      · rw [lx_tok_2 h hl hd ht]
        have := (lx_two_c ht).2
        refine ⟨by show p < p + 2; omega, ?_, ht⟩
        show p + 2 ≤ n
        by_cases c : p + 1 < n
        · omega
        · rw [if_neg c] at this; omega
      · rw [lx_tok_1 h hl hd ht]
        refine ⟨by show p < p + 1; omega, by show p + 1 ≤ n; omega, ?_⟩
        show (if lx_S (b p) then b p else 3) ≠ 0
        split
        · rename_i c; unfold lx_S at c; omega
        · decide
theorem tk_p_n : ∀ k, tk_p b n k ≤ n := by
  intro k
  induction k with
  | zero => exact (lx_end_ge (b := b) (n := n) (f := lx_B) _ 0 rfl).2.1 (by omega)
  | succ k ih =>
    refine (lx_end_ge (b := b) (n := n) (f := lx_B) _ _ rfl).2.1 ?_
    by_cases c : tk_p b n k < n
    · exact (lx_tok_go c).2.1
    · rw [lx_tok_end (by omega)]; exact ih
theorem tk_p_b (h : tk_p b n k < n) : ¬ lx_B (b (tk_p b n k)) := by
  cases k with
  | zero => exact fun hb => (lx_end_ge (b := b) (n := n) (f := lx_B) _ 0 rfl).2.2.1 ⟨h, hb⟩
  | succ k => exact fun hb => (lx_end_ge (b := b) (n := n) (f := lx_B) _ (lx_tok b n (tk_p b n k)).2.1 rfl).2.2.1 ⟨h, hb⟩
theorem tk_e_le (h : tk_p b n k < n) : tk_p b n k < tk_e b n k ∧ tk_e b n k ≤ n ∧ tk_s b n k ≠ 0 ∧ tk_e b n k ≤ tk_p b n (k + 1) := ⟨(lx_tok_go h).1, (lx_tok_go h).2.1, (lx_tok_go h).2.2, (lx_end_ge (b := b) (n := n) (f := lx_B) _ (lx_tok b n (tk_p b n k)).2.1 rfl).1⟩
theorem tk_s0 : tk_s b n k = 0 ↔ tk_p b n k = n := by
  constructor
  · intro h
    by_cases c : tk_p b n k < n
    · exact absurd h (tk_e_le c).2.2.1
    · have := tk_p_n (b := b) (n := n) k; omega
  · intro h; unfold tk_s; rw [h, lx_tok_end (Nat.le_refl n)]
theorem tk_p_S (h : tk_p b n k = n) : tk_p b n (k + 1) = n := by
  show lx_end b n lx_B (lx_tok b n (tk_p b n k)).2.1 = n
  rw [h, lx_tok_end (Nat.le_refl n), lx_end_no (by simp)]
theorem tk_p_st : ∀ j, tk_p b n k = n → tk_p b n (k + j) = n := by
  intro j h
  induction j with
  | zero => exact h
  | succ j ih => exact tk_p_S ih
theorem tk_p_ge : ∀ k, (∀ j < k, tk_p b n j < n) → k ≤ tk_p b n k := by
  intro k
  induction k with
  | zero => intro _; omega
  | succ k ih =>
    intro h
    have h1 := ih (fun j hj => h j (by omega))
    have h2 := tk_e_le (h k (by omega))
    omega
/-- the last token that counts: the end, or what is none -/
def tk_K (b : Int → Int) (n K : Nat) : Prop := (∀ k < K, tk_s b n k ≠ 0 ∧ tk_s b n k ≠ 3) ∧ (tk_s b n K = 0 ∨ tk_s b n K = 3)
theorem tk_K.lt {K : Nat} (h : tk_K b n K) (hk : k < K) : tk_p b n k < n := by
  have h1 := (h.1 k hk).1
  have h2 := tk_p_n (b := b) (n := n) k
  by_cases c : tk_p b n k = n
  · exact absurd (tk_s0.mpr c) h1
  · omega
theorem tk_K.le {K : Nat} (h : tk_K b n K) : K ≤ n := by
  have h1 := tk_p_ge (b := b) (n := n) K (fun j hj => h.lt hj)
  have h2 := tk_p_n (b := b) (n := n) K
  omega
theorem tk_K.uq {K K' : Nat} (h : tk_K b n K) (h' : tk_K b n K') : K = K' := by
  rcases Nat.lt_trichotomy K K' with c | c | c
  · have := h'.1 K c; have := h.2; omega
  · exact c
  · have := h.1 K' c; have := h'.2; omega
theorem tk_v_r : 0 ≤ tk_v b n k ∧ tk_v b n k ≤ 9223372036854775807 := by
  unfold tk_v
  by_cases h : tk_p b n k < n
  · by_cases hl : lx_L (b (tk_p b n k))
    · rw [lx_tok_w h hl]; exact ⟨by show (0 : Int) ≤ 0; omega, by show (0 : Int) ≤ _; omega⟩
    · by_cases hd : lx_D (b (tk_p b n k))
      · rw [lx_tok_n h hd]; exact lx_nm_r _ _ _ _ rfl (by omega) (by omega)
      · by_cases ht : lx_two (b (tk_p b n k)) (if tk_p b n k + 1 < n then b (tk_p b n k + 1 : Nat) else 0) ≠ 0
        · rw [lx_tok_2 h hl hd ht]; exact ⟨by show (0 : Int) ≤ 0; omega, by show (0 : Int) ≤ _; omega⟩
        · rw [lx_tok_1 h hl hd ht]; exact ⟨by show (0 : Int) ≤ 0; omega, by show (0 : Int) ≤ _; omega⟩
  · rw [lx_tok_end (by omega)]; exact ⟨by show (0 : Int) ≤ 0; omega, by show (0 : Int) ≤ _; omega⟩
end
