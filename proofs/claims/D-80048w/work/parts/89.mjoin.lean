set_option maxRecDepth 100000
/-! the model: sets, joins -/
def sf (w1 : Bool) (p : rwt → Bool) : List rwt → List rwt → List rwt
  | acc, [] => acc
  | acc, x :: L => if p x = true ∧ (w1 = true ∨ x ∉ acc) then sf w1 p (acc ++ [x]) L else sf w1 p acc L
theorem sf_c {w1 : Bool} {p : rwt → Bool} {acc L : List rwt} {x : rwt} : sf w1 p acc (x :: L) = if p x = true ∧ (w1 = true ∨ x ∉ acc) then sf w1 p (acc ++ [x]) L else sf w1 p acc L := rfl
theorem sf_1 {p : rwt → Bool} : ∀ (L acc : List rwt), (∀ x ∈ L, p x = true) → sf true p acc L = acc ++ L := by
  intro L
  induction L with
  | nil => intro acc _; simp [sf]
  | cons x L ih =>
    intro acc h
    unfold sf
    rw [if_pos ⟨h x List.mem_cons_self, Or.inl rfl⟩, ih _ (fun y hy => h y (List.mem_cons_of_mem _ hy))]
    simp
theorem sf_0 {p : rwt → Bool} : ∀ (L acc : List rwt), sf false p acc L = dda acc (L.filter p) := by
  intro L
  induction L with
  | nil => intro acc; rfl
  | cons x L ih =>
    intro acc
    unfold sf
    rw [List.filter_cons]
    by_cases c : p x = true
    · rw [if_pos c]
      unfold dda
      by_cases q : x ∈ acc
      · rw [if_neg (by simp [q]), if_pos q, ih]
      · rw [if_pos ⟨c, Or.inr q⟩, if_neg q, ih]
    · rw [if_neg c, if_neg (fun h => c h.1), ih]
theorem sf_len {w1 : Bool} {p : rwt → Bool} : ∀ (L acc : List rwt), (sf w1 p acc L).length ≤ acc.length + L.length := by
  intro L
  induction L with
  | nil => intro acc; simp [sf]
  | cons x L ih =>
    intro acc
    unfold sf
    split
    · have := ih (acc ++ [x]); simp at this ⊢; omega
    · have := ih acc; simp; omega
def s_of (what : Int) (L M : List rwt) : List rwt := if what = 1 then L ++ M else s_rows (5 + what) L M
section
variable {s s1 s2 s3 : ms_S} {T : xt} {sl ct : Nat → Int} {τ : List Int} {NE d w w' : Nat} {Q : Int → ms_S → Prop} {l m : rwt} {K L M : List rwt} {a r r2 : Int}
theorem k_setOf {what : Int} (hg : s 97 0 = 0) (hwh : 1 ≤ what ∧ what ≤ 4) (hR : mR s r w L) (hM : mR s r2 w M) (hN : L.length + M.length ≤ 900) (h91 : s 91 0 < 400) (hU : s 87 0 + (((L.length + M.length) * w : Nat) : Int) ≤ 400000) (hd : 5 ≤ d) (kk : ∀ r' s', mQ s s' r' w (s_of what L M) ((L.length + M.length) * w) 1 → Q r' s') : md_setOf (d + 1) what r r2 s Q := by
  have hr := hR.1
  have hr2 := hM.1
  obtain ⟨d, rfl⟩ : ∃ d', d = d' + 2 := ⟨d - 2, by omega⟩
  have inI : ∀ {x : rwt} {K : List rwt}, (¬ (if x ∈ K then (1 : Int) else 0) ≠ 0) ↔ x ∉ K := by
    intro x K
    by_cases c : x ∈ K
    · rw [if_pos c]; simp [c]
    · rw [if_neg c]; simp [c]
  -- a row is put behind
  have put : ∀ (s1 : ms_S) (K : List rwt) (x : rwt) (a : Int) (Q' : Int → ms_S → Prop), mI s s1 w K → K.length < L.length + M.length → rm s1 a x → x.length = w → a + w ≤ s 87 0 → (∀ s5, mI s s5 w (K ++ [x]) → Q' 0 s5) → md_newRow (d + 2) (s 91 0) s1 (fun v1 s1 => md_copy (d + 2) a v1 w s1 (fun _ s2 => Q' 0 s2)) := by
    intro s1 K x a Q' hI hK hm hx ha kq
    have hmu := mul_le_of (w := w) (show K.length + 1 ≤ L.length + M.length by omega)
    refine hI.new (by omega) (by omega) (fun s4 hJ hf => ?_)
    have hm4 := hm.eq (s' := s4) (fun k hk => ⟨hf _ _ (by omega) (by omega), hf _ _ (by omega) (by omega)⟩)
    have hlen := hI.len
    have hat := hJ.at
    exact k_mcopy hm4 (by rw [hx]) (by rw [hx]; omega) (by rw [hx]; omega) (fun s5 c5 m5 => kq s5 ((hJ.c c5 (Int.le_refl _)).fill hx m5))
  let p1 : rwt → Bool := fun x => decide (what ≤ 2 ∨ (x ∈ M ↔ what = 4))
  have loop2 : ∀ (k j : Nat) (s1 : ms_S) (K : List rwt) (x7 x8 : Int), j + k = M.length → mI s s1 w K → K.length ≤ L.length + j → s_of what L M = (if what ≤ 2 then sf (decide (what = 1)) (fun _ => true) K (M.drop j) else K) → mw (d + 3) 179 (am_blk 179 10) [159, what, r, r2, s 91 0, w, j, x7, x8] [] s1 Q := by
    intro k
    induction k with
    | zero =>
      intro j s1 K x7 x8 hj hI hK hF
      obtain ⟨hM1, -⟩ := hI.old hM
      have hm1 := hM1.1
      refine w179_10 ⟨hr2.1, by omega, fun _ => w179_13 (kk _ s1 ?_), fun w => absurd (by omega) w⟩
      have : s_of what L M = K := by
        rw [hF, List.drop_eq_nil_of_le (by omega)]
        split <;> rfl
      rw [this]
      exact hI.q (mul_le_of (by omega))
    | succ k ih =>
      intro j s1 K x7 x8 hj hI hK hF
      have hjl : j < M.length := by omega
      obtain ⟨hM1, hb1⟩ := hI.old hM
      have hm1 := hM1.1
      have hO := hI.1.1.1
      obtain ⟨hl, hm⟩ := hM1.row (List.getElem?_eq_getElem hjl)
      have hle := hM1.le hjl
      refine w179_10 ⟨hr2.1, by omega, fun w => absurd w (by omega), fun _ => ⟨fun q => w179_13 (kk _ s1 ?_), fun q => ?_⟩⟩
      · rw [hF, if_neg (by omega)]
        exact hI.q (mul_le_of (by omega))
      · rw [if_pos (by omega), List.drop_eq_getElem_cons hjl, sf_c] at hF
        have add : ∀ x8, s_of what L M = sf (decide (what = 1)) (fun _ => true) (K ++ [M[j]]) (M.drop (j + 1)) → mw (d + 3) 179 (am_blk 179 11) [159, what, r, r2, s 91 0, w, j, s1 88 r2 + ((j * w : Nat) : Int), x8] [] s1 Q := by
          intro x8 hF2
          refine w179_11 (put s1 K M[j] _ (fun _ s2 => mw (d + 3) 179 (am_blk 179 12) [159, what, r, r2, s 91 0, w, j, s1 88 r2 + ((j * w : Nat) : Int), x8] [] s2 Q) hI (by omega) hm hl (by omega) (fun s5 hI5 => w179_12 ?_))
          rw [am_w_s (by omega)]
          refine ih (j + 1) s5 _ _ _ (by omega) hI5 (by simp; omega) ?_
          rw [if_pos (by omega)]
          exact hF2
        refine k_rowAt hM1 rfl (by omega) ⟨fun q1 => add _ ?_, fun q1 => ⟨by omega, by omega, k_hasRow hI.1.1 hm hl (Nat.le_refl _) hO.2.2.2.2.1 ⟨fun q2 => w179_12 ?_, fun q2 => add _ ?_⟩⟩⟩
        · rw [hF, if_pos ⟨rfl, Or.inl (by simp [q1])⟩]
        · rw [am_w_s (by omega)]
          rw [List.take_length] at q2
          refine ih (j + 1) s1 K _ _ (by omega) hI (by omega) ?_
          rw [if_pos (by omega), hF, if_neg]
          rintro ⟨-, c⟩
          rcases c with c | c
          · exact q1 (by simpa using c)
          · rw [if_neg c] at q2; exact q2 rfl
        · rw [List.take_length] at q2
          rw [hF, if_pos ⟨rfl, Or.inr (inI.mp q2)⟩]
  have loop1 : ∀ (k i : Nat) (s1 : ms_S) (K : List rwt) (x7 x8 : Int), i + k = L.length → mI s s1 w K → K.length ≤ i → (∀ F, F = sf (decide (what = 1)) p1 K (L.drop i) → s_of what L M = (if what ≤ 2 then sf (decide (what = 1)) (fun _ => true) F M else F)) → mw (d + 3) 179 (am_blk 179 1) [159, what, r, r2, s 91 0, w, i, x7, x8] [] s1 Q := by
    intro k
    induction k with
    | zero =>
      intro i s1 K x7 x8 hi hI hK hF
      obtain ⟨hR1, -⟩ := hI.old hR
      have hr1 := hR1.1
      refine w179_1 ⟨hr.1, by omega, fun _ => ?_, fun w => absurd (by omega) w⟩
      refine loop2 M.length 0 s1 K _ _ (by omega) hI (by omega) ?_
      have := hF K (by rw [List.drop_eq_nil_of_le (by omega)]; rfl)
      simpa using this
    | succ k ih =>
      intro i s1 K x7 x8 hi hI hK hF
      have hil : i < L.length := by omega
      obtain ⟨hR1, hb1⟩ := hI.old hR
      obtain ⟨hM1, -⟩ := hI.old hM
      have hr1 := hR1.1
      have hm1 := hM1.1
      have hO := hI.1.1.1
      obtain ⟨hl, hm⟩ := hR1.row (List.getElem?_eq_getElem hil)
      have hle := hR1.le hil
      rw [List.drop_eq_getElem_cons hil, sf_c] at hF
      have skip : ∀ x7 x8, ¬ (p1 L[i] = true ∧ (decide (what = 1) = true ∨ L[i] ∉ K)) → mw (d + 3) 179 (am_blk 179 8) [159, what, r, r2, s 91 0, w, i, x7, x8] [] s1 Q := by
        intro x7 x8 hc
        rw [if_neg hc] at hF
        refine w179_8 ?_
        rw [am_w_s (by omega)]
        exact ih (i + 1) s1 K _ _ (by omega) hI (by omega) hF
      have add : ∀ x8, (p1 L[i] = true ∧ (decide (what = 1) = true ∨ L[i] ∉ K)) → mw (d + 3) 179 (am_blk 179 7) [159, what, r, r2, s 91 0, w, i, s1 88 r + ((i * w : Nat) : Int), x8] [] s1 Q := by
        intro x8 hc
        rw [if_pos hc] at hF
        refine w179_7 (put s1 K L[i] _ (fun _ s2 => mw (d + 3) 179 (am_blk 179 8) [159, what, r, r2, s 91 0, w, i, s1 88 r + ((i * w : Nat) : Int), x8] [] s2 Q) hI (by omega) hm hl (by omega) (fun s5 hI5 => w179_8 ?_))
        rw [am_w_s (by omega)]
        exact ih (i + 1) s5 _ _ _ (by omega) hI5 (by simp; omega) hF
      have b6 : p1 L[i] = true → ∀ x8, mw (d + 3) 179 (am_blk 179 6) [159, what, r, r2, s 91 0, w, i, s1 88 r + ((i * w : Nat) : Int), x8] [1] s1 Q := by
        intro hp x8
        refine w179_6 ⟨fun w => absurd w (by decide), fun _ => ⟨fun q => add _ ⟨hp, Or.inl (by simp [q])⟩, fun q => ⟨by omega, by omega, k_hasRow hI.1.1 hm hl (Nat.le_refl _) hO.2.2.2.2.1 ⟨fun q2 => skip _ _ ?_, fun q2 => add _ ⟨hp, Or.inr ?_⟩⟩⟩⟩⟩
        · rw [List.take_length] at q2
          rintro ⟨-, c⟩
          rcases c with c | c
          · exact q (by simpa using c)
          · rw [if_neg c] at q2; exact q2 rfl
        · rw [List.take_length] at q2
          exact inI.mp q2
      refine w179_1 ⟨hr.1, by omega, fun w => absurd w (by omega), fun _ => k_rowAt hR1 rfl (by omega) ⟨fun q => w179_4 (b6 (by simp [p1, q]) _), fun q => ⟨hr2.1, by omega, k_hasRow hM1 hm hl (Nat.le_refl _) hm1.2.2.2.2.1 ⟨fun q2 => w179_3 ⟨fun q3 => w179_6 ⟨fun _ => skip _ _ ?_, fun w => absurd rfl w⟩, fun q3 => w179_4 (b6 ?_ _)⟩, fun q2 => w179_3 ⟨fun q3 => w179_6 ⟨fun _ => skip _ _ ?_, fun w => absurd rfl w⟩, fun q3 => w179_4 (b6 ?_ _)⟩⟩⟩⟩⟩
      all_goals rw [List.take_length] at q3
      · rintro ⟨c, -⟩
        have c := of_decide_eq_true c
        by_cases u : L[i] ∈ M
        · simp only [u, true_iff] at c; omega
        · rw [if_neg u] at q3; exact q3 rfl
      · apply decide_eq_true
        right
        by_cases u : L[i] ∈ M
        · rw [if_pos u] at q3; exact absurd (by decide) q3
        · simp only [u, false_iff]; omega
      · rintro ⟨c, -⟩
        have c := of_decide_eq_true c
        by_cases u : L[i] ∈ M
        · rw [if_pos u] at q3; exact q3 rfl
        · simp only [u, false_iff] at c; omega
      · apply decide_eq_true
        right
        by_cases u : L[i] ∈ M
        · simp only [u, true_iff]; omega
        · rw [if_neg u] at q3; exact absurd (by decide) q3
  refine w179_e ⟨hr.1, by omega, mI_begin (by omega) h91 (by omega) (by omega) hg hr.2.2.2.2.2.2.1 hr.2.2.2.1 (fun s1 hI _ => ⟨hr.1, by omega, ?_⟩)⟩
  obtain ⟨hR1, -⟩ := hI.old hR
  rw [hR1.1.2.2.2.1]
  refine loop1 L.length 0 s1 [] 0 0 (by omega) hI (by simp) (fun F hF => ?_)
  rw [List.drop_zero] at hF
  subst hF
  unfold s_of
  by_cases h1 : what = 1
  · rw [if_pos h1, if_pos (by omega)]
    have : decide (what = 1) = true := decide_eq_true h1
    rw [this, sf_1 L [] (fun x _ => decide_eq_true (Or.inl (by omega))), sf_1 M _ (fun x _ => rfl)]
    simp
  · rw [if_neg h1]
    have : decide (what = 1) = false := decide_eq_false h1
    rw [this]
    have e0 := sf_0 (p := p1) L []
    rw [e0]
    unfold s_rows
    by_cases h2 : what ≤ 2
    · rw [if_pos h2, sf_0, if_neg (by omega), if_neg (by omega)]
      have e1 : L.filter p1 = L := List.filter_eq_self.mpr (fun x _ => decide_eq_true (Or.inl (by omega)))
      have e2 : M.filter (fun _ => true) = M := List.filter_eq_self.mpr (fun x _ => rfl)
      rw [e1, e2]
      unfold dd
      rw [dda_app]
    · rw [if_neg h2]
      by_cases h3 : what = 3
      · rw [if_pos (by omega)]
        have e1 : p1 = (fun x => decide (x ∉ M)) := by
          funext x
          simp [p1, h3]
        rw [e1]; rfl
      · have h4 : what = 4 := by omega
        rw [if_neg (by omega), if_pos (by omega)]
        have e1 : p1 = (fun x => decide (x ∈ M)) := by
          funext x
          simp [p1, h4]
        rw [e1]; rfl
end
