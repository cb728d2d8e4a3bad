set_option maxRecDepth 100000
/-! the model: streams -/
def ms_row (s : ms_S) (n r : Nat) : rwt := (List.range n).map (fun (k : Nat) => if s 9 (4 * r + k) = 0 then some (s 8 (4 * r + k)) else none) ++ [some (s 7 r)]
def ms_pl (s : ms_S) (n b : Nat) (ps : List Nat) : List rwt := ps.filterMap (fun p => if s 6 (((b + p : Nat)) : Int) = 0 then none else some (ms_row s n (b + p)))
def ms_W (s : ms_S) : nW := (fun st => ms_pl s (s 5 st).toNat (8 * st) (List.range 8), s 10 0)
/-- streams as they have to be -/
def ms_ok (s : ms_S) : Prop := (∀ st : Nat, st < 6 → (st : Int) < s 4 0 → 1 ≤ s 5 st ∧ s 5 st ≤ 4) ∧ (∀ r : Int, (s 9 r = 0 ∨ (s 9 r = 1 ∧ s 8 r = 0)) ∧ (-9223372036854775808 ≤ s 8 r ∧ s 8 r ≤ 9223372036854775807) ∧ (-9223372036854775808 ≤ s 7 r ∧ s 7 r ≤ 9223372036854775807)) ∧ (-9223372036854775808 ≤ s 10 0 ∧ s 10 0 ≤ 9223372036854775807)
section
variable {s s1 s2 s3 : ms_S} {d n : Nat} {Q : Int → ms_S → Prop} {L K : List rwt}
def keep_of (s : ms_S) (o : Int) : Int := if s 51 o = 0 then -1 else s 52 o
theorem r_time_row {n r : Nat} : r_time (ms_row s n r) = s 7 r := by
  unfold r_time ms_row
  rw [List.getD_eq_getElem?_getD]
  simp [rw_ov]
theorem k_isIn {o r : Nat} (hok : ms_ok s) (ho : o < 180) (hr : r < 48) (hk : s 51 o ≠ 0 → 0 ≤ s 52 o ∧ s 52 o ≤ 9223372036854775807) {x : Int} (hx : x = r) (kk : ∀ v : Int, (v ≠ 0 ↔ s 6 r ≠ 0 ∧ n_in (keep_of s o) (s 10 0) (ms_row s n r) = true) → Q v s) : md_isIn (d + 1) o x s Q := by
  subst hx
  obtain ⟨-, hv, hw0, hw1⟩ := hok
  obtain ⟨-, -, ht0, ht1⟩ := hv r
  have f1 : s 6 r ≠ 0 ∧ n_in (keep_of s o) (s 10 0) (ms_row s n r) = true → mw (d + 1) 156 (am_blk 156 1) [159, o, r] [] s Q := fun h => w156_1 (w156_3 (kk 1 ⟨fun _ => h, fun _ => by decide⟩))
  have f2 : ¬ (s 6 r ≠ 0 ∧ n_in (keep_of s o) (s 10 0) (ms_row s n r) = true) → mw (d + 1) 156 (am_blk 156 2) [159, o, r] [] s Q := fun h => w156_2 (w156_3 (kk 0 ⟨fun c => absurd rfl c, fun c => absurd c h⟩))
  refine w156_e ⟨by omega, by omega, fun c => f2 (fun h => h.1 c), fun c => ⟨by omega, by omega, fun c2 => f1 ⟨c, ?_⟩, fun c2 => ⟨by omega, by omega, ?_⟩⟩⟩
  · unfold n_in keep_of
    rw [if_pos c2]
    exact decide_eq_true (Or.inl (by decide))
  · obtain ⟨k0, k1⟩ := hk c2
    have hkeep : keep_of s o = s 52 o := by unfold keep_of; rw [if_neg c2]
    have fin : ∀ t : Int, t = n_old (s 52 o) (s 10 0) → (am_lcmp (s 7 r) t < 0 → mw (d + 1) 156 (am_blk 156 2) [159, o, r] [] s Q) ∧ (¬ (am_lcmp (s 7 r) t < 0) → mw (d + 1) 156 (am_blk 156 1) [159, o, r] [] s Q) := by
      intro t et
      have lc := lc_iff (s 7 r) t
      refine ⟨fun q => f2 (fun h => ?_), fun q => f1 ⟨c, ?_⟩⟩
      · have h2 := h.2
        unfold n_in at h2
        rw [hkeep, r_time_row, ← et] at h2
        have := of_decide_eq_true h2
        omega
      · unfold n_in
        rw [hkeep, r_time_row, ← et]
        exact decide_eq_true (Or.inr (by omega))
    have hx : am_x (s 10 0 - s 52 o) = if s 10 0 < -9223372036854775808 + s 52 o then s 10 0 - s 52 o + 18446744073709551616 else s 10 0 - s 52 o := by
      unfold am_x
      rw [Int64.toInt_ofInt]
      unfold Int.bmod
      simp only [Int64.size]
      split <;> split <;> omega
    have lc := lc_iff (am_x (s 10 0 - s 52 o)) (s 10 0)
    refine w157_e ⟨by omega, by omega, fun _ => ⟨by omega, by omega, fun q => w157_3 (fin _ ?_), fun q => w157_3 (fin _ ?_)⟩, fun c3 => absurd c2 c3⟩
    · unfold n_old
      have q := lc.2.2.2.2.mp q
      rw [hx] at q ⊢
      split
      · rename_i c4; rw [if_pos c4] at q; omega
      · rfl
    · unfold n_old
      have q : ¬ am_x (s 10 0 - s 52 o) ≤ s 10 0 := fun u => q (lc.2.2.2.2.mpr u)
      rw [hx] at q
      split
      · rfl
      · rename_i c4; rw [if_neg c4] at q; omega
theorem ms_row_take {n r k : Nat} (hk : k < n) : (ms_row s n r).take (k + 1) = (ms_row s n r).take k ++ [if s 9 (4 * r + k) = 0 then some (s 8 (4 * r + k)) else none] := by
  have e : (ms_row s n r)[k]? = some (if s 9 (4 * r + k) = 0 then some (s 8 (4 * r + k)) else none) := by
    unfold ms_row
    rw [List.getElem?_append_left (by simp; exact hk), List.getElem?_map, List.getElem?_range hk]
    rfl
  rw [List.take_succ, e]
  rfl
theorem k_stream {o st n : Nat} (hok : ms_ok s) (hg : s 97 0 = 0) (ho : o < 180) (h49 : s 49 o = st) (hst : st < 6) (hs5 : s 5 st = n) (hn : n ≤ 4) (hk : s 51 o ≠ 0 → 0 ≤ s 52 o ∧ s 52 o ≤ 9223372036854775807) (h0 : 0 ≤ s 91 0) (h91 : s 91 0 < 400) (hu0 : 0 ≤ s 87 0) (hU : s 87 0 + ((8 * (n + 1) : Nat) : Int) ≤ 400000) (hd : 5 ≤ d) (kk : ∀ r' s', mQ s s' r' (n + 1) ((ms_pl s n (8 * st) (List.range 8)).filter (n_in (keep_of s o) (s 10 0))) (8 * (n + 1)) 1 → Q r' s') : md_workSource (d + 1) o s Q := by
  let P : Nat → List rwt := fun p => (ms_pl s n (8 * st) (List.range p)).filter (n_in (keep_of s o) (s 10 0))
  have Ps : ∀ p, P (p + 1) = P p ++ (if s 6 (((8 * st + p : Nat)) : Int) ≠ 0 ∧ n_in (keep_of s o) (s 10 0) (ms_row s n (8 * st + p)) = true then [ms_row s n (8 * st + p)] else []) := by
    intro p
    show (ms_pl s n (8 * st) (List.range (p + 1))).filter _ = (ms_pl s n (8 * st) (List.range p)).filter _ ++ _
    unfold ms_pl
    rw [List.range_succ, List.filterMap_append, List.filter_append]
    congr 1
    by_cases c : s 6 (((8 * st + p : Nat)) : Int) = 0
    · rw [if_neg (fun h => h.1 c)]
      simp only [List.filterMap_cons, List.filterMap_nil]
      rw [if_pos c]
      rfl
    · simp only [List.filterMap_cons, List.filterMap_nil]
      rw [if_neg c]
      dsimp only
      rw [filter_1]
      by_cases c2 : n_in (keep_of s o) (s 10 0) (ms_row s n (8 * st + p)) = true
      · rw [if_pos c2, if_pos ⟨c, c2⟩]
      · rw [if_neg c2, if_neg (fun h => c2 h.2)]
  have Pl : ∀ p, (P p).length ≤ p := by
    intro p
    show ((ms_pl s n (8 * st) (List.range p)).filter _).length ≤ p
    refine Nat.le_trans (List.length_filter_le _ _) ?_
    unfold ms_pl
    refine Nat.le_trans (List.length_filterMap_le _ _) ?_
    simp
  have rl : ∀ r, (ms_row s n r).length = n + 1 := fun r => by simp [ms_row]
  have loop : ∀ (k p : Nat) (s1 : ms_S) (x6 x7 x8 : Int), p + k = 8 → mI s s1 (n + 1) (P p) → mw (d + 1) 154 (am_blk 154 2) [159, o, st, n, s 91 0, p, x6, x7, x8] [] s1 Q := by
    intro k
    induction k with
    | zero =>
      intro p s1 x6 x7 x8 hp hI
      have e1 : p = 8 := by omega
      subst e1
      exact w154_2 ⟨fun _ => kk _ s1 (hI.q (mul_le_of (Pl 8))), fun w => absurd (by omega) w⟩
    | succ k ih =>
      intro p s1 x6 x7 x8 hp hI
      have hpl : p < 8 := by omega
      have hPl := Pl p
      have hPs := Ps p
      generalize hr8 : 8 * st + p = r at *
      have x1 : am_w (8 * (st : Int)) = 8 * st := am_w_in (by omega) (by omega)
      have x2 : am_w (8 * (st : Int) + p) = r := by rw [am_w_in (by omega) (by omega)]; omega
      have fS : ∀ (q : Nat) (j : Int), q < 85 → s1 q j = s q j := fun q j hq => hI.2.1 q j (by omega)
      have hrow1 : ms_row s1 n r = ms_row s n r := by unfold ms_row; simp only [fS 9 _ (by omega), fS 8 _ (by omega), fS 7 _ (by omega)]
      have hkeep1 : keep_of s1 o = keep_of s o := by unfold keep_of; rw [fS 51 _ (by omega), fS 52 _ (by omega)]
      have hok1 : ms_ok s1 := by
        unfold ms_ok at hok ⊢
        simp only [fS 4 _ (by omega), fS 5 _ (by omega), fS 9 _ (by omega), fS 8 _ (by omega), fS 7 _ (by omega), fS 10 _ (by omega)]
        exact hok
      have nxt : ∀ (s2 : ms_S) (x7 x8 : Int), mI s s2 (n + 1) (P (p + 1)) → mw (d + 1) 154 (am_blk 154 5) [159, o, st, n, s 91 0, p, r, x7, x8] [] s2 Q := by
        intro s2 x7 x8 hI2
        refine w154_5 ?_
        rw [am_w_s (by omega)]
        exact ih (p + 1) s2 _ _ _ (by omega) hI2
      obtain ⟨d, rfl⟩ : ∃ d', d = d' + 1 := ⟨d - 1, by omega⟩
      refine w154_2 ⟨fun w => absurd w (by omega), fun _ => ?_⟩
      rw [x1, x2]
      refine k_isIn (n := n) hok1 ho (by omega) (by rw [fS 51 _ (by omega), fS 52 _ (by omega)]; exact hk) rfl (fun v hv => ⟨fun c => nxt s1 _ _ ?_, fun c => ?_⟩)
      · rw [fS 6 _ (by omega), fS 10 _ (by omega), hkeep1, hrow1] at hv
        rw [hPs, if_neg (fun h => (hv.mpr h) c), List.append_nil]
        exact hI
      · rw [fS 6 _ (by omega), fS 10 _ (by omega), hkeep1, hrow1] at hv
        rw [if_pos (hv.mp c)] at hPs
        have hmu := mul_le_of (w := n + 1) (show (P p).length + 1 ≤ 8 by omega)
        refine hI.new (by omega) (by omega) (fun s2 hJ hf => ?_)
        generalize ha : s1 87 0 = a at *
        have in2 : ∀ (m j : Nat) (s3 : ms_S), j + m = n → mJ s s3 (n + 1) (P p) a → rm s3 a ((ms_row s n r).take j) → mw (d + 2) 154 (am_blk 154 3) [159, o, st, n, s 91 0, p, r, a, j] [] s3 Q := by
          intro m
          induction m with
          | zero =>
            intro j s3 hj hJ3 hm3
            have ej : j = n := by omega
            subst ej
            have hat := hJ3.at
            have x3 : am_w (a + j) = a + j := am_w_in (by omega) (by omega)
            refine w154_3 ⟨fun _ => ⟨by omega, by omega, ?_⟩, fun w => absurd (by omega) w⟩
            rw [x3]
            refine ⟨by omega, by omega, fun s4 e4 => ⟨by omega, by omega, fun s5 e5 => nxt s5 _ _ ?_⟩⟩
            have z0 : am_i2b 0 = 0 := by decide
            rw [z0] at e5
            have f : m_c (a + j) s3 s5 := by rw [e5, e4]; exact (m_c.u _ _ (Or.inl rfl) (Int.le_refl _)).tr (m_c.u _ _ (Or.inr rfl) (Int.le_refl _))
            have hJ5 := hJ3.c f (by omega)
            rw [hPs]
            refine hJ5.fill (rl r) ?_
            have e1 : ms_row s j r = (ms_row s j r).take j ++ [some (s 7 r)] := by
              unfold ms_row
              rw [List.take_left' (by simp)]
            have hl : ((ms_row s j r).take j).length = j := by rw [List.length_take, rl]; omega
            rw [e1]
            refine rm_app (hm3.c f (by rw [hl]; exact Int.le_refl _)) ?_
            rw [hl]
            refine rm_one (by omega) (by omega) ?_ ?_
            · rw [e5, ms_u_f _ _ _ (by omega), e4, ms_u_eq, hJ3.2.1 _ _ (by omega)]; rfl
            · rw [e5, ms_u_eq]; rfl
          | succ m ihm =>
            intro j s3 hj hJ3 hm3
            have hjn : j < n := by omega
            have hat := hJ3.at
            have x3 : am_w (a + j) = a + j := am_w_in (by omega) (by omega)
            have x4 : am_w (4 * (r : Int)) = 4 * r := am_w_in (by omega) (by omega)
            have x5 : am_w (4 * (r : Int) + j) = 4 * r + j := am_w_in (by omega) (by omega)
            refine w154_3 ⟨fun w => absurd w (by omega), fun _ => ?_⟩
            rw [x3, x4, x5]
            refine ⟨by omega, by omega, by omega, by omega, fun s4 e4 => ⟨by omega, by omega, by omega, by omega, fun s5 e5 => ?_⟩⟩
            have g9 : s4 9 (4 * r + j) = s 9 (4 * r + j) := by rw [e4, ms_u_f _ _ _ (by omega)]; exact hJ3.2.1 _ _ (by omega)
            have g8 : s3 8 (4 * r + j) = s 8 (4 * r + j) := hJ3.2.1 _ _ (by omega)
            rw [g9] at e5
            rw [g8] at e4
            have f : m_c (a + j) s3 s5 := by rw [e5, e4]; exact (m_c.u _ _ (Or.inl rfl) (Int.le_refl _)).tr (m_c.u _ _ (Or.inr rfl) (Int.le_refl _))
            rw [am_w_s (by omega)]
            refine ihm (j + 1) s5 (by omega) (hJ3.c f (by omega)) ?_
            rw [ms_row_take hjn]
            have hl : ((ms_row s n r).take j).length = j := by rw [List.length_take, rl]; omega
            refine rm_app (hm3.c f (by rw [hl]; exact Int.le_refl _)) ?_
            rw [hl]
            obtain ⟨hnl, -⟩ := hok.2.1 (4 * r + j)
            have c1 : s5 85 (a + j) = s 8 (4 * r + j) := by rw [e5, ms_u_f _ _ _ (by omega), e4, ms_u_eq]
            have c2 : s5 86 (a + j) = am_i2b (s 9 (4 * r + j)) := by rw [e5, ms_u_eq]
            refine rm_one (by omega) (by omega) ?_ ?_
            · rw [c1]
              rcases hnl with h | ⟨h, h2⟩
              · rw [if_pos h]; rfl
              · rw [if_neg (by omega), h2]; rfl
            · rw [c2]
              rcases hnl with h | ⟨h, h2⟩
              · rw [if_pos h, h]; show am_i2b 0 = 0; decide
              · rw [if_neg (by omega), h]; decide
        exact in2 n 0 s2 (by omega) hJ (by have := hJ.at; exact rm_nil (by omega) (by omega))
  refine w154_e ⟨by omega, by omega, fun _ => ⟨by omega, by omega, by omega, by omega, ?_⟩, fun c => absurd (by omega) c⟩
  rw [h49, hs5]
  refine mI_begin (w := n + 1) h0 h91 hu0 (by omega) hg (by omega) (by rw [am_w_in (by omega) (by omega)]; omega) (fun s1 hI _ => ?_)
  exact loop 8 0 s1 0 0 0 (by omega) (by simpa [P, ms_pl] using hI)
end
