set_option maxRecDepth 100000
/-! the model: joins -/
section
variable {s s1 s2 s3 : ms_S} {T : xt} {sl ct : Nat → Int} {τ τ2 : List Int} {NE d w w2 : Nat} {Q : Int → ms_S → Prop} {l m : rwt} {K L M : List rwt} {a r r2 : Int}
theorem j_take {on : rwt → Bool} {isL : Bool} {n i : Nat} (hi : i < L.length) : j_rows on isL n (L.take (i + 1)) M = j_rows on isL n (L.take i) M ++ (if isL && !(M.any (fun b => on (L[i] ++ b))) then [L[i] ++ List.replicate n none] else (M.map (fun b => L[i] ++ b)).filter on) := by
  unfold j_rows
  rw [take_s hi, List.flatMap_append]
  simp
theorem k_mjoin {o e : Nat} {t : Int} {isL : Bool} (hT : mt s T sl NE) (hg : s 97 0 = 0) (hR : mR s r w L) (hM : mR s r2 w2 M) (hL : ∀ l ∈ L, rg τ l) (hM2 : ∀ l ∈ M, rg τ2 l) (hw24 : w + w2 ≤ 24) (hw : w2 = τ2.length) (ht : t_ok (τ ++ τ2)) (ho : o < 180) (hon : s 58 o = e) (hle : s 56 o = if isL then 1 else 0) (he : e < NE) (hwt : x_wt T sl (cz ct (p0 T)) (τ ++ τ2) 121 e t) (ht1 : t ≠ 1) {N : Nat} (hN : ∀ i, i < L.length → (j_rows (x_tr T sl e) isL w2 (L.take i) M).length + M.length + 1 ≤ N) (hN9 : N ≤ 900) (h91 : s 91 0 < 400) (hU : s 87 0 + ((N * (w + w2) : Nat) : Int) ≤ 400000) (hd : 260 ≤ d) (hM9 : M.length ≤ 900) (kk : ∀ r' s', mQ s s' r' (w + w2) (j_rows (x_tr T sl e) isL w2 L M) (N * (w + w2)) 1 → (j_rows (x_tr T sl e) isL w2 L M).length ≤ N → Q r' s') : md_join (d + 1) r r2 o s Q := by
  have hr := hR.1
  have hr2 := hM.1
  generalize hon' : x_tr T sl e = on at *
  have loop : ∀ (k i : Nat) (s1 : ms_S) (x8 x9 x10 : Int), i + k = L.length → mI s s1 (w + w2) (j_rows on isL w2 (L.take i) M) → (j_rows on isL w2 (L.take i) M).length ≤ N → mw (d + 1) 159 (am_blk 159 1) [159, r, r2, o, w, w2, s 91 0, i, x8, x9, x10] [] s1 Q := by
    intro k
    induction k with
    | zero =>
      intro i s1 x8 x9 x10 hi hI hlN
      have e1 : i = L.length := by omega
      obtain ⟨hR1, -⟩ := hI.old hR
      have hr1 := hR1.1
      rw [e1, List.take_length] at hI hlN
      exact w159_1 ⟨hr.1, by omega, fun _ => kk _ s1 (hI.q (mul_le_of hlN)) hlN, fun w => absurd (by omega) w⟩
    | succ k ih =>
      intro i s1 x8 x9 x10 hi hI hlN
      have hil : i < L.length := by omega
      have hNi := hN i hil
      obtain ⟨hR1, -⟩ := hI.old hR
      have hr1 := hR1.1
      have hai := hR1.le hil
      refine w159_1 ⟨hr.1, by omega, fun w => absurd w (by omega), fun _ => ?_⟩
      have hjt := j_take (on := on) (isL := isL) (n := w2) (M := M) hil
      generalize hKi : j_rows on isL w2 (L.take i) M = Ki at *
      generalize hA : L[i] = A at *
      have hAl : A.length = w := by rw [← hA]; exact hR.len (List.getElem_mem hil)
      have hAr : rg τ A := by rw [← hA]; exact hL _ (List.getElem_mem hil)
      -- where the left row is
      have rowA : ∀ s2, mR s2 r w L → rm s2 (s2 88 r + ((i * w : Nat) : Int)) A := fun s2 h => by
        have := (h.row (List.getElem?_eq_getElem hil)).2
        rw [hA] at this
        exact this
      have nxt : ∀ (s2 : ms_S) (x8 x9 x10 : Int), mI s s2 (w + w2) (j_rows on isL w2 (L.take (i + 1)) M) → (j_rows on isL w2 (L.take (i + 1)) M).length ≤ N → mw (d + 1) 159 (am_blk 159 7) [159, r, r2, o, w, w2, s 91 0, i, x8, x9, x10] [] s2 Q := by
        intro s2 x8 x9 x10 h1 h2
        refine w159_7 ?_
        rw [am_w_s (by omega)]
        exact ih (i + 1) s2 _ _ _ (by omega) h1 h2
      have inner : ∀ (k j : Nat) (s2 : ms_S) (x8 x10 : Int), j + k = M.length → x8 = (if (M.take j).any (fun b => on (A ++ b)) then 1 else 0) → mI s s2 (w + w2) (Ki ++ ((M.take j).map (fun b => A ++ b)).filter on) → mw (d + 1) 159 (am_blk 159 2) [159, r, r2, o, w, w2, s 91 0, i, x8, j, x10] [] s2 Q := by
        intro k
        induction k with
        | zero =>
          intro j s2 x8 x10 hj h8 hI2
          have ej : j = M.length := by omega
          rw [ej, List.take_length] at h8 hI2
          obtain ⟨hM2', -⟩ := hI2.old hM
          obtain ⟨hR2, -⟩ := hI2.old hR
          have hm2 := hM2'.1
          have hfl : ((M.map (fun b => A ++ b)).filter on).length ≤ M.length := by
            have := List.length_filter_le on (M.map (fun b => A ++ b))
            rw [List.length_map] at this; exact this
          have fin1 : (isL && !(M.any (fun b => on (A ++ b)))) = false → ∀ x9 x10, mw (d + 1) 159 (am_blk 159 7) [159, r, r2, o, w, w2, s 91 0, i, x8, x9, x10] [] s2 Q := by
            intro hc x9 x10
            rw [hc, if_neg (by decide)] at hjt
            rw [← hjt] at hI2
            refine nxt s2 _ _ _ hI2 ?_
            rw [hjt, List.length_append]; omega
          refine w159_2 ⟨hr2.1, by omega, fun _ => ⟨fun q => fin1 ?_ _ _, fun q => ⟨by omega, by omega, fun q2 => fin1 ?_ _ _, fun q2 => ?_⟩⟩, fun w => absurd (by omega) w⟩
          · cases hany : M.any (fun b => on (A ++ b)) with
            | true => simp
            | false => rw [hany] at h8; exact absurd h8 q
          · rw [hI2.2.1 _ _ (by omega), hle] at q2
            cases isL with
            | true => exact absurd q2 (by decide)
            | false => rfl
          · rw [hI2.2.1 _ _ (by omega), hle] at q2
            have hisL : isL = true := by
              cases isL with
              | true => rfl
              | false => exact absurd rfl q2
            have hany : M.any (fun b => on (A ++ b)) = false := by
              cases hany : M.any (fun b => on (A ++ b)) with
              | false => rfl
              | true => rw [hany, if_pos rfl] at h8; exact absurd h8 (by omega)
            rw [hisL, hany, Bool.not_false, Bool.and_self, if_pos rfl] at hjt
            have hemp : (M.map (fun b => A ++ b)).filter on = [] := by
              rw [List.filter_eq_nil_iff]
              intro y hy
              obtain ⟨b, hb, rfl⟩ := List.mem_map.mp hy
              rw [List.any_eq_false] at hany
              exact hany b hb
            rw [hemp, List.append_nil] at hI2
            have hmu := mul_le_of (w := w + w2) (show Ki.length + 1 ≤ N by omega)
            refine hI2.new (by omega) (by omega) (fun s3 hJ hf => ?_)
            obtain ⟨hR3, -⟩ := hJ.old hR
            have hat := hJ.at
            have hlen := hI2.len
            have hbase : s3 88 r = s 88 r := hJ.2.1 _ _ (by omega)
            refine k_rowAt hR3 rfl (by omega) (k_mcopy (rowA s3 hR3) (by rw [hAl]) (by rw [hAl]; omega) (by rw [hAl]; omega) (fun s4 c4 m4 => ?_))
            have hJ4 := hJ.c c4 (Int.le_refl _)
            generalize ha : s2 87 0 = a at *
            have nl : ∀ (n j : Nat) (s5 : ms_S), j + n = w2 → mJ s s5 (w + w2) Ki a → rm s5 a (A ++ List.replicate j none) → mw (d + 1) 159 (am_blk 159 6) [159, r, r2, o, w, w2, s 91 0, i, x8, a, j] [] s5 Q := by
              intro n
              induction n with
              | zero =>
                intro j s5 hj hJ5 hm5
                have ej : j = w2 := by omega
                subst ej
                refine w159_6 ⟨fun _ => nxt s5 _ _ _ ?_ ?_, fun w => absurd (by omega) w⟩
                · rw [hisL, hjt]
                  exact hJ5.fill (by rw [List.length_append, List.length_replicate, hAl]) hm5
                · rw [hisL, hjt, List.length_append]; simp; omega
              | succ n ihn =>
                intro j s5 hj hJ5 hm5
                have x1 : am_w (a + w) = a + w := am_w_in (by omega) (by omega)
                have x2 : am_w (a + w + j) = a + w + j := am_w_in (by omega) (by omega)
                have z1 : am_i2b 1 = 1 := by decide
                refine w159_6 ⟨fun w => absurd w (by omega), fun _ => ?_⟩
                rw [x1, x2, z1, am_w_s (by omega)]
                refine ⟨by omega, by omega, fun s6 e6 => ⟨by omega, by omega, fun s7 e7 => ?_⟩⟩
                have f : m_c (a + w + j) s5 s7 := by rw [e7, e6]; exact (m_c.u _ _ (Or.inl rfl) (Int.le_refl _)).tr (m_c.u _ _ (Or.inr rfl) (Int.le_refl _))
                refine ihn (j + 1) s7 (by omega) (hJ5.c f (by omega)) ?_
                have hlen : (A ++ List.replicate j (none : Option Int)).length = w + j := by rw [List.length_append, List.length_replicate, hAl]
                rw [List.replicate_succ', ← List.append_assoc]
                refine rm_app (hm5.c f (by rw [hlen]; omega)) ?_
                rw [hlen]
                have e0 : a + ((w + j : Nat) : Int) = a + w + j := by omega
                rw [e0]
                refine rm_one (by omega) (by omega) ?_ ?_
                · rw [e7, ms_u_f _ _ _ (by omega), e6, ms_u_eq]; rfl
                · rw [e7, ms_u_eq]; rfl
            exact nl w2 0 s4 (by omega) hJ4 (by simpa using m4)
        | succ k ihj =>
          intro j s2 x8 x10 hj h8 hI2
          have hjl : j < M.length := by omega
          obtain ⟨hM2', -⟩ := hI2.old hM
          have hm2 := hM2'.1
          have hfl : (((M.take j).map (fun b => A ++ b)).filter on).length ≤ j := by
            have := List.length_filter_le on ((M.take j).map (fun b => A ++ b))
            rw [List.length_map, List.length_take] at this; omega
          have hKl : (Ki ++ ((M.take j).map (fun b => A ++ b)).filter on).length + 1 ≤ N := by rw [List.length_append]; omega
          have hmu := mul_le_of (w := w + w2) hKl
          have hbj := hM2'.le hjl
          generalize hK2 : Ki ++ ((M.take j).map (fun b => A ++ b)).filter on = K2 at *
          refine w159_2 ⟨hr2.1, by omega, fun w => absurd w (by omega), fun _ => hI2.new (by omega) (by omega) (fun s3 hJ hf => ?_)⟩
          obtain ⟨hR3, -⟩ := hJ.old hR
          have hat := hJ.at
          have hlen := hI2.len
          have hbase : s3 88 r = s 88 r := hJ.2.1 _ _ (by omega)
          refine k_rowAt hR3 rfl (by omega) (k_mcopy (rowA s3 hR3) (by rw [hAl]) (by rw [hAl]; omega) (by rw [hAl]; omega) (fun s4 c4 m4 => ?_))
          have hJ4 := hJ.c c4 (Int.le_refl _)
          obtain ⟨hM4, -⟩ := hJ4.old hM
          generalize ha : s2 87 0 = a at *
          have hbase2 : s4 88 r2 = s 88 r2 := hJ4.2.1 _ _ (by omega)
          obtain ⟨hBl, hBm⟩ := hM4.row (List.getElem?_eq_getElem hjl)
          have hBr : rg τ2 M[j] := hM2 _ (List.getElem_mem hjl)
          have x1 : am_w (a + w) = a + w := am_w_in (by omega) (by omega)
          refine k_rowAt hM4 rfl (by omega) ?_
          rw [x1]
          refine k_mcopy hBm (by rw [hBl]) (by rw [hBl]; omega) (by rw [hBl]; omega) (fun s5 c5 m5 s6 e6 => ⟨by omega, by omega, ?_⟩)
          have hJ5 := hJ4.c c5 (by omega)
          have hm5 : rm s5 a (A ++ M[j]) := rm_app (m4.c c5 (by rw [hAl]; exact Int.le_refl _)) (by rw [hAl]; exact m5)
          have hI5 : mI s s5 (w + w2) (K2 ++ [A ++ M[j]]) := hJ5.fill (by rw [List.length_append, hAl, hBl]) hm5
          have hI6 : mI s s6 (w + w2) (K2 ++ [A ++ M[j]]) := by rw [e6]; exact hI5.hand _
          have k6 : m_k s5 s6 := by rw [e6]; exact m_k.u s5 0 _ (by omega) (by omega)
          have h93 : s6 93 0 = a := by rw [e6, ms_u_eq]
          have hon6 : s6 58 o = e := by rw [hI6.2.1 _ _ (by omega)]; exact hon
          have tk : (((M.take (j + 1)).map (fun b => A ++ b)).filter on) = ((M.take j).map (fun b => A ++ b)).filter on ++ (if on (A ++ M[j]) = true then [A ++ M[j]] else []) := by
            rw [take_s hjl, List.map_append, List.filter_append]
            congr 1
            exact filter_1
          have any1 : (M.take (j + 1)).any (fun b => on (A ++ b)) = ((M.take j).any (fun b => on (A ++ b)) || on (A ++ M[j])) := by
            rw [take_s hjl, List.any_append]; simp
          refine k_trr (hT.F hI6.2.1) hI6.2.2.1 (by rw [h93]; exact hm5.k k6) (hAr.app hBr) ht he hon6 hwt ht1 (by omega) (fun s7 v u hv => ⟨fun q s8 e8 => ⟨by omega, by omega, by omega, by omega, fun s9 e9 => w159_4 ?_⟩, fun q => w159_4 ?_⟩)
          · have hI7 := hI6.n u
            have hpop := hI7.pop (x := am_w ((w : Int) + w2)) (by rw [am_w_in (by omega) (by omega)]; omega) e8 e9
            rw [am_w_s (by omega)]
            rw [hon'] at hv
            have hf : on (A ++ M[j]) = false := by
              cases c : on (A ++ M[j]) with
              | false => rfl
              | true => exact absurd (hv.mpr c) q
            refine ihj (j + 1) s9 _ _ (by omega) ?_ ?_
            · rw [any1, hf, Bool.or_false]; exact h8
            · rw [tk, hf, if_neg (by decide), List.append_nil, hK2]; exact hpop
          · have hI7 := hI6.n u
            rw [hon'] at hv
            have hf := hv.mp (Classical.not_not.mp q)
            rw [am_w_s (by omega)]
            refine ihj (j + 1) s7 _ _ (by omega) ?_ ?_
            · rw [any1, hf, Bool.or_true, if_pos rfl]
            · rw [tk, hf, if_pos rfl, ← List.append_assoc, hK2]; exact hI7
      exact inner M.length 0 s1 0 x10 (by omega) (by simp) (by simpa using hI)
  refine w159_e ⟨hr.1, by omega, hr2.1, by omega, ?_⟩
  rw [hr.2.2.2.1, hr2.2.2.2.1]
  refine mI_begin (by omega) h91 (by omega) (by omega) hg hw24 (by rw [am_w_in (by omega) (by omega)]; omega) (fun s1 hI _ => ?_)
  exact loop L.length 0 s1 0 0 0 (by omega) (by simpa [j_rows] using hI) (by simp [j_rows])
end
