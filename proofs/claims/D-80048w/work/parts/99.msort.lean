set_option maxRecDepth 100000
/-! the model: rank, and what changes -/
def ra (s : ms_S) (fv fn : Nat) (n : Nat) (L : List rwt) : Prop := ∀ (i : Nat) (l : rwt), L[i]? = some l → l.length = n ∧ ∀ k : Nat, k < n → s fv (((n * i + k : Nat)) : Int) = rw_ov (l.getD k none) ∧ s fn (((n * i + k : Nat)) : Int) = x_nl (l.getD k none)
section
variable {s s1 s2 s3 : ms_S} {d n w : Nat} {Q : Int → ms_S → Prop} {A B L : List rwt} {l m : rwt} {r : Int}
theorem ra.fr {fv fn : Nat} (h : ra s fv fn n L) (e1 : ∀ j, s1 fv j = s fv j) (e2 : ∀ j, s1 fn j = s fn j) : ra s1 fv fn n L := fun i l hl => ⟨(h i l hl).1, fun k hk => by rw [e1, e2]; exact (h i l hl).2 k hk⟩
/-! rank -/
def rk_is (s : ms_S) (ρ : List Nat) : Prop := ∀ (k i : Nat), ρ[k]? = some i → s 114 k = i
def m_only (f : Nat) (s s1 : ms_S) : Prop := ∀ (q : Nat) (j : Int), q ≠ f → s1 q j = s q j
theorem m_only.tr {f : Nat} (h1 : m_only f s s1) (h2 : m_only f s1 s2) : m_only f s s2 := fun q j hq => (h2 q j hq).trans (h1 q j hq)
theorem m_only.u (s : ms_S) (f : Nat) (i v : Int) : m_only f s (ms_u s f i v) := fun q j hq => ms_u_f i v j hq
theorem mR.only (h : mR s r w L) {f : Nat} (hf : 99 < f) (o : m_only f s s1) : mR s1 r w L := by
  obtain ⟨h0, h⟩ := h
  refine ⟨?_, ?_⟩
  · rw [o 91 _ (by omega), o 90 _ (by omega), o 89 _ (by omega), o 88 _ (by omega), o 87 _ (by omega)]; exact h0
  · rw [o 88 _ (by omega)]
    exact h.eq (fun j _ => ⟨o _ _ (by omega), o _ _ (by omega)⟩)
theorem r_good (h : r_len w L) : o_good r_cmp L := o_cmp_good (T := fun _ => (0, 0, 0, 0, 0, 0)) (sl := fun _ => 0) (es := []) (w := w) h
theorem k_msort (hR : mR s r w L) (hL : L.length ≤ 600) (hd : 5 ≤ d) (kk : ∀ s' ρ, m_only 114 s s' → rk_is s' ρ → ρ.length = L.length → (∀ i ∈ ρ, i < L.length) → ρ.map (fun i => L.getD i []) = o_srt r_cmp L → Q 0 s') : md_sort (d + 1) r s Q := by
  have hr := hR.1
  have hlen : r_len w L := fun x hx => hR.len hx
  have hgood := r_good hlen
  obtain ⟨d, rfl⟩ : ∃ d', d = d' + 1 := ⟨d - 1, by omega⟩
  have outer : ∀ (n i : Nat) (s1 : ms_S) (ρ : List Nat) (x4 : Int), i + n = L.length → m_only 114 s s1 → rk_is s1 ρ → ρ.length = i → (∀ k ∈ ρ, k < i) → o_sd r_cmp (ρ.map (fun i => L.getD i [])) → (ρ.map (fun i => L.getD i [])).Perm (L.take i) → mw (d + 2) 182 (am_blk 182 1) [159, r, L.length, i, x4] [] s1 Q := by
    intro n
    induction n with
    | zero =>
      intro i s1 ρ x4 hi ho hrk hρ hlt hsd hp
      have ei : i = L.length := by omega
      refine w182_1 ⟨fun _ => kk s1 ρ ho hrk (by omega) (fun k hk => by have := hlt k hk; omega) ?_, fun w => absurd (by omega) w⟩
      rw [ei, List.take_length] at hp
      exact o_srt_uniq hgood hp hsd
    | succ n ih =>
      intro i s1 ρ x4 hi ho hrk hρ hlt hsd hp
      have hil : i < L.length := by omega
      have hLi : L.getD i [] = L[i] := by rw [List.getD_eq_getElem?_getD, List.getElem?_eq_getElem hil]; rfl
      have memρ : ∀ k ∈ ρ, L.getD k [] ∈ L := by
        intro k hk
        have := hlt k hk
        rw [List.getD_eq_getElem?_getD, List.getElem?_eq_getElem (show k < L.length by omega)]
        exact List.getElem_mem _
      refine w182_1 ⟨fun w => absurd w (by omega), fun _ => ?_⟩
      -- the place is found
      have inner : ∀ (j : Nat) (s2 : ms_S), j ≤ i → m_only 114 s s2 → (∀ (k a : Nat), ρ[k]? = some a → (k < j → s2 114 k = a) ∧ (j ≤ k → s2 114 ((k + 1 : Nat) : Int) = a)) → (∀ k ∈ ρ.drop j, r_cmp L[i] (L.getD k []) < 0) → mw (d + 2) 182 (am_blk 182 2) [159, r, L.length, i, j] [] s2 Q := by
        intro j
        induction j with
        | zero =>
          intro s2 hj ho2 hsh haft
          refine w182_2 ⟨fun _ => w182_3 ⟨by omega, by omega, fun s3 e3 => ?_⟩, fun w => absurd (by omega) w⟩
          rw [am_w_s (by omega)]
          refine ih (i + 1) s3 (i :: ρ) _ (by omega) (ho2.tr (by rw [e3]; exact m_only.u _ _ _ _)) ?_ (by simp [hρ]) (fun k hk => ?_) ?_ ?_
          · intro k a hk
            cases k with
            | zero => simp at hk; rw [e3, ← hk]; exact ms_u_eq _ _ _ _
            | succ k =>
              simp at hk
              rw [e3, ms_u_i _ (by omega)]
              exact (hsh k a hk).2 (by omega)
          · rcases List.mem_cons.mp hk with q | q
            · omega
            · have := hlt k q; omega
          · rw [List.map_cons]
            unfold o_sd
            rw [List.pairwise_cons]
            refine ⟨fun y hy => ?_, hsd⟩
            obtain ⟨k, hk, rfl⟩ := List.mem_map.mp hy
            have := haft k (by rw [List.drop_zero]; exact hk)
            rw [hLi]; omega
          · rw [List.map_cons, take_s hil, hLi]
            exact (hp.cons _).trans (List.perm_append_singleton _ _).symm
        | succ j ihj =>
          intro s2 hj ho2 hsh haft
          have hjl : j < ρ.length := by omega
          have hja := List.getElem?_eq_getElem hjl
          have hrj : s2 114 ((j : Nat) : Int) = ρ[j] := (hsh j _ hja).1 (by omega)
          have hρj := hlt _ (List.getElem_mem hjl)
          have hLj : L.getD ρ[j] [] = L[ρ[j]] := by rw [List.getD_eq_getElem?_getD, List.getElem?_eq_getElem (show ρ[j] < L.length by omega)]; rfl
          have hR2 := hR.only (by omega) ho2
          obtain ⟨l1, m1⟩ := hR2.row (List.getElem?_eq_getElem hil)
          obtain ⟨l2, m2⟩ := hR2.row (List.getElem?_eq_getElem (show ρ[j] < L.length by omega))
          have x1 : am_w (((j + 1 : Nat) : Int) - 1) = j := by rw [am_w_in (by omega) (by omega)]; omega
          have x2 : am_w (((j + 1 : Nat) : Int) + (-1)) = j := by rw [am_w_in (by omega) (by omega)]; omega
          refine w182_2 ⟨fun w => absurd w (by omega), fun _ => k_rowAt hR2 rfl (by omega) ?_⟩
          rw [x1, x2]
          refine ⟨by omega, by omega, k_rowAt hR2 (i := ρ[j]) (by rw [hrj]) (by omega) ⟨hr.1, by omega, ?_⟩⟩
          rw [hR2.1.2.2.2.1]
          refine k_compareRows m1 m2 (by rw [l1]) (by rw [l1, l2]) ⟨fun c => w182_3 ⟨by omega, by omega, fun s3 e3 => ?_⟩, fun c => ⟨by omega, by omega, by omega, by omega, fun s3 e3 => ?_⟩⟩
          · rw [am_w_s (by omega)]
            have hle : ∀ k ∈ ρ.take (j + 1), r_cmp (L.getD k []) L[i] ≤ 0 := by
              have hj0 : r_cmp (L.getD ρ[j] []) L[i] ≤ 0 := by
                rw [hLj, r_cmp_sw L[i] L[ρ[j]]]
                have c : 0 ≤ r_cmp L[i] L[ρ[j]] := c
                omega
              intro k hk
              obtain ⟨p, hp1, hp2⟩ := List.mem_take_iff_getElem.mp hk
              by_cases cp : p = j
              · subst cp; rw [← hp2]; exact hj0
              · have hpj : p < j := by omega
                have hpw := List.pairwise_iff_getElem.mp hsd p j (by rw [List.length_map]; omega) (by rw [List.length_map]; omega) hpj
                rw [List.getElem_map, List.getElem_map, hp2] at hpw
                exact hgood.le (memρ k (List.mem_of_mem_take hk)) (memρ _ (List.getElem_mem hjl)) (List.getElem_mem hil) hpw hj0
            have hsplit : ρ.take (j + 1) ++ ρ.drop (j + 1) = ρ := List.take_append_drop _ _
            have htl : (ρ.take (j + 1)).length = j + 1 := by rw [List.length_take]; omega
            refine ih (i + 1) s3 (ρ.take (j + 1) ++ i :: ρ.drop (j + 1)) _ (by omega) (ho2.tr (by rw [e3]; exact m_only.u _ _ _ _)) ?_ ?_ (fun k hk => ?_) ?_ ?_
            · intro k a hk
              rw [List.getElem?_append, htl] at hk
              rw [e3]
              split at hk
              · rename_i ck
                rw [ms_u_i _ (by omega)]
                rw [List.getElem?_take, if_pos ck] at hk
                exact (hsh k a hk).1 ck
              · rename_i ck
                by_cases ck2 : k = j + 1
                · subst ck2
                  simp at hk
                  rw [← hk]; exact ms_u_eq _ _ _ _
                · rw [ms_u_i _ (by omega)]
                  obtain ⟨k', rfl⟩ : ∃ k', k = j + 2 + k' := ⟨k - (j + 2), by omega⟩
                  have e1 : j + 2 + k' - (j + 1) = k' + 1 := by omega
                  rw [e1, List.getElem?_cons_succ, List.getElem?_drop] at hk
                  have := (hsh (j + 1 + k') a hk).2 (by omega)
                  have e2 : (((j + 1 + k' + 1 : Nat)) : Int) = ((j + 2 + k' : Nat) : Int) := by omega
                  rw [e2] at this
                  exact this
            · rw [List.length_append, htl, List.length_cons, List.length_drop]; omega
            · rcases List.mem_append.mp hk with q | q
              · have := hlt k (List.mem_of_mem_take q); omega
              · rcases List.mem_cons.mp q with q | q
                · omega
                · have := hlt k (List.mem_of_mem_drop q); omega
            · rw [List.map_append, List.map_cons]
              rw [← hsplit, List.map_append] at hsd
              unfold o_sd at hsd ⊢
              rw [List.pairwise_append] at hsd ⊢
              obtain ⟨q1, q2, q3⟩ := hsd
              refine ⟨q1, ?_, ?_⟩
              · rw [List.pairwise_cons]
                refine ⟨fun y hy => ?_, q2⟩
                obtain ⟨k, hk, rfl⟩ := List.mem_map.mp hy
                have := haft k hk
                rw [hLi]; omega
              · intro x hx y hy
                rcases List.mem_cons.mp hy with q | q
                · subst q
                  obtain ⟨k, hk, rfl⟩ := List.mem_map.mp hx
                  rw [hLi]; exact hle k hk
                · exact q3 x hx y q
            · rw [List.map_append, List.map_cons, take_s hil, hLi]
              have p1 : ((ρ.take (j + 1)).map (fun i => L.getD i []) ++ L[i] :: (ρ.drop (j + 1)).map (fun i => L.getD i [])).Perm (L[i] :: ((ρ.take (j + 1)).map (fun i => L.getD i []) ++ (ρ.drop (j + 1)).map (fun i => L.getD i []))) := List.perm_middle
              rw [← List.map_append, hsplit] at p1
              exact p1.trans ((hp.cons _).trans (List.perm_append_singleton _ _).symm)
          · rw [hrj] at e3
            refine ihj s3 (by omega) (ho2.tr (by rw [e3]; exact m_only.u _ _ _ _)) (fun k a hk => ⟨fun ck => ?_, fun ck => ?_⟩) (fun k hk => ?_)
            · rw [e3, ms_u_i _ (by omega)]
              exact (hsh k a hk).1 (by omega)
            · by_cases ck2 : k = j
              · subst ck2
                rw [hja] at hk
                cases hk
                rw [e3]; exact ms_u_eq _ _ _ _
              · rw [e3, ms_u_i _ (by omega)]
                exact (hsh k a hk).2 (by omega)
            · rw [List.drop_eq_getElem_cons hjl] at hk
              rcases List.mem_cons.mp hk with q | q
              · rw [q, hLj]
                have c : ¬ 0 ≤ r_cmp L[i] L[ρ[j]] := c
                omega
              · exact haft k q
      refine inner i s1 (Nat.le_refl _) ho (fun k a hk => ⟨fun _ => hrk k a hk, fun ck => ?_⟩) (fun k hk => ?_)
      · have := (List.getElem?_eq_some_iff.mp hk).1; omega
      · rw [List.drop_eq_nil_of_le (by omega)] at hk; cases hk
  refine w182_e ⟨hr.1, by omega, ?_⟩
  rw [hr.2.2.2.2.1]
  exact outer L.length 0 s [] 0 (by omega) (fun _ _ _ => rfl) (fun k i hk => by simp at hk) rfl (fun k hk => by cases hk) List.Pairwise.nil (by simp)
/-! rows of the answers -/
theorem ra_ix {n i k N : Nat} (hi : i < N) (hk : k < n) (hN : N * n ≤ 4800) : n * i + k < 4800 ∧ n * i + n ≤ N * n := by
  have h1 : n * (i + 1) ≤ n * N := Nat.mul_le_mul_left n (by omega)
  rw [Nat.mul_add, Nat.mul_one, Nat.mul_comm n N] at h1
  omega
theorem am_w_m {n i k N : Nat} (hi : i < N) (hk : k < n) (hN : N * n ≤ 4800) : am_w (am_w ((n : Int) * (i : Int)) + (k : Int)) = ((n * i + k : Nat) : Int) := by
  have := ra_ix hi hk hN
  have e1 : am_w ((n : Int) * (i : Int)) = ((n * i : Nat) : Int) := by
    rw [← Int.natCast_mul]
    exact am_w_in (by omega) (by omega)
  rw [e1, am_w_in (by omega) (by omega)]
  omega
theorem k_across {i j : Nat} (h101 : s 101 0 = n) (hn : n ≤ 8) (hA : ra s 108 109 n A) (hB : ra s 105 106 n B) (hi : A[i]? = some l) (hj : B[j]? = some m) (hA4 : A.length * n ≤ 4800) (hB4 : B.length * n ≤ 4800) (hd : 5 ≤ d) (kk : Q (r_cmp l m) s) : md_compareAcross (d + 1) i j s Q := by
  obtain ⟨hl, hlv⟩ := hA i l hi
  obtain ⟨hm, hmv⟩ := hB j m hj
  have hiA := (List.getElem?_eq_some_iff.mp hi).1
  have hjB := (List.getElem?_eq_some_iff.mp hj).1
  have loop : ∀ (p k : Nat) (x4 x5 x6 : Int), k + p = n → r_cmp l m = r_cmp (l.drop k) (m.drop k) → mw (d + 1) 184 (am_blk 184 1) [159, i, j, k, x4, x5, x6] [] s Q := by
    intro p
    induction p with
    | zero =>
      intro k x4 x5 x6 hk hc
      refine w184_1 ⟨fun _ => ?_, fun w => absurd (by omega) w⟩
      rw [hc, List.drop_eq_nil_of_le (by omega), List.drop_eq_nil_of_le (by omega)] at kk
      exact kk
    | succ p ih =>
      intro k x4 x5 x6 hk hc
      have hkn : k < n := by omega
      have i1 := ra_ix hiA hkn hA4
      have i2 := ra_ix hjB hkn hB4
      obtain ⟨v1, v2⟩ := hlv k hkn
      obtain ⟨u1, u2⟩ := hmv k hkn
      refine w184_1 ⟨fun w => absurd w (by omega), fun _ => ?_⟩
      rw [h101, am_w_m hiA hkn hA4, am_w_m hjB hkn hB4]
      rw [r_cmp_dr l m k (by omega) (by omega)] at hc
      refine ⟨by omega, by omega, by omega, by omega, by omega, by omega, by omega, by omega, k_mcompare v1 v2 u1 u2 ⟨fun c => ?_, fun c => ?_⟩⟩
      · rw [if_pos c] at hc
        rw [am_w_s (by omega)]
        exact ih (k + 1) _ _ _ (by omega) hc
      · rw [if_neg c] at hc
        rw [hc] at kk; exact kk
  exact w184_e (loop n 0 0 0 0 (by omega) rfl)
theorem k_like0 {i : Nat} {x1 : Int} {fv fn : Nat} (h101 : s 101 0 = n) (hn : n ≤ 8) (hx : (x1 = 0 ∧ fv = 105 ∧ fn = 106) ∨ (x1 = 1 ∧ fv = 108 ∧ fn = 109)) (hA : ra s fv fn n A) (hi : A[i]? = some l) (hj : A[i + 1]? = some m) (hA4 : A.length * n ≤ 4800) (hd : 5 ≤ d) (kk : Q (if l = m then 1 else 0) s) : mw (d + 1) 185 (am_blk 185 4) [159, x1, i, A.length, 0, 0, 0, 0] [] s Q := by
  obtain ⟨hl, hlv⟩ := hA i l hi
  obtain ⟨hm, hmv⟩ := hA (i + 1) m hj
  have hiA := (List.getElem?_eq_some_iff.mp hi).1
  have hjA := (List.getElem?_eq_some_iff.mp hj).1
  have loop : ∀ (p k : Nat) (x5 x6 x7 : Int), k + p = n → l.take k = m.take k → mw (d + 1) 185 (am_blk 185 4) [159, x1, i, A.length, k, x5, x6, x7] [] s Q := by
    intro p
    induction p with
    | zero =>
      intro k x5 x6 x7 hk hc
      refine w185_4 ⟨fun _ => ?_, fun w => absurd (by omega) w⟩
      rw [List.take_of_length_le (by omega), List.take_of_length_le (by omega)] at hc
      rw [if_pos hc] at kk; exact kk
    | succ p ih =>
      intro k x5 x6 x7 hk hc
      have hkn : k < n := by omega
      have i1 := ra_ix hiA hkn hA4
      have i2 := ra_ix hjA hkn hA4
      obtain ⟨v1, v2⟩ := hlv k hkn
      obtain ⟨u1, u2⟩ := hmv k hkn
      have e2 : am_w (((n * i + k : Nat) : Int) + (n : Int)) = ((n * (i + 1) + k : Nat) : Int) := by
        rw [am_w_in (by omega) (by omega), Nat.mul_add, Nat.mul_one]; omega
      have fin : ∀ x5 x6, (r_oc (l.getD k none) (m.getD k none) ≠ 0 → mw (d + 1) 185 (am_blk 185 8) [159, x1, i, A.length, k, x5, x6, x7] [0] s Q) ∧ (¬ (r_oc (l.getD k none) (m.getD k none) ≠ 0) → mw (d + 1) 185 (am_blk 185 8) [159, x1, i, A.length, k, x5, x6, x7] [1] s Q) := by
        intro x5 x6
        refine ⟨fun c => w185_8 ⟨fun c2 => absurd rfl c2, fun _ => ?_⟩, fun c => w185_8 ⟨fun _ => ?_, fun c2 => absurd (by decide) c2⟩⟩
        · rw [if_neg] at kk
          · exact kk
          · intro e; subst e; exact c (r_oc_0.mpr rfl)
        · rw [am_w_s (by omega)]
          refine ih (k + 1) _ _ _ (by omega) ?_
          have e3 := r_oc_0.mp (Classical.not_not.mp c)
          have hkl : k < l.length := by omega
          have hkm : k < m.length := by omega
          rw [List.getD_eq_getElem?_getD, List.getD_eq_getElem?_getD, List.getElem?_eq_getElem hkl, List.getElem?_eq_getElem hkm] at e3
          rw [List.take_succ, List.take_succ, hc, List.getElem?_eq_getElem hkl, List.getElem?_eq_getElem hkm]
          have e3 : l[k] = m[k] := e3
          rw [e3]
      refine w185_4 ⟨fun w => absurd w (by omega), fun _ => ?_⟩
      rw [h101, am_w_m hiA hkn hA4, e2]
      rcases hx with ⟨hx, rfl, rfl⟩ | ⟨hx, rfl, rfl⟩
      · exact ⟨fun _ => ⟨by omega, by omega, by omega, by omega, by omega, by omega, by omega, by omega, k_mcompare v1 v2 u1 u2 (fin _ _)⟩, fun c => absurd hx c⟩
      · exact ⟨fun c => absurd c (by omega), fun _ => ⟨by omega, by omega, by omega, by omega, by omega, by omega, by omega, by omega, k_mcompare v1 v2 u1 u2 (fin _ _)⟩⟩
  exact loop n 0 0 0 0 (by omega) rfl
theorem k_like {i : Nat} {x1 : Int} {fv fn : Nat} (h101 : s 101 0 = n) (hn : n ≤ 8) (hx : (x1 = 0 ∧ fv = 105 ∧ fn = 106 ∧ s 104 0 = A.length) ∨ (x1 = 1 ∧ fv = 108 ∧ fn = 109 ∧ s 107 0 = A.length)) (hA : ra s fv fn n A) (hi : A[i]? = some l) (hA4 : A.length * n ≤ 4800) (hA6 : A.length ≤ 600) (hd : 5 ≤ d) (kk : Q (if A[i + 1]? = some l then 1 else 0) s) : md_isLikeNext (d + 1) x1 i s Q := by
  have hiA := (List.getElem?_eq_some_iff.mp hi).1
  have b2 : mw (d + 1) 185 (am_blk 185 2) [159, x1, i, 0, 0, 0, 0, 0] [(A.length : Int)] s Q := by
    refine w185_2 ⟨fun c => ?_, fun c => ?_⟩
    · rw [am_w_s (by omega)] at c
      have hlt : i + 1 < A.length := by omega
      have hj := List.getElem?_eq_getElem hlt
      refine k_like0 h101 hn (by rcases hx with ⟨a, b, c, -⟩ | ⟨a, b, c, -⟩; exact Or.inl ⟨a, b, c⟩; exact Or.inr ⟨a, b, c⟩) hA hi hj hA4 hd ?_
      rw [hj] at kk
      by_cases e : l = A[i + 1]
      · rw [if_pos e]; rw [if_pos (by rw [e])] at kk; exact kk
      · rw [if_neg e]; rw [if_neg (fun h => e (by cases h; rfl))] at kk; exact kk
    · rw [am_w_s (by omega)] at c
      rw [List.getElem?_eq_none (by omega)] at kk
      rw [if_neg (by simp)] at kk
      exact kk
  rcases hx with ⟨rfl, -, -, h⟩ | ⟨rfl, -, -, h⟩
  · exact w185_e ⟨fun _ => by rw [h]; exact b2, fun c => absurd rfl c⟩
  · exact w185_e ⟨fun c => absurd c (by decide), fun _ => by rw [h]; exact b2⟩
end
