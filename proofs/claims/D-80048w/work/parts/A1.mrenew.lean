set_option maxRecDepth 100000
/-! the model: the answer is worked anew -/
section
variable {s s1 s2 s3 : ms_S} {T : xt} {sl ct : Nat → Int} {NE : Nat} {X : nt} {d n w : Nat} {Q : Int → ms_S → Prop} {A B L : List rwt} {l m : rwt} {r : Int}
theorem ra_put {fv fn i : Nat} (h : ra s fv fn n (L.take i)) (hi : i < L.length) (hl : L[i].length = n) (e : ∀ j : Int, j < ((n * i : Nat) : Int) → s1 fv j = s fv j ∧ s1 fn j = s fn j) (hr : ∀ k : Nat, k < n → s1 fv (((n * i + k : Nat)) : Int) = rw_ov (L[i].getD k none) ∧ s1 fn (((n * i + k : Nat)) : Int) = x_nl (L[i].getD k none)) : ra s1 fv fn n (L.take (i + 1)) := by
  intro j l hj
  rw [List.getElem?_take] at hj
  split at hj
  · rename_i c
    by_cases cj : j = i
    · subst cj
      rw [List.getElem?_eq_getElem hi] at hj
      cases hj
      exact ⟨hl, hr⟩
    · have hj2 : (L.take i)[j]? = some l := by rw [List.getElem?_take, if_pos (by omega)]; exact hj
      obtain ⟨q1, q2⟩ := h j l hj2
      refine ⟨q1, fun k hk => ?_⟩
      have : n * (j + 1) ≤ n * i := Nat.mul_le_mul_left n (by omega)
      rw [Nat.mul_add, Nat.mul_one] at this
      obtain ⟨g1, g2⟩ := e (((n * j + k : Nat)) : Int) (by omega)
      rw [g1, g2]
      exact q2 k hk
  · cases hj
theorem flt_two (M : List (rwt × Int)) : (M.filter (fun e => decide (if (0 : Int) = 0 then e.2 < 0 else 0 < e.2))).length + (M.filter (fun e => decide (if (1 : Int) = 0 then e.2 < 0 else 0 < e.2))).length ≤ M.length := by
  induction M with
  | nil => simp
  | cons e M ih =>
    rw [List.filter_cons, List.filter_cons]
    have d1 : (decide (if (0 : Int) = 0 then e.2 < 0 else 0 < e.2) = true) ↔ e.2 < 0 := by rw [decide_eq_true_iff]; exact Iff.rfl
    have d2 : (decide (if (1 : Int) = 0 then e.2 < 0 else 0 < e.2) = true) ↔ 0 < e.2 := by rw [decide_eq_true_iff]; exact Iff.rfl
    by_cases c1 : e.2 < 0
    · rw [if_pos (d1.mpr c1), if_neg (fun h => by have := d2.mp h; omega), List.length_cons, List.length_cons]; omega
    · rw [if_neg (fun h => c1 (d1.mp h))]
      by_cases c2 : 0 < e.2
      · rw [if_pos (d2.mpr c2), List.length_cons, List.length_cons]; omega
      · rw [if_neg (fun h => c2 (d2.mp h)), List.length_cons]; omega
def m_an (A : List rwt) (L : List rwt) (o : Int) : List rwt := if o = -1 then A else L
/-- the answer that is held, and its changes -/
def mAn (s : ms_S) (n : Nat) (L : List rwt) (K : List (rwt × Int)) : Prop := n ≤ 8 ∧ L.length ≤ 600 ∧ r_len n L ∧ s 100 0 = L.length ∧ s 101 0 = n ∧ s 104 0 = L.length ∧ ra s 105 106 n (o_srt r_cmp L) ∧ ra s 102 103 n (m_an (o_srt r_cmp L) L (s 65 0)) ∧ mCh s n K
def m_chg (L' L : List rwt) : List (rwt × Int) := (mg (L.length + L'.length) (o_srt r_cmp L) (o_srt r_cmp L')).filter (fun e => decide (e.2 < 0)) ++ (mg (L.length + L'.length) (o_srt r_cmp L) (o_srt r_cmp L')).filter (fun e => decide (0 < e.2))
theorem k_renew {told g f C R N : Nat} {nn : Int} {τ : List Int} {Lo : List rwt} {Ko : List (rwt × Int)} {no : Nat} (hX : mX s T sl ct NE X) (hs6 : s 4 0 ≤ 6) (hq : mq s T sl ct NE X g 0 f nn τ N C R) (h8 : τ.length ≤ 8) (hC : C ≤ 400000) (hR : R < 400) (hg : s 97 0 = 0) (h81 : s 81 0 ≠ 0) (hd : 620 + 3 * g ≤ d)
    (ho : (told = 0 ∧ 0 ≤ s 104 0 ∧ s 104 0 ≤ 600 ∧ 0 ≤ s 101 0 ∧ s 101 0 ≤ 8) ∨ (told ≠ 0 ∧ mAn s τ.length Lo Ko))
    (kk : ∀ s', (∀ (q : Nat) (j : Int), q < 85 → s' q j = s q j) → s' 97 0 = 0 → mAn s' τ.length (NL T sl X (ms_W s) f nn) (if told = 0 then [] else m_chg (NL T sl X (ms_W s) f nn) Lo) → Q 0 s') : md_renew (d + 1) told s Q := by
  refine w151_e ⟨fun _ s1 e1 s2 e2 => ?_, fun c => absurd h81 c⟩
  have f2 : ∀ (q : Nat) (j : Int), q ≠ 87 → q ≠ 91 → s2 q j = s q j := fun q j h1 h2 => by rw [e2, ms_u_f _ _ _ h2, e1, ms_u_f _ _ _ h1]
  have z91 : s2 91 0 = 0 := by rw [e2, ms_u_eq]
  have z87 : s2 87 0 = 0 := by rw [e2, ms_u_f _ _ _ (by omega), e1, ms_u_eq]
  have hz : mZ s s2 := ⟨fun q j hq => f2 q j (by omega) (by omega), by rw [f2 _ _ (by omega) (by omega)]; exact hg, by omega, by omega⟩
  have hnv := mq.v g 0 f nn τ N C R hq
  obtain ⟨hlN, hlr⟩ := NL_nv hX.hT.2.1 hX.hW hnv
  have hN6 := hnv.2.2
  have hlen : r_len τ.length (NL T sl X (ms_W s) f nn) := fun x hx => (hlr x hx).1
  refine mq.work hX hs6 g 0 f nn τ N C R hq s2 d _ hz (by omega) (by omega) (by omega) (fun r s3 hq3 => ?_)
  generalize NL T sl X (ms_W s) f nn = L at *
  generalize hn : τ.length = n at *
  have hz3 := hq3.z hz
  have hR3 := hq3.1
  have hr3 := hR3.1
  refine ⟨hr3.1, by omega, fun s4 e4 => ?_⟩
  have g104 : s3 104 0 = s 104 0 := by rw [hq3.2.1 _ _ (by omega), f2 _ _ (by omega) (by omega)]
  have hi3 : ∀ (q : Nat) (j : Int), 99 < q → s3 q j = s q j := fun q j h => by rw [hq3.2.1 _ _ (by omega), f2 _ _ (by omega) (by omega)]
  have hi4 : ∀ (q : Nat) (j : Int), 99 < q → q ≠ 107 → s4 q j = s q j := fun q j h h7 => by rw [e4, ms_u_f _ _ _ h7]; exact hi3 q j h
  have lo4 : ∀ (q : Nat) (j : Int), q ≤ 99 → s4 q j = s3 q j := fun q j h => by rw [e4, ms_u_f _ _ _ (by omega)]
  have h107 : s4 107 0 = s 104 0 := by rw [e4, ms_u_eq]; exact g104
  have e90 : s3 90 r = n := hr3.2.2.2.1
  rw [e90]
  have hSl : (o_srt r_cmp L).length = L.length := o_srt_perm.length_eq
  have hSlen : r_len n (o_srt r_cmp L) := fun x hx => hlen x (o_srt_perm.mem_iff.mp hx)
  have hgood := r_good hlen
  -- how many cells were held
  have hcnt : ∃ cnt : Nat, am_w (s 104 0 * s 101 0) = cnt ∧ cnt ≤ 4800 ∧ (told ≠ 0 → mAn s n Lo Ko ∧ cnt = Lo.length * n) := by
    rcases ho with ⟨h0, a1, a2, a3, a4⟩ | ⟨h0, hAn⟩
    · obtain ⟨x, hx⟩ : ∃ x : Nat, s 104 0 = x := ⟨(s 104 0).toNat, by omega⟩
      obtain ⟨y, hy⟩ : ∃ y : Nat, s 101 0 = y := ⟨(s 101 0).toNat, by omega⟩
      have hxy : x * y ≤ 600 * 8 := Nat.mul_le_mul (by omega) (by omega)
      refine ⟨x * y, ?_, by omega, fun c => absurd h0 c⟩
      rw [hx, hy, ← Int.natCast_mul]
      exact am_w_in (by omega) (by omega)
    · obtain ⟨b1, b2, b3, b4, b5, b6, b7⟩ := hAn
      have hxy : Lo.length * n ≤ 600 * 8 := Nat.mul_le_mul (by omega) (by omega)
      refine ⟨Lo.length * n, ?_, by omega, fun _ => ⟨⟨b1, b2, b3, b4, b5, b6, b7⟩, rfl⟩⟩
      rw [b6, b5, ← Int.natCast_mul]
      exact am_w_in (by omega) (by omega)
  obtain ⟨cnt, hc1, hc2, hc3⟩ := hcnt
  -- behind the copy of the old ones
  have tail : ∀ (s5 : ms_S) (x4 : Int), (∀ (q : Nat) (j : Int), q ≤ 99 → s5 q j = s3 q j) → (∀ (q : Nat) (j : Int), 99 < q → q ≠ 107 → q ≠ 108 → q ≠ 109 → s5 q j = s q j) → s5 107 0 = s 104 0 → (∀ k : Nat, k < cnt → s5 108 k = s 105 k ∧ s5 109 k = am_i2b (s 106 k)) → md_sort d r s5 (fun _ s1 => 0 ≤ r ∧ r < 400 ∧ ∀ s2, s2 = ms_u s1 100 0 (s1 89 r) → ∀ s3, s3 = ms_u s2 101 0 n → ∀ s4, s4 = ms_u s3 104 0 (s3 100 0) → mw (d + 1) 151 (am_blk 151 4) [159, told, r, n, 0, 0, 0, 0] [] s4 Q) := by
    intro s5 x4 lo5 hi5 h1075 hold5
    have hR5 : mR s5 r n L := by
      obtain ⟨p0, p1⟩ := hR3
      refine ⟨?_, ?_⟩
      · rw [lo5 91 _ (by omega), lo5 90 _ (by omega), lo5 89 _ (by omega), lo5 88 _ (by omega), lo5 87 _ (by omega)]; exact p0
      · rw [lo5 88 _ (by omega)]
        exact p1.eq (fun j _ => ⟨lo5 _ _ (by omega), lo5 _ _ (by omega)⟩)
    obtain ⟨d, rfl⟩ : ∃ d', d = d' + 2 := ⟨d - 2, by omega⟩
    refine k_msort hR5 (by omega) (by omega) (fun s6 ρ o6 hρ hρl hρlt hρS => ⟨hr3.1, by omega, fun s7 e7 s8 e8 s9 e9 => ?_⟩)
    have hR6 := hR5.only (by omega) o6
    have k89 : s6 89 r = L.length := hR6.1.2.2.2.2.1
    rw [k89] at e7
    have h100 : s8 100 0 = L.length := by rw [e8, ms_u_f _ _ _ (by omega), e7, ms_u_eq]
    rw [h100] at e9
    have fr9 : ∀ (q : Nat) (j : Int), q ≠ 100 → q ≠ 101 → q ≠ 104 → q ≠ 114 → s9 q j = s5 q j := fun q j h1 h2 h3 h4 => by rw [e9, ms_u_f _ _ _ h3, e8, ms_u_f _ _ _ h2, e7, ms_u_f _ _ _ h1]; exact o6 q j h4
    have v100 : s9 100 0 = L.length := by rw [e9, ms_u_f _ _ _ (by omega)]; exact h100
    have v101 : s9 101 0 = n := by rw [e9, ms_u_f _ _ _ (by omega), e8, ms_u_eq]
    have v104 : s9 104 0 = L.length := by rw [e9, ms_u_eq]
    have vrk : rk_is s9 ρ := fun k i hk => by rw [e9, ms_u_f _ _ _ (by omega), e8, ms_u_f _ _ _ (by omega), e7, ms_u_f _ _ _ (by omega)]; exact hρ k i hk
    have h4800 : L.length * n ≤ 4800 := by
      have : L.length * n ≤ 600 * 8 := Nat.mul_le_mul (by omega) (by omega)
      omega
    -- the rows
    let Aw := m_an (o_srt r_cmp L) L (s 65 0)
    have hAwl : Aw.length = L.length := by
      show (m_an _ _ _).length = _
      unfold m_an; split
      · exact hSl
      · rfl
    have rows : ∀ (p i : Nat) (t : ms_S) (x5 x6 x7 : Int), i + p = L.length → (∀ (q : Nat) (j : Int), q ≠ 102 → q ≠ 103 → q ≠ 105 → q ≠ 106 → t q j = s9 q j) → ra t 105 106 n ((o_srt r_cmp L).take i) → ra t 102 103 n (Aw.take i) → mw (d + 3) 151 (am_blk 151 4) [159, told, r, n, i, x5, x6, x7] [] t Q := by
      intro p
      induction p with
      | zero =>
        intro i t x5 x6 x7 hi ft hS hAw
        have ei : i = L.length := by omega
        refine w151_4 ⟨fun _ t1 et1 => ?_, fun c => absurd (by rw [ft _ _ (by omega) (by omega) (by omega) (by omega), v100]; omega) c⟩
        rw [List.take_of_length_le (by omega)] at hS hAw
        have ft1 : ∀ (q : Nat) (j : Int), q ≠ 102 → q ≠ 103 → q ≠ 105 → q ≠ 106 → q ≠ 110 → t1 q j = s9 q j := fun q j h1 h2 h3 h4 h5 => by rw [et1, ms_u_f _ _ _ h5]; exact ft q j h1 h2 h3 h4
        have hS1 : ra t1 105 106 n (o_srt r_cmp L) := hS.fr (fun j => by rw [et1, ms_u_f _ _ _ (by omega)]) (fun j => by rw [et1, ms_u_f _ _ _ (by omega)])
        have hAw1 : ra t1 102 103 n Aw := hAw.fr (fun j => by rw [et1, ms_u_f _ _ _ (by omega)]) (fun j => by rw [et1, ms_u_f _ _ _ (by omega)])
        have lt1 : ∀ (q : Nat) (j : Int), q < 85 → t1 q j = s q j := fun q j hq => by rw [ft1 _ _ (by omega) (by omega) (by omega) (by omega) (by omega), fr9 _ _ (by omega) (by omega) (by omega) (by omega), lo5 _ _ (by omega)]; exact hz3.1 q j hq
        have t197 : t1 97 0 = 0 := by rw [ft1 _ _ (by omega) (by omega) (by omega) (by omega) (by omega), fr9 _ _ (by omega) (by omega) (by omega) (by omega), lo5 _ _ (by omega)]; exact hz3.2.1
        have hc0 : mCh t1 n [] := ⟨by rw [et1, ms_u_eq]; rfl, fun i l hl => by simp at hl, fun i e he => by simp at he⟩
        have an : ∀ (t2 : ms_S) (K : List (rwt × Int)), m_ch t1 t2 → mCh t2 n K → mAn t2 n L K := by
          intro t2 K hm hK
          have c100 : t1 100 0 = L.length := by rw [ft1 _ _ (by omega) (by omega) (by omega) (by omega) (by omega)]; exact v100
          have c101 : t1 101 0 = n := by rw [ft1 _ _ (by omega) (by omega) (by omega) (by omega) (by omega)]; exact v101
          have c104 : t1 104 0 = L.length := by rw [ft1 _ _ (by omega) (by omega) (by omega) (by omega) (by omega)]; exact v104
          refine ⟨h8, by omega, hlen, by rw [hm _ _ (by omega)]; exact c100, by rw [hm _ _ (by omega)]; exact c101, by rw [hm _ _ (by omega)]; exact c104, hS1.fr (fun j => hm _ _ (by omega)) (fun j => hm _ _ (by omega)), ?_, hK⟩
          rw [hm _ _ (by omega), lt1 _ _ (by omega)]
          exact hAw1.fr (fun j => hm _ _ (by omega)) (fun j => hm _ _ (by omega))
        have ch85 : ∀ {t2 : ms_S}, m_ch t1 t2 → (∀ (q : Nat) (j : Int), q < 85 → t2 q j = s q j) ∧ t2 97 0 = 0 := fun hm => ⟨fun q j hq => by rw [hm _ _ (by omega)]; exact lt1 q j hq, by rw [hm _ _ (by omega)]; exact t197⟩
        refine ⟨fun c => w151_14 ?_, fun c => ?_⟩
        · have := kk t1 lt1 t197
          rw [if_pos (by omega)] at this
          exact this (an t1 [] (m_ch.rf t1) hc0)
        · have h0 : told ≠ 0 := by omega
          obtain ⟨hAn, hcl⟩ := hc3 h0
          obtain ⟨b1, b2, b3, b4, b5, b6, b7, b8, b9⟩ := hAn
          have hOl : (o_srt r_cmp Lo).length = Lo.length := o_srt_perm.length_eq
          have hOlen : r_len n (o_srt r_cmp Lo) := fun x hx => b3 x (o_srt_perm.mem_iff.mp hx)
          have ho4 : Lo.length * n ≤ 4800 := by
            have : Lo.length * n ≤ 600 * 8 := Nat.mul_le_mul (by omega) (by omega)
            omega
          have hOld : ra t1 108 109 n (o_srt r_cmp Lo) := by
            intro i l hl
            obtain ⟨q1, q2⟩ := b7 i l hl
            refine ⟨q1, fun k hk => ?_⟩
            have hil := (List.getElem?_eq_some_iff.mp hl).1
            have hiLo : i < Lo.length := by omega
            have ix := ra_ix hiLo hk ho4
            obtain ⟨u1, u2⟩ := hold5 (n * i + k) (by omega)
            obtain ⟨w1, w2⟩ := q2 k hk
            refine ⟨?_, ?_⟩
            · rw [ft1 _ _ (by omega) (by omega) (by omega) (by omega) (by omega), fr9 _ _ (by omega) (by omega) (by omega) (by omega), u1]; exact w1
            · rw [ft1 _ _ (by omega) (by omega) (by omega) (by omega) (by omega), fr9 _ _ (by omega) (by omega) (by omega) (by omega), u2, w2, am_i2b_nl]
          have d107 : t1 107 0 = Lo.length := by rw [ft1 _ _ (by omega) (by omega) (by omega) (by omega) (by omega), fr9 _ _ (by omega) (by omega) (by omega) (by omega), h1075]; exact b6
          have d104 : t1 104 0 = L.length := by rw [ft1 _ _ (by omega) (by omega) (by omega) (by omega) (by omega)]; exact v104
          have d101 : t1 101 0 = n := by rw [ft1 _ _ (by omega) (by omega) (by omega) (by omega) (by omega)]; exact v101
          have hmgl : (mg (Lo.length + L.length) (o_srt r_cmp Lo) (o_srt r_cmp L)).length ≤ Lo.length + L.length := by
            have := (mg_aux (w := n) (Lo.length + L.length) (o_srt r_cmp Lo) (o_srt r_cmp L) (by omega) hOlen hSlen (o_srt_sd (r_good b3)) (o_srt_sd hgood)).2.2.2
            omega
          obtain ⟨d, rfl⟩ : ∃ d', d = d' + 1 := ⟨d - 1, by omega⟩
          have eM : mg ((o_srt r_cmp Lo).length + (o_srt r_cmp L).length) (o_srt r_cmp Lo) (o_srt r_cmp L) = mg (Lo.length + L.length) (o_srt r_cmp Lo) (o_srt r_cmp L) := by rw [hOl, hSl]
          refine k_differ (A := o_srt r_cmp Lo) (B := o_srt r_cmp L) (Or.inl rfl) d101 h8 hOld hS1 (by rw [hOl]; exact d107) (by rw [hSl]; exact d104) (by omega) (by omega) (by rw [hOl]; exact ho4) (by rw [hSl]; exact h4800) (o_srt_sd (r_good b3)) (o_srt_sd hgood) hc0 (by rw [eM]; exact Nat.le_trans (by rw [List.length_nil, Nat.zero_add]; exact List.length_filter_le _ _) (show (mg (Lo.length + L.length) (o_srt r_cmp Lo) (o_srt r_cmp L)).length ≤ 1300 by omega)) (by omega) (fun t2 hm2 hK2 => ?_)
          rw [eM] at hK2
          refine k_differ (A := o_srt r_cmp Lo) (B := o_srt r_cmp L) (Or.inr rfl) (by rw [hm2 _ _ (by omega)]; exact d101) h8 (hOld.fr (fun j => hm2 _ _ (by omega)) (fun j => hm2 _ _ (by omega))) (hS1.fr (fun j => hm2 _ _ (by omega)) (fun j => hm2 _ _ (by omega))) (by rw [hOl, hm2 _ _ (by omega)]; exact d107) (by rw [hSl, hm2 _ _ (by omega)]; exact d104) (by omega) (by omega) (by rw [hOl]; exact ho4) (by rw [hSl]; exact h4800) (o_srt_sd (r_good b3)) (o_srt_sd hgood) hK2 (by rw [eM, List.nil_append]; have := flt_two (mg (Lo.length + L.length) (o_srt r_cmp Lo) (o_srt r_cmp L)); omega) (by omega) (fun t3 hm3 hK3 => w151_14 ?_)
          rw [eM] at hK3
          have hm13 := hm2.tr hm3
          have := kk t3 (ch85 hm13).1 (ch85 hm13).2
          rw [if_neg h0] at this
          refine this (an t3 _ hm13 ?_)
          unfold m_chg
          simpa using hK3
      | succ p ih =>
        intro i t x5 x6 x7 hi ft hS hAw
        have hil : i < L.length := by omega
        have hiS : i < (o_srt r_cmp L).length := by omega
        have hiA : i < Aw.length := by omega
        have hiρ : i < ρ.length := by omega
        have hRt : mR t r n L := by
          obtain ⟨p0, p1⟩ := hR5
          have ff : ∀ (q : Nat) (j : Int), q ≤ 99 → t q j = s5 q j := fun q j h => by rw [ft _ _ (by omega) (by omega) (by omega) (by omega)]; exact fr9 _ _ (by omega) (by omega) (by omega) (by omega)
          refine ⟨?_, ?_⟩
          · rw [ff 91 _ (by omega), ff 90 _ (by omega), ff 89 _ (by omega), ff 88 _ (by omega), ff 87 _ (by omega)]; exact p0
          · rw [ff 88 _ (by omega)]
            exact p1.eq (fun j _ => ⟨ff _ _ (by omega), ff _ _ (by omega)⟩)
        have hρi := hρlt _ (List.getElem_mem hiρ)
        have er : t 114 i = ρ[i] := by rw [ft _ _ (by omega) (by omega) (by omega) (by omega)]; exact vrk i _ (List.getElem?_eq_getElem hiρ)
        have eSi : L[ρ[i]] = (o_srt r_cmp L)[i] := by
          have h1 : (ρ.map (fun i => L.getD i []))[i]? = (o_srt r_cmp L)[i]? := by rw [hρS]
          rw [List.getElem?_map, List.getElem?_eq_getElem hiρ, List.getElem?_eq_getElem hiS] at h1
          have h1 : L.getD ρ[i] [] = (o_srt r_cmp L)[i] := by simpa using h1
          rw [List.getD_eq_getElem?_getD, List.getElem?_eq_getElem (show ρ[i] < L.length by omega)] at h1
          exact h1
        obtain ⟨lS, mS⟩ := hRt.row (List.getElem?_eq_getElem (show ρ[i] < L.length by omega))
        rw [eSi] at lS mS
        have e65 : t 65 0 = s 65 0 := by rw [ft _ _ (by omega) (by omega) (by omega) (by omega), fr9 _ _ (by omega) (by omega) (by omega) (by omega), lo5 _ _ (by omega)]; exact hz3.1 _ _ (by omega)
        have lA : Aw[i].length = n := by
          have : Aw[i] ∈ Aw := List.getElem_mem hiA
          have h2 : r_len n Aw := by
            show r_len n (m_an _ _ _)
            unfold m_an; split
            · exact hSlen
            · exact hlen
          exact h2 _ this
        -- the cells
        have cells : ∀ (b : Int), rm t b Aw[i] → mw (d + 3) 151 (am_blk 151 6) [159, told, r, n, i, t 88 r + ((ρ[i] * n : Nat) : Int), x6, x7] [b] t Q := by
          intro b mA
          refine w151_6 ?_
          generalize ha : t 88 r + ((ρ[i] * n : Nat) : Int) = a at *
          have in7 : ∀ (q k : Nat) (t1 : ms_S), k + q = n → (∀ (q : Nat) (j : Int), q ≠ 102 → q ≠ 103 → q ≠ 105 → q ≠ 106 → t1 q j = t q j) → (∀ (q : Nat) (j : Int), j < ((n * i : Nat) : Int) → t1 q j = t q j) → (∀ k' : Nat, k' < k → t1 105 (((n * i + k' : Nat)) : Int) = rw_ov ((o_srt r_cmp L)[i].getD k' none) ∧ t1 106 (((n * i + k' : Nat)) : Int) = x_nl ((o_srt r_cmp L)[i].getD k' none)) → (∀ k' : Nat, k' < k → t1 102 (((n * i + k' : Nat)) : Int) = rw_ov (Aw[i].getD k' none) ∧ t1 103 (((n * i + k' : Nat)) : Int) = x_nl (Aw[i].getD k' none)) → mw (d + 3) 151 (am_blk 151 7) [159, told, r, n, i, a, b, k] [] t1 Q := by
            intro q
            induction q with
            | zero =>
              intro k t1 hk f1 f0 v1 v2
              have ek : k = n := by omega
              subst ek
              refine w151_7 ⟨fun _ => ?_, fun c => absurd (by omega) c⟩
              rw [am_w_s (by omega)]
              exact ih (i + 1) t1 _ _ _ (by omega) (fun q j h1 h2 h3 h4 => (f1 q j h1 h2 h3 h4).trans (ft q j h1 h2 h3 h4)) (ra_put hS hiS lS (fun j hj => ⟨f0 _ _ hj, f0 _ _ hj⟩) v1) (ra_put hAw hiA lA (fun j hj => ⟨f0 _ _ hj, f0 _ _ hj⟩) v2)
            | succ q ihq =>
              intro k t1 hk f1 f0 v1 v2
              have hkn : k < n := by omega
              have ix := ra_ix hil hkn h4800
              have x1 : am_w (a + k) = a + k := am_w_in (by have := mS.1; omega) (by have := mS.2.1; rw [lS] at this; omega)
              have x2 : am_w (b + k) = b + k := am_w_in (by have := mA.1; omega) (by have := mA.2.1; rw [lA] at this; omega)
              have x3 : am_w (am_w ((n : Int) * (i : Int)) + (k : Int)) = ((n * i + k : Nat) : Int) := am_w_m hil hkn h4800
              obtain ⟨c1, c2⟩ := mS.2.2 k (by omega)
              obtain ⟨d1, d2⟩ := mA.2.2 k (by omega)
              have a0 := mS.1
              have a1 := mS.2.1
              have b0 := mA.1
              have b1 := mA.2.1
              rw [lS] at a1
              rw [lA] at b1
              -- the sorted one
              have b9 : mw (d + 3) 151 (am_blk 151 9) [159, told, r, n, i, a, b, k] [rw_ov ((o_srt r_cmp L)[i].getD k none), ((n * i + k : Nat) : Int), 229] t1 Q := by
                refine w151_9 ?_
                rw [x1, x2, x3]
                refine ⟨by omega, by omega, fun t2 e2 => ⟨by omega, by omega, by omega, by omega, fun t3 e3 => ⟨by omega, by omega, ?_⟩⟩⟩
                have g86 : t2 86 (a + k) = x_nl ((o_srt r_cmp L)[i].getD k none) := by rw [e2, ms_u_f _ _ _ (by omega), f1 _ _ (by omega) (by omega) (by omega) (by omega)]; exact c2
                rw [g86, am_i2b_nl] at e3
                have h86 : t3 86 (b + k) = x_nl (Aw[i].getD k none) := by rw [e3, ms_u_f _ _ _ (by omega), e2, ms_u_f _ _ _ (by omega), f1 _ _ (by omega) (by omega) (by omega) (by omega)]; exact d2
                have h85 : t3 85 (b + k) = rw_ov (Aw[i].getD k none) := by rw [e3, ms_u_f _ _ _ (by omega), e2, ms_u_f _ _ _ (by omega), f1 _ _ (by omega) (by omega) (by omega) (by omega)]; exact d1
                have b11 : mw (d + 3) 151 (am_blk 151 11) [159, told, r, n, i, a, b, k] [rw_ov (Aw[i].getD k none), ((n * i + k : Nat) : Int), 227] t3 Q := by
                  refine w151_11 ?_
                  rw [x2, x3]
                  refine ⟨by omega, by omega, fun t4 e4 => ⟨by omega, by omega, by omega, by omega, fun t5 e5 => ?_⟩⟩
                  have g86' : t4 86 (b + k) = x_nl (Aw[i].getD k none) := by rw [e4, ms_u_f _ _ _ (by omega)]; exact h86
                  rw [g86', am_i2b_nl] at e5
                  rw [am_w_s (by omega)]
                  have all : ∀ (q : Nat) (j : Int), (q ≠ 102 ∧ q ≠ 103 ∧ q ≠ 105 ∧ q ≠ 106) ∨ j ≠ ((n * i + k : Nat) : Int) → t5 q j = t1 q j := by
                    intro q j h
                    rw [e5, e4, e3, e2]
                    by_cases cj : j = ((n * i + k : Nat) : Int)
                    · obtain ⟨q1, q2, q3, q4⟩ : q ≠ 102 ∧ q ≠ 103 ∧ q ≠ 105 ∧ q ≠ 106 := by rcases h with h | h; exact h; exact absurd cj h
                      rw [ms_u_f _ _ _ q2, ms_u_f _ _ _ q1, ms_u_f _ _ _ q4, ms_u_f _ _ _ q3]
                    · unfold ms_u
                      rw [if_neg (fun h => cj h.2), if_neg (fun h => cj h.2), if_neg (fun h => cj h.2), if_neg (fun h => cj h.2)]
                  refine ihq (k + 1) t5 (by omega) (fun q j h1 h2 h3 h4 => (all q j (Or.inl ⟨h1, h2, h3, h4⟩)).trans (f1 q j h1 h2 h3 h4)) (fun q j hj => (all q j (Or.inr (by omega))).trans (f0 q j hj)) (fun k' hk' => ?_) (fun k' hk' => ?_)
                  · by_cases ck : k' = k
                    · subst ck
                      refine ⟨?_, ?_⟩
                      · rw [e5, ms_u_f _ _ _ (by omega), e4, ms_u_f _ _ _ (by omega), e3, ms_u_f _ _ _ (by omega), e2, ms_u_eq]
                      · rw [e5, ms_u_f _ _ _ (by omega), e4, ms_u_f _ _ _ (by omega), e3, ms_u_eq]
                    · rw [all _ _ (Or.inr (by omega)), all _ _ (Or.inr (by omega))]
                      exact v1 k' (by omega)
                  · by_cases ck : k' = k
                    · subst ck
                      refine ⟨?_, ?_⟩
                      · rw [e5, ms_u_f _ _ _ (by omega), e4, ms_u_eq]
                      · rw [e5, ms_u_eq]
                    · rw [all _ _ (Or.inr (by omega)), all _ _ (Or.inr (by omega))]
                      exact v2 k' (by omega)
                rw [h86, h85]
                refine ⟨fun _ => ⟨by omega, by omega, b11⟩, fun c => ?_⟩
                cases hv : Aw[i].getD k none with
                | none => rw [hv] at b11; exact b11
                | some y => rw [hv] at c; exact absurd rfl c
              refine w151_7 ⟨fun c => absurd c (by omega), fun _ => ?_⟩
              rw [x1, x3]
              have g86 : t1 86 (a + k) = x_nl ((o_srt r_cmp L)[i].getD k none) := by rw [f1 _ _ (by omega) (by omega) (by omega) (by omega)]; exact c2
              have g85 : t1 85 (a + k) = rw_ov ((o_srt r_cmp L)[i].getD k none) := by rw [f1 _ _ (by omega) (by omega) (by omega) (by omega)]; exact c1
              rw [g86, g85]
              refine ⟨by omega, by omega, fun _ => ⟨by omega, by omega, b9⟩, fun c => ?_⟩
              cases hv : (o_srt r_cmp L)[i].getD k none with
              | none => rw [hv] at b9; exact b9
              | some y => rw [hv] at c; exact absurd rfl c
          exact in7 n 0 t (by omega) (fun _ _ _ _ _ _ => rfl) (fun _ _ _ => rfl) (fun k' hk' => absurd hk' (by omega)) (fun k' hk' => absurd hk' (by omega))
        refine w151_4 ⟨fun c => absurd c (by rw [ft _ _ (by omega) (by omega) (by omega) (by omega), v100]; omega), fun _ => ⟨by omega, by omega, k_rowAt hRt (i := ρ[i]) (by rw [er]) (by omega) ⟨by omega, by omega, fun c => k_rowAt hRt rfl (by omega) (cells _ ?_), fun c => cells _ ?_⟩⟩⟩
        · have hAwi : Aw[i] = L[i] := by
            have : Aw = L := by show m_an _ _ _ = _; unfold m_an; rw [if_neg (by rw [← e65]; exact c)]
            simp only [this]
          rw [hAwi]
          exact (hRt.row (List.getElem?_eq_getElem hil)).2
        · have hAwi : Aw[i] = (o_srt r_cmp L)[i] := by
            have : Aw = o_srt r_cmp L := by show m_an _ _ _ = _; unfold m_an; rw [if_pos (by rw [← e65]; exact Classical.not_not.mp c)]
            simp only [this]
          rw [hAwi]
          exact mS
    exact rows L.length 0 s9 _ _ _ (by omega) (fun _ _ _ _ _ _ => rfl) (fun i l hl => by simp at hl) (fun i l hl => by simp at hl)
  have copy : ∀ (p k : Nat) (s5 : ms_S), k + p = cnt → (∀ (q : Nat) (j : Int), q ≤ 99 → s5 q j = s3 q j) → (∀ (q : Nat) (j : Int), 99 < q → q ≠ 107 → q ≠ 108 → q ≠ 109 → s5 q j = s q j) → s5 107 0 = s 104 0 → (∀ k' : Nat, k' < k → s5 108 k' = s 105 k' ∧ s5 109 k' = am_i2b (s 106 k')) → mw (d + 1) 151 (am_blk 151 2) [159, told, r, n, k, 0, 0, 0] [] s5 Q := by
    intro p
    induction p with
    | zero =>
      intro k s5 hk lo5 hi5 h7 hold
      have ek : k = cnt := by omega
      subst ek
      have e1 : am_w (s5 104 0 * s5 101 0) = k := by rw [hi5 _ _ (by omega) (by omega) (by omega) (by omega), hi5 _ _ (by omega) (by omega) (by omega) (by omega)]; exact hc1
      exact w151_2 ⟨fun _ => tail s5 0 lo5 hi5 h7 hold, fun c => absurd (by omega) c⟩
    | succ p ih =>
      intro k s5 hk lo5 hi5 h7 hold
      have e1 : am_w (s5 104 0 * s5 101 0) = cnt := by rw [hi5 _ _ (by omega) (by omega) (by omega) (by omega), hi5 _ _ (by omega) (by omega) (by omega) (by omega)]; exact hc1
      refine w151_2 ⟨fun c => absurd c (by omega), fun _ => ⟨by omega, by omega, by omega, by omega, fun s6 e6 => ⟨by omega, by omega, by omega, by omega, fun s7 e7 => ?_⟩⟩⟩
      have x1 : am_w ((k : Int) + 1) = ((k + 1 : Nat) : Int) := by rw [am_w_in (by omega) (by omega)]; omega
      rw [x1]
      have g5 : s5 105 k = s 105 k := hi5 _ _ (by omega) (by omega) (by omega) (by omega)
      have g6 : s6 106 k = s 106 k := by rw [e6, ms_u_f _ _ _ (by omega)]; exact hi5 _ _ (by omega) (by omega) (by omega) (by omega)
      rw [g5] at e6
      rw [g6] at e7
      refine ih (k + 1) s7 (by omega) (fun q j h => by rw [e7, ms_u_f _ _ _ (by omega), e6, ms_u_f _ _ _ (by omega)]; exact lo5 q j h) (fun q j h h1 h2 h3 => by rw [e7, ms_u_f _ _ _ h3, e6, ms_u_f _ _ _ h2]; exact hi5 q j h h1 h2 h3) (by rw [e7, ms_u_f _ _ _ (by omega), e6, ms_u_f _ _ _ (by omega)]; exact h7) (fun k' hk' => ?_)
      by_cases c : k' = k
      · subst c
        exact ⟨by rw [e7, ms_u_f _ _ _ (by omega), e6, ms_u_eq], by rw [e7, ms_u_eq]⟩
      · rw [e7, ms_u_f _ _ _ (by omega), ms_u_i _ (by omega), e6, ms_u_i _ (by omega), ms_u_f _ _ _ (by omega)]
        exact hold k' (by omega)
  exact copy cnt 0 s4 (by omega) lo4 (fun q j h h1 h2 h3 => hi4 q j h h1) h107 (fun k' hk' => absurd hk' (by omega))
end
