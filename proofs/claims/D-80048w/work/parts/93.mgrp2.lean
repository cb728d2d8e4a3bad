set_option maxRecDepth 100000
/-! the model: groups -/
def hv_is (T : xt) (sl : Nat → Int) (hv : Option Nat) (l : rwt) : Bool := match hv with
  | none => true
  | some h => x_tr T sl h l
def hv_n (hv : Option Nat) : Int := match hv with
  | none => -1
  | some h => (h : Int)
section
variable {s s1 s2 s3 : ms_S} {T : xt} {sl ct : Nat → Int} {τ τg : List Int} {NE d w w' nk : Nat} {Q : Int → ms_S → Prop} {l m : rwt} {K L M : List rwt} {r a : Int} {aggs es is : List Nat}
theorem mMb.grp {kf : rwt → rwt} {nk g : Nat} {k : rwt} (hk : ∀ x ∈ L, (kf x).length = nk) (h : mMb s L.length L (dd (L.map kf)) kf) (hg : (g_keys kf nk L)[g]? = some k) : ∀ (i : Nat) (l : rwt), L[i]? = some l → (s 98 i = (g : Int) ↔ decide (kf l = k) = true) := by
  intro i l hl
  obtain ⟨g', h1, h2⟩ := h i l (List.getElem?_eq_some_iff.mp hl).1 hl
  have hlt := (List.getElem?_eq_some_iff.mp h2).1
  have hmem : ∀ x ∈ dd (L.map kf), x.length = nk := by
    intro x hx
    rw [dd_mem] at hx
    obtain ⟨y, hy, rfl⟩ := List.mem_map.mp hx
    exact hk y hy
  rw [h1, decide_eq_true_iff]
  unfold g_keys at hg
  by_cases c : nk = 0
  · rw [if_pos c] at hg
    have hg0 : g = 0 ∧ k = [] := by
      cases g with
      | zero => simp at hg; exact ⟨rfl, hg⟩
      | succ g => simp at hg
    obtain ⟨rfl, rfl⟩ := hg0
    have hkl : kf l = [] := List.length_eq_zero_iff.mp (by rw [hk l (List.mem_of_getElem? hl), c])
    constructor
    · intro _; exact hkl
    · intro _
      have h0 : 0 < (dd (L.map kf)).length := by omega
      have e0 : (dd (L.map kf))[0] = [] := List.length_eq_zero_iff.mp (by rw [hmem _ (List.getElem_mem h0), c])
      have := (List.getElem?_inj (i := 0) (j := g') h0 dd_nd).mp (by rw [h2, List.getElem?_eq_getElem h0, e0, hkl])
      omega
  · rw [if_neg c] at hg
    constructor
    · intro e
      have : g' = g := by omega
      rw [this, hg] at h2
      cases h2; rfl
    · intro e
      rw [e, ← hg] at h2
      have := (List.getElem?_inj hlt dd_nd).mp h2
      omega
theorem k_grouped {q : Nat} {hv : Option Nat} (hT : mt s T sl NE) (hg : s 97 0 = 0) (hR : mR s r w L) (hL : ∀ l ∈ L, rg τ l) (ht : t_ok τ) (hL6 : L.length ≤ 600) (hq : q < 60) (h39 : s 39 q = es.length) (h8 : es.length ≤ 8) (hes : mItems s 47 (8 * q) es) (he : ∀ e ∈ es, e < NE ∧ ∃ t, x_wt T sl (cz ct (p0 T)) τ 121 e t) (h40 : s 40 q = -1 ↔ es.length = 0)
    (h36 : s 36 q = is.length) (i8 : is.length ≤ 8) (his : mItems s 44 (8 * q) is) (hi : ∀ e ∈ is, e < NE ∧ ∃ t, x_wt T sl (cz ct (pg T sl es.length aggs)) τg 121 e t) (h41 : s 41 q = hv_n hv) (hhv : ∀ h, hv = some h → h < NE ∧ ∃ t, x_wt T sl (cz ct (pg T sl es.length aggs)) τg 121 h t ∧ t ≠ 1) (hag : ∀ e ∈ aggs, e < NE ∧ x_wag T sl (cz ct (p0 T)) τ e) (htg : t_ok τg) (hrg : ∀ x ∈ g_rows (x_vals T sl es) es.length (g_af T sl aggs) L, rg τg x)
    (h91 : s 91 0 + 1 < 400) (hU : s 87 0 + (((L.length + 1) * es.length + (L.length + 1) * is.length : Nat) : Int) ≤ 400000) (hd : 510 ≤ d) (kk : ∀ r' s', mQ s s' r' is.length (((g_rows (x_vals T sl es) es.length (g_af T sl aggs) L).filter (hv_is T sl hv)).map (x_vals T sl is)) ((L.length + 1) * es.length + (L.length + 1) * is.length) 2 → Q r' s') : md_grouped (d + 1) q r s Q := by
  have hr := hR.1
  refine k_grpA hT hg hR hL ht hL6 hq h39 h8 hes he (by omega) (by omega) (by omega) (fun t x5 x6 x7 x8 x9 hI hMb h5 => ?_)
  generalize hkf : x_vals T sl es = kf at *
  have kfl : ∀ x, (kf x).length = es.length := fun x => by rw [← hkf]; simp [x_vals]
  have hdl : (dd (L.map kf)).length ≤ L.length := Nat.le_trans dd_len (by rw [List.length_map]; exact Nat.le_refl _)
  have hKR := hI.1.1
  have hti := hI.len
  have ht91 := hI.1.2.2
  have hmul := mul_le_of (w := es.length) (show (dd (L.map kf)).length ≤ L.length + 1 by omega)
  obtain ⟨hRt, -⟩ := hI.old hR
  have hTt := hT.F hI.2.1
  have f36 : t 36 q = is.length := by rw [hI.2.1 _ _ (by omega)]; exact h36
  generalize hGK : g_keys kf es.length L = GK at *
  have hmany : x5 = (GK.length : Int) := by
    rw [h5, ← hGK]
    unfold g_keys
    by_cases c : es.length = 0
    · rw [if_pos (h40.mpr c), if_pos c]; rfl
    · rw [if_neg (fun u => c (h40.mp u)), if_neg c]
  have hGKl : GK.length ≤ L.length + 1 := by
    rw [← hGK]; unfold g_keys
    split
    · simp
    · omega
  -- the key of a group
  have keyat : ∀ (g : Nat) (s2 : ms_S) (hgl : g < GK.length), mR s2 (s 91 0) es.length (dd (L.map kf)) → rm s2 (s2 88 (s 91 0) + ((g * es.length : Nat) : Int)) GK[g] ∧ GK[g].length = es.length ∧ g ≤ (dd (L.map kf)).length := by
    intro g s2 hgl h2
    have hg2 : GK[g]? = some GK[g] := List.getElem?_eq_getElem hgl
    generalize GK[g] = k at *
    rw [← hGK] at hg2
    unfold g_keys at hg2
    by_cases c : es.length = 0
    · rw [if_pos c] at hg2
      have : g = 0 ∧ k = [] := by
        cases g with
        | zero => simp at hg2; exact ⟨rfl, hg2⟩
        | succ g => simp at hg2
      obtain ⟨rfl, rfl⟩ := this
      have := h2.1
      exact ⟨rm_nil (by omega) (by omega), c.symm, by omega⟩
    · rw [if_neg c] at hg2
      obtain ⟨h3, h4⟩ := h2.row hg2
      exact ⟨h4, h3, Nat.le_of_lt (List.getElem?_eq_some_iff.mp hg2).1⟩
  let row : rwt → rwt := fun k => k ++ g_af T sl aggs (g_of kf L k)
  let O : Nat → List rwt := fun g => (((GK.take g).map row).filter (hv_is T sl hv)).map (x_vals T sl is)
  have Ol : ∀ g, (O g).length ≤ g := fun g => by
    show ((((GK.take g).map row).filter (hv_is T sl hv)).map (x_vals T sl is)).length ≤ g
    rw [List.length_map]
    refine Nat.le_trans (List.length_filter_le _ _) ?_
    rw [List.length_map, List.length_take]; omega
  have loop : ∀ (n g : Nat) (s1 : ms_S) (x8 x9 : Int), g + n = GK.length → mI t s1 is.length (O g) → (∀ j, s1 98 j = t 98 j) → mw (d + 1) 173 (am_blk 173 10) [159, q, r, es.length, s 91 0, (GK.length : Int), t 91 0, g, x8, x9] [] s1 Q := by
    intro n
    induction n with
    | zero =>
      intro g s1 x8 x9 hgn hI1 h98
      have eg : g = GK.length := by omega
      refine w173_10 ⟨fun _ => kk _ s1 ?_, fun w => absurd (by omega) w⟩
      have e2 : O g = ((g_rows kf es.length (g_af T sl aggs) L).filter (hv_is T sl hv)).map (x_vals T sl is) := by
        show (((GK.take g).map row).filter (hv_is T sl hv)).map (x_vals T sl is) = _
        rw [eg, List.take_length]
        unfold g_rows
        rw [hGK]
      rw [← e2]
      have hm2 := mul_le_of (w := is.length) (show (O g).length ≤ L.length + 1 by have := Ol g; omega)
      have hl1 := hI1.len
      have h91 := hI1.1.2.2
      exact ⟨hI1.1.1, hI.2.1.tr (hI1.2.1.le (by omega) (by omega)), hI1.2.2.1, by omega, by omega, by omega, by omega⟩
    | succ n ih =>
      intro g s1 x8 x9 hgn hI1 h98
      have hgl : g < GK.length := by omega
      have hOl := Ol g
      have hm2 := mul_le_of (w := is.length) (show (O g).length + 1 ≤ L.length + 1 by omega)
      obtain ⟨hK1, -⟩ := hI1.old hKR
      obtain ⟨hkm, hkl, hgd⟩ := keyat g s1 hgl hK1
      have hgk : (g_keys kf es.length L)[g]? = some GK[g] := by rw [hGK]; exact List.getElem?_eq_getElem hgl
      have hin : row GK[g] ∈ g_rows kf es.length (g_af T sl aggs) L := by
        unfold g_rows
        rw [hGK]
        exact List.mem_map.mpr ⟨GK[g], List.getElem_mem hgl, rfl⟩
      have hrow := hrg _ hin
      have hOs : O (g + 1) = O g ++ (if hv_is T sl hv (row GK[g]) = true then [x_vals T sl is (row GK[g])] else []) := by
        show (((GK.take (g + 1)).map row).filter (hv_is T sl hv)).map (x_vals T sl is) = _
        rw [take_s hgl, List.map_append, List.filter_append, List.map_append]
        congr 1
        show ([row GK[g]].filter (hv_is T sl hv)).map (x_vals T sl is) = _
        rw [filter_1]
        split <;> rfl
      refine w173_10 ⟨fun w => absurd w (by omega), fun _ s2 e2 s3 e3 => ?_⟩
      have k3 : m_k s1 s3 := by rw [e3, e2]; exact (m_k.u s1 0 _ (by omega) (by omega)).tr (m_k.u _ 0 _ (by omega) (by omega))
      have hK3 := hK1.k k3
      refine k_rowAt hK3 rfl hgd (fun s4 e4 s5 e5 => ?_)
      have k5 : m_k s3 s5 := by rw [e5, e4]; exact (m_k.u s3 0 _ (by omega) (by omega)).tr (m_k.u _ 0 _ (by omega) (by omega))
      have k15 := k3.tr k5
      obtain ⟨hR1, -⟩ := hI1.old hRt
      have h97 : s5 97 0 = 1 := by rw [e5, ms_u_eq]
      have h94 : s5 94 0 = s1 88 (s 91 0) + ((g * es.length : Nat) : Int) := by rw [e5, ms_u_f _ _ _ (by omega), e4, ms_u_eq, k3 _ _ (by omega)]
      have h96 : s5 96 0 = g := by rw [e5, ms_u_f _ _ _ (by omega), e4, ms_u_f _ _ _ (by omega), e3, ms_u_eq]
      have h95 : s5 95 0 = r := by rw [e5, ms_u_f _ _ _ (by omega), e4, ms_u_f _ _ _ (by omega), e3, ms_u_f _ _ _ (by omega), e2, ms_u_eq]
      have h985 : ∀ j, s5 98 j = t 98 j := fun j => by rw [e5, ms_u_f _ _ _ (by omega), e4, ms_u_f _ _ _ (by omega), e3, ms_u_f _ _ _ (by omega), e2, ms_u_f _ _ _ (by omega)]; exact h98 j
      have hGr : ∀ s6, mR s6 r w L → m_c 0 s5 s6 ∨ (∀ (q : Nat) (j : Int), q ≠ 87 → q ≠ 89 → q ≠ 85 → q ≠ 86 → q ≠ 92 → s6 q j = s5 q j) → rm s6 (s1 88 (s 91 0) + ((g * es.length : Nat) : Int)) GK[g] → mGr s6 r w L (fun x => decide (kf x = GK[g])) GK[g] := by
        intro s6 h6 hc hm
        have fr : ∀ (q : Nat) (j : Int), q ≠ 87 → q ≠ 89 → q ≠ 85 → q ≠ 86 → q ≠ 92 → s6 q j = s5 q j := by
          rcases hc with hc | hc
          · exact fun q j _ _ h85 h86 _ => hc q j (Or.inl ⟨h85, h86⟩)
          · exact hc
        refine ⟨by rw [fr _ _ (by omega) (by omega) (by omega) (by omega) (by omega)]; exact h97, h6, by rw [fr _ _ (by omega) (by omega) (by omega) (by omega) (by omega)]; exact h95, by rw [fr 94 _ (by omega) (by omega) (by omega) (by omega) (by omega), h94]; exact hm, fun i l hl => ?_⟩
        rw [fr 98 _ (by omega) (by omega) (by omega) (by omega) (by omega), fr 96 _ (by omega) (by omega) (by omega) (by omega) (by omega), h96, h985]
        exact hMb.grp (fun x _ => kfl x) hgk i l hl
      have hGr5 := hGr s5 (hR1.k k15) (Or.inl (m_c.rf 0 s5)) (hkm.k k15)
      have hI5 : mI0 t s5 is.length (O g) := hI1.o0.k k15
      have hT5 := hTt.F hI5.2.1
      have b13 : ∀ (s6 : ms_S) (x8 x9 : Int), mI0 t s6 is.length (O (g + 1)) → (∀ j, s6 98 j = t 98 j) → mw (d + 1) 173 (am_blk 173 13) [159, q, r, es.length, s 91 0, (GK.length : Int), t 91 0, g, x8, x9] [] s6 Q := by
        intro s6 x8 x9 hI6 h986
        refine w173_13 (fun s7 e7 => ?_)
        rw [am_w_s (by omega)]
        refine ih (g + 1) s7 _ _ (by omega) ((hI6.k (by rw [e7]; exact m_k.u s6 0 _ (by omega) (by omega))).up (by rw [e7, ms_u_eq])) (fun j => by rw [e7, ms_u_f _ _ _ (by omega)]; exact h986 j)
      have b11 : hv_is T sl hv (row GK[g]) = true → ∀ (s6 : ms_S) (x8 x9 : Int), m_n s5 s6 → mw (d + 1) 173 (am_blk 173 11) [159, q, r, es.length, s 91 0, (GK.length : Int), t 91 0, g, x8, x9] [] s6 Q := by
        intro hh s6 x8 x9 u6
        rw [if_pos hh] at hOs
        have hI6 := hI5.k u6.k
        refine w173_11 (hI6.new (by omega) (by omega) (fun s7 hJ hf => ?_))
        generalize ha : s6 87 0 = a at *
        have h65 : ∀ (q : Nat) (j : Int), q ≠ 87 → q ≠ 89 → q ≠ 92 → s7 q j = s5 q j := fun q j h1 h2 h3 => (hf q j h1 h2).trans (u6 q j h3)
        have in2 : ∀ (n j : Nat) (s8 : ms_S), j + n = is.length → mJ0 t s8 is.length (O g) a → rm s8 a (x_vals T sl (is.take j) (row GK[g])) → (∀ (q : Nat) (j : Int), q ≠ 87 → q ≠ 89 → q ≠ 85 → q ≠ 86 → q ≠ 92 → s8 q j = s5 q j) → mw (d + 1) 173 (am_blk 173 12) [159, q, r, es.length, s 91 0, (GK.length : Int), t 91 0, g, a, j] [] s8 Q := by
          intro n
          induction n with
          | zero =>
            intro j s8 hj hJ8 hm8 h85
            have e1 : j = is.length := by omega
            have e36 : s8 36 q = is.length := by rw [hJ8.2.1 _ _ (by omega)]; exact f36
            rw [e1, List.take_length] at hm8
            refine w173_12 ⟨by omega, by omega, fun _ => b13 s8 _ _ ?_ (fun j => by rw [h85 _ _ (by omega) (by omega) (by omega) (by omega) (by omega)]; exact h985 j), fun w => absurd (by omega) w⟩
            rw [hOs]
            exact hJ8.fill (by simp [x_vals]) hm8
          | succ n ihn =>
            intro j s8 hj hJ8 hm8 h85
            have hjl : j < is.length := by omega
            have hej := List.getElem?_eq_getElem hjl
            have e36 : s8 36 q = is.length := by rw [hJ8.2.1 _ _ (by omega)]; exact f36
            obtain ⟨heN, t', hwt⟩ := hi _ (List.getElem_mem hjl)
            have eit : s8 44 (8 * q + j) = is[j] := by rw [hJ8.2.1 _ _ (by omega), hI.2.1 _ _ (by omega)]; exact his j _ hej
            obtain ⟨hR8, -⟩ := hJ8.old hRt
            obtain ⟨hK8, hb8⟩ := hJ8.old hKR
            have hbt : t 88 (s 91 0) = s1 88 (s 91 0) := (hI1.2.1 _ _ (by omega)).symm
            have hk8 := (keyat g s8 hgl hK8).1
            rw [hb8, hbt] at hk8
            have hG8 := hGr s8 hR8 (Or.inr h85) hk8
            have hat := hJ8.at
            have x1 : am_w (8 * (q : Int)) = 8 * q := am_w_in (by omega) (by omega)
            have x2 : am_w (8 * (q : Int) + j) = 8 * q + j := am_w_in (by omega) (by omega)
            have x3 : am_w (a + j) = a + j := am_w_in (by omega) (by omega)
            refine w173_12 ⟨by omega, by omega, fun w => absurd w (by omega), fun _ => ?_⟩
            rw [x1, x2, x3]
            refine ⟨by omega, by omega, k_evg (hTt.F hJ8.2.1) hG8 hL ht hL6 hkl hag htg hrow heN eit hwt (by omega) (fun s9 u9 n9 => ⟨by omega, by omega, fun s10 e10 => ⟨by omega, by omega, fun s11 e11 => ?_⟩⟩)⟩
            have hJ9 := hJ8.k u9.k
            have n10 : s10 92 0 = x_nl (ev T (x_env sl (row GK[g])) 121 is[j]) := by rw [e10, ms_u_f _ _ _ (by omega)]; exact n9
            rw [n10, am_i2b_nl] at e11
            have f : m_c (a + j) s9 s11 := by rw [e11, e10]; exact (m_c.u _ _ (Or.inl rfl) (Int.le_refl _)).tr (m_c.u _ _ (Or.inr rfl) (Int.le_refl _))
            rw [am_w_s (by omega)]
            refine ihn (j + 1) s11 (by omega) (hJ9.c f (by omega)) ?_ (fun q' j' h1 h2 h3 h4 h5 => (f q' j' (Or.inl ⟨h3, h4⟩)).trans ((u9 q' j' h5).trans (h85 q' j' h1 h2 h3 h4 h5)))
            rw [x_vals_take hej]
            have hlen : (x_vals T sl (is.take j) (row GK[g])).length = j := by simp [x_vals]; omega
            refine rm_app ((hm8.k u9.k).c f (by rw [hlen]; exact Int.le_refl _)) ?_
            rw [hlen]
            refine rm_one (by omega) (by omega) ?_ ?_
            · rw [e11, ms_u_f _ _ _ (by omega), e10, ms_u_eq]; rfl
            · rw [e11, ms_u_eq]
        exact in2 is.length 0 s7 (by omega) hJ (by have := hJ.at; exact rm_nil (by omega) (by omega)) (fun q j h1 h2 _ _ h5 => h65 q j h1 h2 h5)
      have e41 : s5 41 q = hv_n hv := by rw [hI5.2.1 _ _ (by omega), hI.2.1 _ _ (by omega)]; exact h41
      refine ⟨by omega, by omega, fun w => ?_, fun w => ⟨by omega, by omega, ?_⟩⟩
      · cases hv with
        | none => exact b11 rfl s5 _ _ (m_n.rf s5)
        | some h => exact absurd (e41.symm.trans w) (by show ¬ ((h : Int) = -1); omega)
      · cases hv with
        | none => exact absurd e41 w
        | some h =>
          obtain ⟨hhN, t', hwt, ht1⟩ := hhv h rfl
          refine k_trg hT5 hGr5 hL ht hL6 hkl hag htg hrow hhN e41 hwt ht1 (by omega) (fun s6 v u6 hv6 => ⟨fun w2 => b13 s6 _ _ ?_ (fun j => by rw [u6 _ _ (by decide)]; exact h985 j), fun w2 => b11 ?_ s6 _ _ u6⟩)
          · have hf : ¬ hv_is T sl (some h) (row GK[g]) = true := fun c => w2 (hv6.mpr c)
            rw [if_neg hf, List.append_nil] at hOs
            rw [hOs]
            exact hI5.k u6.k
          · exact hv6.mp (Classical.not_not.mp w2)
  have hmul2 := mul_le_of (w := is.length) (show 0 ≤ L.length + 1 by omega)
  refine w173_9 ⟨by omega, by omega, mI_begin (by omega) (by omega) (by omega) (by omega) hI.2.2.1 (by omega) f36 (fun s1 hI1 hv1 => ?_)⟩
  rw [hmany]
  exact loop GK.length 0 s1 _ _ (by omega) (by simpa [O] using hI1) (fun j => hv1 _ _ (by omega))
end
