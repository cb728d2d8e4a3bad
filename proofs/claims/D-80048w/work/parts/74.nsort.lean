set_option maxRecDepth 100000
/-! nodes: orders -/
/-- the order's array holds places -/
def OS (c : cs_S) (n : Int) (σ : List Nat) : Prop := (σ.length : Int) ≤ n_ol c n ∧ ∀ (j i : Nat), σ[j]? = some i → c_v c 926 (c_v c 426 n 0) j = i
section
variable {W : Nat → Int → Prop} {G : nG} {c c' c2 : cs_S} {E E' : Int → bw_L} {P P' : List Int} {o o' o2 : Int → Int} {a b n r x : Int} {l m k : rwt} {U L L' R R' F F' V K : List rwt} {Q : Int → cs_S → Prop} {d w D N Nl Nr : Nat} {τ τl τr : List Int} {t v z1 z2 s : Int} {es B : bw_L}
def n_cmp (G : nG) (n : Int) (a b : rwt) : Int := o_cmp (gT G) (gsl G) ((n_list (gX G) n).zip (n_down (gX G) n)) a b
theorem n_against0 (h : NI G c E P o) (hn : n ∈ gA G) (hD : 260 ≤ D) (hga : rg τ l) (hgb : rg τ m) (hra : rw_is c a l) (hrb : rw_is c b m) (h8 : (n_list (gX G) n).length ≤ 8) (hdl : (n_down (gX G) n).length = (n_list (gX G) n).length) (hw : ∀ e ∈ n_list (gX G) n, e < gN G ∧ ∃ t, x_wt (gT G) (gsl G) (gct G) τ 121 e t) (kk : ∀ c', c_sm (xw (gad G)) c c' → Q (n_cmp G n l m) c') : ∀ (p q : Nat) (c1 : cs_S) (y4 y6 y7 y9 y10 : Int), q + p = (n_list (gX G) n).length → c_sm (xw (gad G)) c c1 → n_cmp G n l m = o_cmp (gT G) (gsl G) (((n_list (gX G) n).zip (n_down (gX G) n)).drop q) l m → cw (D + 1) 281 (am_blk 281 1) [n, a, b, (q : Int), y4, 0, y6, y7, 0, y9, y10] [] c1 Q := by
  have hzl : ((n_list (gX G) n).zip (n_down (gX G) n)).length = (n_list (gX G) n).length := by rw [List.length_zip]; omega
  intro p
  induction p with
  | zero =>
    intro q c1 y4 y6 y7 y9 y10 hq s1 hcm
    have s1' : c_sm (scw G n) c c1 := s1.mono (fun q a hw => Or.inl hw)
    have I1 := (h.scr hn s1').1
    have hls : c_v c1 418 n 0 = ((n_list (gX G) n).length : Int) := (I1.nd hn).2.2.2.2.2.2.2.2.2.1.1
    rw [List.drop_of_length_le (by omega)] at hcm
    have hra1 := hra.x_w s1
    have hrb1 := hrb.x_w s1
    obtain ⟨d, rfl⟩ : ∃ d, D = d + 2 := ⟨D - 2, by omega⟩
    refine u281_1 ⟨I1.rn hn, fun _ => ⟨hra1.1.1, k_compareTo hra1 hrb1 (by rw [hga.1, hgb.1]; exact Nat.le_refl _) ?_⟩, fun z => ?_⟩
    · have := kk c1 s1
      rw [hcm] at this
      exact this
    · rw [hls] at z; omega
  | succ p ih =>
    intro q c1 y4 y6 y7 y9 y10 hq s1 hcm
    have s1' : c_sm (scw G n) c c1 := s1.mono (fun q a hw => Or.inl hw)
    have I1 := (h.scr hn s1').1
    obtain ⟨hls, hlc⟩ := (I1.nd hn).2.2.2.2.2.2.2.2.2.1
    have hkl : q < (n_list (gX G) n).length := by omega
    have hkd : q < (n_down (gX G) n).length := by omega
    have hget := List.getElem?_eq_getElem hkl
    have hmem := List.getElem_mem hkl
    have hdg := List.getElem?_eq_getElem hkd
    have hzd : ((n_list (gX G) n).zip (n_down (gX G) n)).drop q = ((n_list (gX G) n)[q], (n_down (gX G) n)[q]) :: ((n_list (gX G) n).zip (n_down (gX G) n)).drop (q + 1) := by
      rw [List.drop_eq_getElem_cons (by omega), List.getElem_zip]
    generalize hE : (n_list (gX G) n)[q] = e0 at *
    generalize hB : (n_down (gX G) n)[q] = b0 at *
    obtain ⟨heN, t, ht⟩ := hw e0 hmem
    obtain ⟨nl1, nl2, nl3⟩ := (I1.ns (I1.aS hn)).2.2.2.2.2.2.2.2.1
    have hK1 := I1.exk
    rw [hzd] at hcm
    simp only [o_cmp] at hcm
    refine u281_1 ⟨I1.rn hn, fun z => ?_, fun _ => ⟨I1.rn hn, I1.rn hn, ?_⟩⟩
    · rw [hls] at z; omega
    rw [nl1, I1.exad hn, hlc q e0 hget]
    refine ⟨nl2, by omega, by rw [nl3]; omega, hK1.1.1, k_of1 I1.t64 hga 121 e0 t D c1 _ ht heN (by omega) hK1 (hra.x_w s1) (fun c2 s2 n2 => ?_)⟩
    have s12 := s1.tr s2
    have I2 := (h.scr hn (s12.mono (fun q a hw => Or.inl hw))).1
    have hK2 := I2.exk
    rw [I2.exad hn]
    refine ⟨I2.rn hn, hK2.1.1, u126_e ⟨hK2.1.1, I2.rn hn, I2.rn hn, ?_⟩⟩
    obtain ⟨ml1, ml2, ml3⟩ := (I2.ns (I2.aS hn)).2.2.2.2.2.2.2.2.1
    obtain ⟨-, hlc2⟩ := (I2.nd hn).2.2.2.2.2.2.2.2.2.1
    rw [ml1, I2.exad hn, hlc2 q e0 hget, n2]
    refine ⟨ml2, by omega, by rw [ml3]; omega, hK2.1.1, k_of1 I2.t64 hgb 121 e0 t D c2 _ ht heN (by omega) hK2 (hrb.x_w s12) (fun c3 s3 n3 => ?_)⟩
    have s13 := s12.tr s3
    have I3 := (h.scr hn (s13.mono (fun q a hw => Or.inl hw))).1
    have hK3 := I3.exk
    rw [I3.exad hn]
    refine ⟨I3.rn hn, hK3.1.1, u126_e ⟨hK3.1.1, ?_⟩⟩
    rw [n3]
    obtain ⟨dl1, dl2, dl3⟩ := (I3.ns (I3.aS hn)).2.2.2.2.2.2.2.2.2.2.1
    have hdc := (I3.nd hn).2.2.2.2.2.2.2.2.2.2.2.1 q b0 hdg
    generalize hva : ev (gT G) (x_env (gsl G) l) 121 e0 = va at *
    generalize hvb : ev (gT G) (x_env (gsl G) m) 121 e0 = vb at *
    have b6 : ∀ (y4 y6 y7 y9 y10 : Int), cw (D + 1) 281 (am_blk 281 6) [n, a, b, (q : Int), y4, 0, y6, y7, 0, y9, y10] [r_oc va vb] c3 Q := by
      intro y4 y6 y7 y9 y10
      refine u281_6 ⟨fun z => ?_, fun z => ⟨I3.rn hn, ?_⟩⟩
      · rw [am_w1 (by omega)]
        rw [if_neg (fun u => u z)] at hcm
        exact ih (q + 1) c3 _ _ _ _ _ (by omega) s13 hcm
      · rw [dl1, hdc]
        rw [if_pos z] at hcm
        have hr := r_oc_r va vb
        refine ⟨dl2, by omega, by rw [dl3]; omega, fun u => u281_8 ?_, fun u => u281_8 ?_⟩
        · have : b0 = false := by cases b0 <;> simp at u ⊢
          have k2 := kk c3 s13
          rw [hcm, this, if_neg (by decide)] at k2
          exact k2
        · have : b0 = true := by cases b0 <;> simp at u ⊢
          have k2 := kk c3 s13
          rw [hcm, this, if_pos rfl] at k2
          rw [am_w_in (by omega) (by omega)]
          exact k2
    cases va with
    | none =>
      refine ⟨fun _ => u281_2 ⟨fun z => absurd z (by decide), fun _ => ⟨fun z => ?_, fun z => ?_⟩⟩, fun z => absurd (by decide) z⟩
      · cases vb with
        | none => exact absurd z (by decide)
        | some y => exact b6 _ _ _ _ _
      · cases vb with
        | none => exact b6 _ _ _ _ _
        | some y => exact absurd rfl z
    | some x =>
      refine ⟨fun z => absurd rfl z, fun _ => ⟨fun z => ?_, fun z => u281_2 ⟨fun _ => ?_, fun z2 => absurd rfl z2⟩⟩⟩
      · cases vb with
        | none => exact absurd z (by decide)
        | some y => exact k_lcmp (b6 _ _ _ _ _)
      · cases vb with
        | none => exact b6 _ _ _ _ _
        | some y => exact absurd rfl z
theorem n_against (h : NI G c E P o) (hn : n ∈ gA G) (hD : 260 ≤ D) (hga : rg τ l) (hgb : rg τ m) (hra : rw_is c a l) (hrb : rw_is c b m) (h8 : (n_list (gX G) n).length ≤ 8) (hdl : (n_down (gX G) n).length = (n_list (gX G) n).length) (hw : ∀ e ∈ n_list (gX G) n, e < gN G ∧ ∃ t, x_wt (gT G) (gsl G) (gct G) τ 121 e t) (kk : ∀ c', c_sm (xw (gad G)) c c' → Q (n_cmp G n l m) c') : knode_against (D + 1) n a b c Q :=
  u281_e (n_against0 h hn hD hga hgb hra hrb h8 hdl hw kk (n_list (gX G) n).length 0 c 0 0 0 0 0 (by omega) (c_sm.rf _ c) (by rw [List.drop_zero]; rfl))
/-- the order's array is written -/
def osw (n : Int) (A : Int) (q : Nat) (a : Int) : Prop := q = 926 ∧ a = A
theorem NI.os {A : Int} (h : NI G c E P o) (s : c_sm (osw n A) c c') : NI G c' E P o ∧ nx c o c' o := by
  refine ⟨h.sm s (fun q a hw => ?_), s.nx (fun q a hw => ?_)⟩
  · unfold osw at hw
    exact ⟨by unfold bw_k; omega, by unfold nq2 nq ex_q; omega⟩
  · unfold osw at hw; unfold nw; omega
/-- sorted places -/
def o_ps (cmp : rwt → rwt → Int) (B : bw_L) (σ : List Nat) : Prop := σ.Pairwise (fun i j => ∀ x y, B[i]? = some x → B[j]? = some y → cmp x.2.1 y.2.1 ≤ 0)
theorem n_sort3 (hn : n ∈ gA G) (hb : b ∈ gb G) (hD : 270 ≤ D) (hty : ∀ e ∈ E b, rg τ e.2.1) (h8 : (n_list (gX G) n).length ≤ 8) (hdl : (n_down (gX G) n).length = (n_list (gX G) n).length) (hw : ∀ e ∈ n_list (gX G) n, e < gN G ∧ ∃ t, x_wt (gT G) (gsl G) (gct G) τ 121 e t) {σ : List Nat} {kx : Nat} {e0 : Int × rwt × Int} (hk : (E b)[kx]? = some e0) (hσl : σ.length = kx) (hσ : ∀ i ∈ σ, i < kx) (hk5 : kx < 512) {A : Int} {c : cs_S} (hc : NI G c E P o) (hA : c_v c 426 n 0 = A) (hol : (kx : Int) < n_ol c n)
    (kk : ∀ c' (at_ : Nat), NI G c' E P o → nx c o c' o → c_v c' 426 n 0 = A → n_ol c' n = n_ol c n → at_ ≤ kx → (∀ j i : Nat, j < at_ → σ[j]? = some i → c_v c' 926 A j = i) → (∀ j i : Nat, at_ ≤ j → σ[j]? = some i → c_v c' 926 A ((j + 1 : Nat) : Int) = i) → (∀ j i e, at_ ≤ j → σ[j]? = some i → (E b)[i]? = some e → 0 < n_cmp G n e.2.1 e0.2.1) → (∀ i e, 0 < at_ → σ[at_ - 1]? = some i → (E b)[i]? = some e → n_cmp G n e.2.1 e0.2.1 ≤ 0) → cw (D + 1) 280 (am_blk 280 4) [n, b, (kx : Int), (at_ : Int)] [] c' Q) : ∀ (at_ : Nat) (c1 : cs_S), at_ ≤ kx → NI G c1 E P o → nx c o c1 o → c_v c1 426 n 0 = A → n_ol c1 n = n_ol c n → (∀ j i : Nat, j < at_ → σ[j]? = some i → c_v c1 926 A j = i) → (∀ j i : Nat, at_ ≤ j → σ[j]? = some i → c_v c1 926 A ((j + 1 : Nat) : Int) = i) → (∀ j i e, at_ ≤ j → σ[j]? = some i → (E b)[i]? = some e → 0 < n_cmp G n e.2.1 e0.2.1) → cw (D + 1) 280 (am_blk 280 3) [n, b, (kx : Int), (at_ : Int)] [] c1 Q := by
  intro at_
  induction at_ with
  | zero =>
    intro c1 ha I1 x1 eA eo h1 h2 h3
    exact u280_3 ⟨fun _ => kk c1 0 I1 x1 eA eo (by omega) h1 h2 h3 (fun i e h => absurd h (by omega)), fun z => absurd (by omega) z⟩
  | succ at_ ih =>
    intro c1 ha I1 x1 eA eo h1 h2 h3
    have hlt : at_ < σ.length := by omega
    have hsg := List.getElem?_eq_getElem hlt
    generalize hi0 : σ[at_] = i0 at *
    have hi0l := hσ i0 (List.mem_of_getElem? hsg)
    have hkb := (List.getElem?_eq_some_iff.mp hk).1
    have hib : i0 < (E b).length := by omega
    have hig := List.getElem?_eq_getElem hib
    generalize hei : (E b)[i0] = ei at *
    have v1 := h1 at_ i0 (by omega) hsg
    have w1 : am_w (((at_ + 1 : Nat) : Int) - 1) = (at_ : Int) := by rw [am_w_in (by omega) (by omega)]; omega
    have w2 : am_w (((at_ + 1 : Nat) : Int) + (-1)) = (at_ : Int) := by rw [am_w_in (by omega) (by omega)]; omega
    obtain ⟨os1, os2, os3⟩ := (I1.ns (I1.aS hn)).2.2.2.2.2.2.2.2.2.2.2.1
    have eol : n_ol c1 n = c_l c1 A := by unfold n_ol; rw [eA]
    rw [eA] at os1 os2 os3
    have hmi : ei ∈ E b := List.mem_of_getElem? hig
    have hme : e0 ∈ E b := List.mem_of_getElem? hk
    obtain ⟨d, rfl⟩ : ∃ d, D = d + 1 := ⟨D - 1, by omega⟩
    refine u280_3 ⟨fun z => absurd z (by omega), fun _ => ⟨I1.rn hn, ?_⟩⟩
    rw [eA, w1, v1]
    refine ⟨os1, by omega, by omega, I1.rb hb, k_brow (I1.bag hb) hig ⟨I1.rb hb, k_brow (I1.bag hb) hk ⟨I1.rn hn, n_against (τ := τ) I1 hn (by omega) (hty ei hmi) (hty e0 hme) (I1.own hb hmi hn).2.2.2 (I1.own hb hme hn).2.2.2 h8 hdl hw (fun c2 s2 => ?_)⟩⟩⟩
    have s2' : c_sm (scw G n) c1 c2 := s2.mono (fun q a hw => Or.inl hw)
    obtain ⟨I2, x2⟩ := I1.scr hn s2'
    have eA2 : c_v c2 426 n 0 = A := by rw [s2.v (by unfold xw; omega)]; exact eA
    have vv : ∀ j, c_v c2 926 A j = c_v c1 926 A j := fun j => s2.v (by unfold xw; omega) j
    refine ⟨fun z => ?_, fun z => ⟨I2.rn hn, I2.rn hn, ?_⟩⟩
    · refine kk c2 (at_ + 1) I2 (x1.tr x2) eA2 (by unfold n_ol at *; rw [eA2, s2.l]; rw [eA] at eo; exact eo) ha (fun j i hj hs => by rw [vv]; exact h1 j i hj hs) (fun j i hj hs => by rw [vv]; exact h2 j i hj hs) h3 (fun i e _ hs he => ?_)
      have : at_ + 1 - 1 = at_ := by omega
      rw [this, hsg] at hs
      cases hs
      rw [hig] at he
      cases he
      exact z
    · rw [eA2, w2, vv, v1, s2.r, s2.l]
      refine ⟨os1, by omega, by omega, os1, by omega, by omega, fun c3 e3 => ?_⟩
      have s3 : c_sm (osw n A) c2 c3 := by subst e3; exact c_sm.u c2 ⟨rfl, rfl⟩ _ _
      obtain ⟨I3, x3⟩ := I2.os s3
      have eA3 : c_v c3 426 n 0 = A := by rw [s3.v (by unfold osw; omega)]; exact eA2
      have v3 : ∀ j, j ≠ ((at_ + 1 : Nat) : Int) → c_v c3 926 A j = c_v c1 926 A j := by
        intro j hj; subst e3; rw [c_u_j hj, vv]
      refine ih c3 (by omega) I3 ((x1.tr x2).tr x3) eA3 (by unfold n_ol at *; rw [eA3, s3.l, s2.l]; rw [eA] at eo; exact eo) (fun j i hj hs => ?_) (fun j i hj hs => ?_) (fun j i e hj hs he => ?_)
      · rw [v3 _ (by omega)]; exact h1 j i (by omega) hs
      · by_cases ej : j = at_
        · subst ej
          rw [hsg] at hs
          cases hs
          subst e3
          rw [c_u_eq]
        · rw [v3 _ (by omega)]; exact h2 j i (by omega) hs
      · by_cases ej : j = at_
        · subst ej
          rw [hsg] at hs
          cases hs
          rw [hig] at he
          cases he
          omega
        · exact h3 j i e (by omega) hs he
end
