set_option maxRecDepth 100000
/-! nodes: groups -/
section
variable {W : Nat → Int → Prop} {G : nG} {c c' c2 : cs_S} {E E' : Int → bw_L} {P P' : List Int} {o o' o2 : Int → Int} {a b n r x : Int} {l m k : rwt} {U L L' R R' F F' V : List rwt} {Q : Int → cs_S → Prop} {d w D N Nl Nr : Nat} {τ τl τr : List Int} {t v z1 z2 s : Int} {es B : bw_L}
/-- a group's rows, out of the bag -/
theorem g_of_bag {kf : rwt → rwt} (hs : b_ok w (bw_p B)) (hi : b_is (bw_p B) L) : (b_xp (bw_p (B.filter (fun e => decide (kf e.2.1 = k))))).Perm (g_of kf L k) ∧ (B.filter (fun e => decide (kf e.2.1 = k)) = [] ↔ g_of kf L k = []) := by
  have e1 : bw_p (B.filter (fun e => decide (kf e.2.1 = k))) = (bw_p B).filter (fun e => decide (kf e.1 = k)) := by
    unfold bw_p; rw [List.filter_map]; rfl
  have hpos : ∀ e ∈ bw_p B, 0 < e.2 := fun e he => (hi.mem hs he).1
  have hp := b_xp_perm hpos hi
  refine ⟨?_, ?_⟩
  · rw [e1]
    have : b_xp ((bw_p B).filter (fun e => decide (kf e.1 = k))) = (b_xp (bw_p B)).filter (fun y => decide (kf y = k)) := b_xp_filter (p := fun y => decide (kf y = k))
    rw [this]
    exact hp.filter _
  · unfold g_of
    rw [List.filter_eq_nil_iff, List.filter_eq_nil_iff]
    constructor
    · intro q y hy
      obtain ⟨m, hm, -⟩ := hi.has hs hy
      obtain ⟨e, he, ee⟩ := List.mem_map.mp hm
      have := q e he
      have e2 : e.2.1 = y := by rw [ee]
      rw [e2] at this
      exact this
    · intro q e he
      exact q _ (hi.mem hs (bp_mem he)).2
theorem n_one (h : NI G c E P o) (hn : n ∈ gA G) (hl : n_left (gX G) n ∈ gA G) (hln : n_left (gX G) n + 21 ≤ n) (hD : 280 ≤ D) {fi : Nat} {eg : Int × rwt × Int} (hk : eg.2.1 = k) (hfi : (E (n + 18))[fi]? = some eg) (hf : KF c n ((bw_p (E (n_left (gX G) n + 9))).map (fun e => x_vals (gT G) (gsl G) (n_list (gX G) n) e.1))) (hkn : k.length = (n_list (gX G) n).length) (h8 : (n_list (gX G) n).length ≤ 8) (hag : ∀ e ∈ n_aggs (gX G) n, e < gN G ∧ x_wag (gT G) (gsl G) (gct G) τ e) (h12 : (n_aggs (gX G) n).length ≤ 12) (hwk : (n_list (gX G) n).length + (n_aggs (gX G) n).length = w)
    (hsl : b_ok τ.length (bw_p (E (n_left (gX G) n + 9)))) (hil : b_is (bw_p (E (n_left (gX G) n + 9))) L') (hrg : ∀ y ∈ L', rg τ y) (hL512 : L'.length ≤ 512) (hs : b_ok w (bw_p (E (n + 12)))) (hout : ∀ e ∈ E (n + 9), e.2.1.length = w ∧ e.2.2 = 1 ∧ e.2.1 ∈ U) (hU : ∀ e ∈ E (n + 12), e.2.1 ∈ U) (hnew : k ∈ g_keys (x_vals (gT G) (gsl G) (n_list (gX G) n)) (n_list (gX G) n).length L' → k ++ g_af (gT G) (gsl G) (n_aggs (gX G) n) (g_of (x_vals (gT G) (gsl G) (n_list (gX G) n)) L' k) ∈ U) (hcap : (U.length : Int) ≤ gcp G (n + 12)) (hm : b_m (bw_p (E (n + 12))) + ((E (n + 9)).length : Int) + 1 < 2147483648) (hk0 : (n_list (gX G) n).length = 0 → k = [])
    (kk : ∀ c' E' P' o', NI G c' E' P' o' → nx c o c' o' → KF c' n ((bw_p (E (n_left (gX G) n + 9))).map (fun e => x_vals (gT G) (gsl G) (n_list (gX G) n) e.1)) → (∀ a, a ≠ n + 12 → E' a = E a) → b_ok w (bw_p (E' (n + 12))) → (∀ g, b_s g (bw_p (E' (n + 12))) = b_s g (bw_p (E (n + 12))) - b_s (fun y => if y.take k.length = k then g y else 0) (bw_p (E (n + 9))) + (if k ∈ g_keys (x_vals (gT G) (gsl G) (n_list (gX G) n)) (n_list (gX G) n).length L' then g (k ++ g_af (gT G) (gsl G) (n_aggs (gX G) n) (g_of (x_vals (gT G) (gsl G) (n_list (gX G) n)) L' k)) else 0)) → b_m (bw_p (E' (n + 12))) ≤ b_m (bw_p (E (n + 12))) + ((E (n + 9)).length : Int) + 1 → (∀ e ∈ E' (n + 12), e.2.1 ∈ U) → Q 0 c') : knode_one (D + 1) n eg.1 c Q := by
  have hlen := hil.len hsl
  rw [List.length_map] at hlen
  have hom := hil.m hsl
  have hrow : ∀ e ∈ E (n_left (gX G) n + 9), rg τ e.2.1 ∧ 0 < e.2.2 ∧ e.2.2 ≤ 1000000 := by
    intro e he
    have h1 := hil.mem hsl (bp_mem he)
    have h2 := b_m_mem (bp_mem he)
    exact ⟨hrg _ h1.2, h1.1, by omega⟩
  have kfl : ∀ y, (x_vals (gT G) (gsl G) (n_list (gX G) n) y).length = (n_list (gX G) n).length := fun y => by unfold x_vals; rw [List.length_map]
  refine u275_e (n_oneA (k := k) (w := w) (U := U) hn (by omega) hcap hk (E (n + 9)).length 0 c E P o (by omega) hfi h hf hs (fun e he => ⟨(hout e he).1, by omega, (hout e he).2.1, (hout e he).2.2⟩) hU (by omega) (fun c1 E1 P1 o1 I1 x1 f1 t1 ea1 hs1 hb1 hm1 hU1 => ?_))
  rw [List.drop_zero] at hb1
  have el9 : E1 (n_left (gX G) n + 9) = E (n_left (gX G) n + 9) := ea1 _ (by omega)
  have e18 : E1 (n + 18) = E (n + 18) := ea1 _ (by omega)
  obtain ⟨hperm, hnil⟩ := g_of_bag (kf := x_vals (gT G) (gsl G) (n_list (gX G) n)) (k := k) hsl hil
  have haf := g_af_perm (T := gT G) (sl := gsl G) (aggs := n_aggs (gX G) n) hperm
  have hkeys : k ∈ g_keys (x_vals (gT G) (gsl G) (n_list (gX G) n)) (n_list (gX G) n).length L' ↔ ((E (n_left (gX G) n + 9)).filter (fun e => decide (x_vals (gT G) (gsl G) (n_list (gX G) n) e.2.1 = k)) ≠ [] ∨ (n_list (gX G) n).length = 0) := by
    by_cases z : (n_list (gX G) n).length = 0
    · constructor
      · intro _; exact Or.inr z
      · intro _; unfold g_keys; rw [if_pos z, hk0 z]; simp
    · rw [g_keys_mem z]
      constructor
      · intro q; exact Or.inl (fun u => q (hnil.mp u))
      · rintro (q | q)
        · exact fun u => q (hnil.mpr u)
        · exact absurd q z
  refine n_oneB (k := k) (E := E1) (V := (bw_p (E (n_left (gX G) n + 9))).map (fun e => x_vals (gT G) (gsl G) (n_list (gX G) n) e.1)) hn hl (by omega) hk (x_vals (gT G) (gsl G) (n_list (gX G) n)) (by rw [e18]; exact hfi) (fun e _ => by rw [kfl, hkn]) (by rw [el9]) (by rw [el9]; omega) (fun c2 q' I2 x2 f2 t2 hne => ?_) (fun c2 I2 x2 f2 hem hnz => ?_) (E1 (n_left (gX G) n + 9)).length 0 c1 (by omega) I1 (nx.rf c1 o1) f1 (t1 _)
  · rw [el9] at t2 hne
    have hin := hkeys.mpr hne
    have hfl : ((E (n_left (gX G) n + 9)).filter (fun e => decide (x_vals (gT G) (gsl G) (n_list (gX G) n) e.2.1 = k))).length ≤ (E (n_left (gX G) n + 9)).length := List.length_filter_le _ _
    have hmg : eg ∈ E1 (n + 18) := by rw [e18]; exact List.mem_of_getElem? hfi
    obtain ⟨g1, g2, g3, g4⟩ := I2.own (I2.g18 hn) hmg hn
    rw [hk] at g4
    obtain ⟨d, rfl⟩ : ∃ d, D = d + 2 := ⟨D - 2, by omega⟩
    refine u275_7 ⟨I2.rn hn, ?_⟩
    rw [I2.row hn]
    refine ⟨(I2.rowok hn).1, k_take (d := d) g4 (I2.rowok hn) g1 (fun c3 s3 r3 _ => ?_)⟩
    have s3' : c_sm (scw G n) c2 c3 := s3.mono (fun q a hw => Or.inr (Or.inl hw))
    obtain ⟨I3, x3⟩ := I2.scr hn s3'
    refine n_oneC (k := k) (w := w) (U := U) (τ := τ) (V := (bw_p (E (n_left (gX G) n + 9))).map (fun e => x_vals (gT G) (gsl G) (n_list (gX G) n) e.1)) (es := (E (n_left (gX G) n + 9)).filter (fun e => decide (x_vals (gT G) (gsl G) (n_list (gX G) n) e.2.1 = k))) hn hl (by omega) hag h12 (by omega) (by rw [el9]; exact hrow) (by omega) (by rw [List.length_map, List.length_map]; exact hfl) hs1 (by omega) hU1 (by rw [haf]; exact hnew hin) hcap (by omega) (fun c4 E4 P4 o4 I4 x4 f4 ea4 hs4 hb4 hm4 hU4 => ?_) (n_aggs (gX G) n).length 0 c3 (by omega) I3 (nx.rf c3 o1) (f2.scr I2 hn s3') (by rw [el9]; exact t2.up I2 hn s3'.up (by unfold scw xw rw_w; omega) (by unfold scw xw rw_w; omega) (fun y => by unfold scw xw rw_w; omega)) (by simp only [List.take_zero]; unfold g_af; rw [List.map_nil, List.append_nil]; exact r3)
    refine kk c4 E4 P4 o4 I4 (((x1.tr x2).tr x3).tr x4) f4 (fun y hy => (ea4 y hy).trans (ea1 y hy)) hs4 (fun g => ?_) (by omega) hU4
    rw [hb4, hb1, if_pos hin, haf]
  · rw [el9] at hem
    refine kk c2 E1 P1 o1 I2 (x1.tr x2) f2 ea1 hs1 (fun g => ?_) (by omega) hU1
    rw [hb1, if_neg]
    · omega
    · intro q
      rcases hkeys.mp q with u | u
      · exact u hem
      · exact hnz u
end
