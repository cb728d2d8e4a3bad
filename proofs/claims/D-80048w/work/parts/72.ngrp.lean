set_option maxRecDepth 100000
/-! nodes: groups, whole -/
section
variable {W : Nat → Int → Prop} {G : nG} {c c' c2 : cs_S} {E E' : Int → bw_L} {P P' : List Int} {o o' o2 : Int → Int} {a b n r x : Int} {l m k : rwt} {U L L' R R' F F' V K : List rwt} {Q : Int → cs_S → Prop} {d w D N Nl Nr : Nat} {τ τl τr : List Int} {t v z1 z2 s : Int} {es B : bw_L}
theorem dd_snoc : dd (K ++ [k]) = if k ∈ dd K then dd K else dd K ++ [k] := by
  unfold dd
  rw [dda_app]
  show (if k ∈ dda [] K then dda (dda [] K) [] else dda (dda [] K ++ [k]) []) = _
  rfl
/-- the touched groups -/
theorem n_grpA (hn : n ∈ gA G) (hl : n_left (gX G) n ∈ gA G) (hln : n_left (gX G) n + 21 ≤ n) (hD : 270 ≤ D) (h8 : (n_list (gX G) n).length ≤ 8) (hpos : 0 < (n_list (gX G) n).length) (hlt : ∀ e ∈ n_list (gX G) n, e < gN G) (hwl : ∀ e ∈ n_list (gX G) n, ∃ t, x_wt (gT G) (gsl G) (gct G) τ 121 e t) (hcap : (U.length : Int) ≤ gcp G (n + 18)) : ∀ (m q : Nat) (c : cs_S) (E : Int → bw_L) (P : List Int) (o : Int → Int), q + m = (E (n_left (gX G) n + 12)).length → NI G c E P o → KF c n V → b_ok (n_list (gX G) n).length (bw_p (E (n + 18))) → b_is (bw_p (E (n + 18))) (dd (((bw_p (E (n_left (gX G) n + 12))).take q).map (fun e => x_vals (gT G) (gsl G) (n_list (gX G) n) e.1))) → (∀ e ∈ E (n_left (gX G) n + 12), rg τ e.2.1 ∧ x_vals (gT G) (gsl G) (n_list (gX G) n) e.2.1 ∈ U) →
    (∀ c' E' P' o' q', NI G c' E' P' o' → nx c o c' o' → KF c' n V → (∀ a, a ≠ n + 18 → E' a = E a) → b_ok (n_list (gX G) n).length (bw_p (E' (n + 18))) → b_is (bw_p (E' (n + 18))) (dd ((bw_p (E (n_left (gX G) n + 12))).map (fun e => x_vals (gT G) (gsl G) (n_list (gX G) n) e.1))) → cw (D + 1) 273 (am_blk 273 5) [n, z1, q'] [] c' Q) → cw (D + 1) 273 (am_blk 273 3) [n, z1, (q : Int)] [] c Q := by
  intro m
  induction m with
  | zero =>
    intro q c E P o hq h hf hs hi hrow kk
    rw [List.take_of_length_le (by unfold bw_p; rw [List.length_map]; omega)] at hi
    refine u273_3 ⟨h.rn hn, ?_⟩
    rw [h.lft hn, h.dlt hl]
    exact ⟨h.rn hl, h.rb (h.g12 hl), k_bsize (h.bag (h.g12 hl)) ⟨fun _ => kk c E P o _ h (nx.rf c o) hf (fun _ _ => rfl) hs hi, fun w => absurd (by omega) w⟩⟩
  | succ m ih =>
    intro q c E P o hq h hf hs hi hrow kk
    have hk1 : q < (E (n_left (gX G) n + 12)).length := by omega
    have hg := List.getElem?_eq_getElem hk1
    have hp1 : q < (bw_p (E (n_left (gX G) n + 12))).length := by unfold bw_p; rw [List.length_map]; exact hk1
    have hpg : (bw_p (E (n_left (gX G) n + 12)))[q] = (E (n_left (gX G) n + 12))[q].2 := by unfold bw_p; rw [List.getElem_map]
    generalize hE : (E (n_left (gX G) n + 12))[q] = e0 at *
    have hmem : e0 ∈ E (n_left (gX G) n + 12) := List.mem_of_getElem? hg
    have hl12 := h.le (h.g12 hl)
    have h18 := h.le (h.g18 hn)
    obtain ⟨q1, q2, q3, q4⟩ := h.own (h.g12 hl) hmem hn
    have hls : ∀ {c1 E1 P1 o1}, NI G c1 E1 P1 o1 → c_v c1 418 n 0 = ((n_list (gX G) n).length : Int) := fun I => (I.nd hn).2.2.2.2.2.2.2.2.2.1.1
    obtain ⟨d, rfl⟩ : ∃ d, D = d + 4 := ⟨D - 4, by omega⟩
    have hw1 := am_w1 (k := q) (by omega)
    have hsn : dd (((bw_p (E (n_left (gX G) n + 12))).take (q + 1)).map (fun e => x_vals (gT G) (gsl G) (n_list (gX G) n) e.1)) = if x_vals (gT G) (gsl G) (n_list (gX G) n) e0.2.1 ∈ dd (((bw_p (E (n_left (gX G) n + 12))).take q).map (fun e => x_vals (gT G) (gsl G) (n_list (gX G) n) e.1)) then dd (((bw_p (E (n_left (gX G) n + 12))).take q).map (fun e => x_vals (gT G) (gsl G) (n_list (gX G) n) e.1)) else dd (((bw_p (E (n_left (gX G) n + 12))).take q).map (fun e => x_vals (gT G) (gsl G) (n_list (gX G) n) e.1)) ++ [x_vals (gT G) (gsl G) (n_list (gX G) n) e0.2.1] := by
      rw [List.take_succ_eq_append_getElem hp1, hpg, List.map_append]
      exact dd_snoc
    refine u273_3 ⟨h.rn hn, ?_⟩
    rw [h.lft hn, h.dlt hl]
    refine ⟨h.rn hl, h.rb (h.g12 hl), k_bsize (h.bag (h.g12 hl)) ⟨fun w => absurd w (by omega), fun _ => ⟨h.rn hn, ?_⟩⟩⟩
    rw [hls h, h.lft hn, h.dlt hl]
    refine ⟨fun w => absurd w (by omega), fun _ => ⟨h.rn hn, h.rn hl, h.rb (h.g12 hl), k_brow (h.bag (h.g12 hl)) hg ⟨h.rn hn, h.rn hn, ?_⟩⟩⟩
    rw [h.key hn]
    refine n_values (D := d + 3) h hn (by omega) (hrow e0 hmem).1 q4 (h.keyok hn) q2 h8 hlt hwl (fun c1 s1 v1 _ => ?_)
    have s1' : c_sm (scw G n) c c1 := s1.mono (fun q a hw => by unfold scw; rcases hw with hw | hw; exact Or.inl hw; exact Or.inr (Or.inr hw))
    obtain ⟨I1, x1⟩ := h.scr hn s1'
    have hvl : (x_vals (gT G) (gsl G) (n_list (gX G) n) e0.2.1).length = (n_list (gX G) n).length := by unfold x_vals; rw [List.length_map]
    rw [I1.frs hn, I1.key hn]
    refine ⟨I1.rn hn, I1.rn hn, I1.rb (I1.g18 hn), k_timesOfp (I1.bag (I1.g18 hn)) hs v1 hvl (by omega) ?_⟩
    rw [hi]
    have hcnt := ls_ind_mem (l := x_vals (gT G) (gsl G) (n_list (gX G) n) e0.2.1) (L := dd (((bw_p (E (n_left (gX G) n + 12))).take q).map (fun e => x_vals (gT G) (gsl G) (n_list (gX G) n) e.1)))
    have hcn0 := ls_ind_0 (l := x_vals (gT G) (gsl G) (n_list (gX G) n) e0.2.1) (L := dd (((bw_p (E (n_left (gX G) n + 12))).take q).map (fun e => x_vals (gT G) (gsl G) (n_list (gX G) n) e.1)))
    refine ⟨fun z => u273_4 ?_, fun z => ⟨I1.rn hn, I1.rn hn, ?_⟩⟩
    · rw [hw1]
      have hin : x_vals (gT G) (gsl G) (n_list (gX G) n) e0.2.1 ∈ dd (((bw_p (E (n_left (gX G) n + 12))).take q).map (fun e => x_vals (gT G) (gsl G) (n_list (gX G) n) e.1)) := Classical.not_not.mp (fun u => z (hcn0.mpr u))
      rw [if_pos hin] at hsn
      exact ih (q + 1) c1 E P o (by omega) I1 (hf.scr h hn s1') hs (by rw [hsn]; exact hi) hrow (fun c' E' P' o' q' I' x' f' => kk c' E' P' o' q' I' (x1.tr x') f')
    · have hin : x_vals (gT G) (gsl G) (n_list (gX G) n) e0.2.1 ∉ dd (((bw_p (E (n_left (gX G) n + 12))).take q).map (fun e => x_vals (gT G) (gsl G) (n_list (gX G) n) e.1)) := hcn0.mp (Classical.not_not.mp z)
      rw [if_neg hin] at hsn
      rw [I1.frs hn, I1.key hn]
      have hm18 := hi.m hs
      have hdl := dd_len (L := ((bw_p (E (n_left (gX G) n + 12))).take q).map (fun e => x_vals (gT G) (gsl G) (n_list (gX G) n) e.1))
      rw [List.length_map, List.length_take] at hdl
      refine ⟨I1.rb (I1.g18 hn), n_add (U := U) I1 (I1.g18 hn) hs v1 hvl (by rw [I1.or3 hn]; decide) (fun e he => ?_) (hrow e0 hmem).2 hcap (by omega) (fun c2 E2 P2 o2 I2 b2 ea2 hs2 hb2 hm2 hU2 => u273_4 ?_)⟩
      · have := (hi.mem hs (bp_mem he)).2
        rw [dd_mem] at this
        obtain ⟨e', he', ee⟩ := List.mem_map.mp this
        obtain ⟨e'', he'', ee2⟩ := List.mem_map.mp (List.mem_of_mem_take he')
        subst ee2
        rw [← ee]
        exact (hrow e'' he'').2
      · have eL : E2 (n_left (gX G) n + 12) = E (n_left (gX G) n + 12) := ea2 _ (by omega)
        rw [hw1]
        refine ih (q + 1) c2 E2 P2 o2 (by rw [eL]; omega) I2 ((hf.scr h hn s1').bx I1 hn b2) hs2 ?_ (by rw [eL]; exact hrow) (fun c' E' P' o' q' I' x' f' ea' => ?_)
        · rw [eL, hsn]
          intro g
          rw [hb2, hi, ls_app]
          show _ = _ + (_ + 0)
          omega
        · rw [eL]
          exact kk c' E' P' o' q' I' ((x1.tr b2.nx).tr x') f' (fun y hy => (ea' y hy).trans (ea2 y hy))
/-- what the touched groups make -/
def g_gs (nk : Nat) (O : List (rwt × Int)) (nw : rwt → (rwt → Int) → Int) (g : rwt → Int) : List rwt → Int
  | [] => 0
  | k :: ks => - b_s (fun y => if y.take nk = k then g y else 0) O + nw k g + g_gs nk O nw g ks
theorem n_grpB (hn : n ∈ gA G) (hl : n_left (gX G) n ∈ gA G) (hln : n_left (gX G) n + 21 ≤ n) (hD : 290 ≤ D) (h8 : (n_list (gX G) n).length ≤ 8) (hag : ∀ e ∈ n_aggs (gX G) n, e < gN G ∧ x_wag (gT G) (gsl G) (gct G) τ e) (h12 : (n_aggs (gX G) n).length ≤ 12) (hwk : (n_list (gX G) n).length + (n_aggs (gX G) n).length = w) (hrg : ∀ y ∈ L', rg τ y) (hL512 : L'.length ≤ 512) (hnew : ∀ k, k ∈ g_keys (x_vals (gT G) (gsl G) (n_list (gX G) n)) (n_list (gX G) n).length L' → k ++ g_af (gT G) (gsl G) (n_aggs (gX G) n) (g_of (x_vals (gT G) (gsl G) (n_list (gX G) n)) L' k) ∈ U) (hcap : (U.length : Int) ≤ gcp G (n + 12)) : ∀ (m q : Nat) (c : cs_S) (E : Int → bw_L) (P : List Int) (o : Int → Int), q + m = (E (n + 18)).length → NI G c E P o → KF c n ((bw_p (E (n_left (gX G) n + 9))).map (fun e => x_vals (gT G) (gsl G) (n_list (gX G) n) e.1)) → b_ok τ.length (bw_p (E (n_left (gX G) n + 9))) → b_is (bw_p (E (n_left (gX G) n + 9))) L' → b_ok w (bw_p (E (n + 12))) → (∀ e ∈ E (n + 9), e.2.1.length = w ∧ e.2.2 = 1 ∧ e.2.1 ∈ U) → (E (n + 9)).length ≤ 512 → (∀ e ∈ E (n + 18), e.2.1.length = (n_list (gX G) n).length) → (∀ e ∈ E (n + 12), e.2.1 ∈ U) → b_m (bw_p (E (n + 12))) + 513 * (m : Int) < 2147483648 →
    (∀ c' E' P' o', NI G c' E' P' o' → nx c o c' o' → (∀ a, a ≠ n + 12 → E' a = E a) → b_ok w (bw_p (E' (n + 12))) → (∀ g, b_s g (bw_p (E' (n + 12))) = b_s g (bw_p (E (n + 12))) + g_gs (n_list (gX G) n).length (bw_p (E (n + 9))) (fun k g => if k ∈ g_keys (x_vals (gT G) (gsl G) (n_list (gX G) n)) (n_list (gX G) n).length L' then g (k ++ g_af (gT G) (gsl G) (n_aggs (gX G) n) (g_of (x_vals (gT G) (gsl G) (n_list (gX G) n)) L' k)) else 0) g ((bw_p ((E (n + 18)).drop q)).map (·.1))) → Q 0 c') → cw (D + 1) 273 (am_blk 273 6) [n, z1, (q : Int)] [] c Q := by
  intro m
  induction m with
  | zero =>
    intro q c E P o hq h hf hsl hil hs hout h9 h18 hU hm kk
    have e1 : (E (n + 18)).drop q = [] := List.drop_of_length_le (by omega)
    refine u273_6 ⟨h.rn hn, ?_⟩
    rw [h.frs hn]
    refine ⟨h.rb (h.g18 hn), k_bsize (h.bag (h.g18 hn)) ⟨fun _ => kk c E P o h (nx.rf c o) (fun _ _ => rfl) hs (fun g => ?_), fun w => absurd (by omega) w⟩⟩
    rw [e1]; show _ = _ + 0; omega
  | succ m ih =>
    intro q c E P o hq h hf hsl hil hs hout h9 h18 hU hm kk
    have hk1 : q < (E (n + 18)).length := by omega
    have hg := List.getElem?_eq_getElem hk1
    have hd := List.drop_eq_getElem_cons hk1
    generalize hE : (E (n + 18))[q] = e0 at *
    have hmem : e0 ∈ E (n + 18) := List.mem_of_getElem? hg
    have hl18 := h.le (h.g18 hn)
    obtain ⟨d, rfl⟩ : ∃ d, D = d + 1 := ⟨D - 1, by omega⟩
    refine u273_6 ⟨h.rn hn, ?_⟩
    rw [h.frs hn]
    refine ⟨h.rb (h.g18 hn), k_bsize (h.bag (h.g18 hn)) ⟨fun w => absurd w (by omega), fun _ => ⟨h.rn hn, ?_⟩⟩⟩
    rw [h.frs hn]
    have hkl := h18 e0 hmem
    refine ⟨h.rb (h.g18 hn), k_brow (h.bag (h.g18 hn)) hg ⟨h.rn hn, n_one (τ := τ) (w := w) (U := U) (L' := L') h hn hl hln (by omega) rfl hg hf hkl h8 hag h12 hwk hsl hil hrg hL512 hs hout hU (hnew _) hcap (by omega) (fun z => List.length_eq_zero_iff.mp (by omega)) (fun c1 E1 P1 o1 I1 x1 f1 ea1 hs1 hb1 hm1 hU1 => ?_)⟩⟩
    have el9 : E1 (n_left (gX G) n + 9) = E (n_left (gX G) n + 9) := ea1 _ (by omega)
    have e9 : E1 (n + 9) = E (n + 9) := ea1 _ (by omega)
    have e18 : E1 (n + 18) = E (n + 18) := ea1 _ (by omega)
    rw [am_w1 (by omega)]
    refine ih (q + 1) c1 E1 P1 o1 (by rw [e18]; omega) I1 (by rw [el9]; exact f1) (by rw [el9]; exact hsl) (by rw [el9]; exact hil) hs1 (by rw [e9]; exact hout) (by rw [e9]; exact h9) (by rw [e18]; exact h18) hU1 (by omega) (fun c2 E2 P2 o2 I2 x2 ea2 hs2 hb2 => ?_)
    refine kk c2 E2 P2 o2 I2 (x1.tr x2) (fun y hy => (ea2 y hy).trans (ea1 y hy)) hs2 (fun g => ?_)
    rw [hb2, hb1, e9, e18, hd, bp_cons, List.map_cons]
    simp only [g_gs]
    rw [hkl]
    omega
theorem g_gs_0 {nk : Nat} {O : List (rwt × Int)} {nw : rwt → (rwt → Int) → Int} {l : rwt} : ∀ ks : List rwt, (∀ k ∈ ks, b_s (fun y => if y.take nk = k then r_ind l y else 0) O = 0 ∧ nw k (r_ind l) = 0) → g_gs nk O nw (r_ind l) ks = 0 := by
  intro ks
  induction ks with
  | nil => intro _; rfl
  | cons k ks ih =>
    intro hh
    have h1 := hh k List.mem_cons_self
    unfold g_gs
    rw [h1.1, h1.2, ih (fun k hk => hh k (List.mem_cons_of_mem _ hk))]
    rfl
theorem g_gs_1 {nk : Nat} {O : List (rwt × Int)} {nw : rwt → (rwt → Int) → Int} {l : rwt} : ∀ ks : List rwt, ks.Nodup → k ∈ ks → (∀ k' ∈ ks, k' ≠ k → b_s (fun y => if y.take nk = k' then r_ind l y else 0) O = 0 ∧ nw k' (r_ind l) = 0) → g_gs nk O nw (r_ind l) ks = - b_s (fun y => if y.take nk = k then r_ind l y else 0) O + nw k (r_ind l) := by
  intro ks
  induction ks with
  | nil => intro _ h; cases h
  | cons k0 ks ih =>
    intro hnd hk hh
    rw [List.nodup_cons] at hnd
    unfold g_gs
    by_cases e : k0 = k
    · subst e
      rw [g_gs_0 ks (fun k' hk' => hh k' (List.mem_cons_of_mem _ hk') (fun q => hnd.1 (q ▸ hk')))]
      omega
    · have h0 := hh k0 List.mem_cons_self e
      have hk' : k ∈ ks := by
        rcases List.mem_cons.mp hk with q | q
        · exact absurd q.symm e
        · exact q
      rw [h0.1, h0.2, ih hnd.2 hk' (fun k' h1 h2 => hh k' (List.mem_cons_of_mem _ h1) h2)]
      omega
end
