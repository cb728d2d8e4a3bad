set_option maxRecDepth 100000
/-! nodes: one group anew -/
section
variable {W : Nat → Int → Prop} {G : nG} {c c' c2 : cs_S} {E E' : Int → bw_L} {P P' : List Int} {o o' o2 : Int → Int} {a b n r x : Int} {l m k : rwt} {U L L' R R' F F' V : List rwt} {Q : Int → cs_S → Prop} {d w D N Nl Nr : Nat} {τ τl τr : List Int} {t v z1 z2 s : Int} {es B : bw_L}
theorem n_aggregate {g : Nat} (h : NI G c E P o) (hn : n ∈ gA G) (hl : n_left (gX G) n ∈ gA G) (hD : 260 ≤ D) (hgN : g < gN G) (hw : x_wag (gT G) (gsl G) (gct G) τ g) (hrow : ∀ e ∈ E (n_left (gX G) n + 9), rg τ e.2.1 ∧ 0 < e.2.2 ∧ e.2.2 ≤ 1000000) (hes : es.length ≤ 512) (hesV : es.length ≤ V.length) (hcur : m.length < 24) (hf : KF c n V) (ht : MT c n (E (n_left (gX G) n + 9)) es) (hr : rw_is c (n + 1) m)
    (kk : ∀ c', c_sm (scw G n) c c' → NI G c' E P o → rw_is c' (n + 1) (m ++ [a_val (x_act (gT G) g) (fun r => ev (gT G) (x_env (gsl G) r) 121 (x_a (gT G) g).toNat) (b_xp (bw_p es))]) → Q 0 c') : knode_aggregate (D + 1) n g c Q := by
  have hK := h.exk
  have hN := hK.2.1
  obtain ⟨va, -⟩ := hK.2.2 g hgN
  refine u277_e ⟨h.rn hn, ?_⟩
  rw [h.exad hn, va]
  refine ⟨hK.1.1, hK.1.2.1.1, by omega, by rw [hK.1.2.1.2]; omega, ?_⟩
  exact n_agg0 (V := V) hn hl hD hgN hw hrow hes hesV hcur kk es.length 0 c 0 0 0 0 (by omega) (c_sm.rf _ c) h hf ht hr a_inv_nil (by omega) (by omega)
/-- writing places of rows -/
def mtw (c : cs_S) (n : Int) (q : Nat) (a : Int) : Prop := (q = 425 ∧ a = n) ∨ q = 583
theorem NI.mt (h : NI G c E P o) (s : c_sm (mtw c2 n) c c') : NI G c' E P o ∧ nx c o c' o := by
  refine ⟨h.sm s (fun q a hw => ?_), s.nx (fun q a hw => ?_)⟩
  · unfold mtw at hw
    exact ⟨by unfold bw_k; omega, by unfold nq2 nq ex_q; omega⟩
  · unfold mtw at hw; unfold nw; omega
theorem KF.mt (h : KF c n V) (hI : NI G c E P o) (hn : n ∈ gA G) (s : c_sm (mtw c2 n) c c') : KF c' n V :=
  h.up hI hn s.up (by unfold mtw; omega) (by unfold mtw; omega) (by unfold mtw; omega) (by unfold mtw; omega) (fun y => by unfold mtw; omega) (fun i _ _ => ⟨by unfold mtw; omega, by unfold mtw; omega, by unfold mtw; omega, by unfold mtw; omega⟩)
/-- the old rows of the group go -/
theorem n_oneA (hn : n ∈ gA G) (hD : 20 ≤ D) (hcap : (U.length : Int) ≤ gcp G (n + 12)) {fi : Nat} {eg : Int × rwt × Int} (hk : eg.2.1 = k) : ∀ (m q : Nat) (c : cs_S) (E : Int → bw_L) (P : List Int) (o : Int → Int), q + m = (E (n + 9)).length → (E (n + 18))[fi]? = some eg → NI G c E P o → KF c n V → b_ok w (bw_p (E (n + 12))) → (∀ e ∈ E (n + 9), e.2.1.length = w ∧ k.length ≤ w ∧ e.2.2 = 1 ∧ e.2.1 ∈ U) → (∀ e ∈ E (n + 12), e.2.1 ∈ U) → b_m (bw_p (E (n + 12))) + (m : Int) < 2147483648 →
    (∀ c' E' P' o', NI G c' E' P' o' → nx c o c' o' → KF c' n V → (∀ B, MT c' n B []) → (∀ a, a ≠ n + 12 → E' a = E a) → b_ok w (bw_p (E' (n + 12))) → (∀ g, b_s g (bw_p (E' (n + 12))) = b_s g (bw_p (E (n + 12))) - b_s (fun y => if y.take k.length = k then g y else 0) (bw_p ((E (n + 9)).drop q))) → b_m (bw_p (E' (n + 12))) ≤ b_m (bw_p (E (n + 12))) + (m : Int) → (∀ e ∈ E' (n + 12), e.2.1 ∈ U) → cw (D + 1) 275 (am_blk 275 4) [n, eg.1, 0] [] c' Q) → cw (D + 1) 275 (am_blk 275 1) [n, eg.1, (q : Int)] [] c Q := by
  intro m
  induction m with
  | zero =>
    intro q c E P o hq hfi h hf hs hrow hU hm kk
    have e1 : (E (n + 9)).drop q = [] := List.drop_of_length_le (by omega)
    refine u275_1 ⟨h.rn hn, ?_⟩
    rw [h.out hn]
    refine ⟨h.rb (h.g9 hn), k_bsize (h.bag (h.g9 hn)) ⟨fun _ => ⟨h.rn hn, fun c2 e2 => ?_⟩, fun w => absurd (by omega) w⟩⟩
    have s2 : c_sm (mtw c n) c c2 := by subst e2; exact c_sm.u c (by unfold mtw; omega) _ _
    obtain ⟨I2, x2⟩ := h.mt s2
    refine kk c2 E P o I2 x2 (hf.mt h hn s2) (fun B => ⟨?_, fun j e hj => by simp at hj⟩) (fun _ _ => rfl) hs (fun g => ?_) (by omega) hU
    · subst e2; rw [c_u_eq]; rfl
    · rw [e1]; show _ = _ - 0; omega
  | succ m ih =>
    intro q c E P o hq hfi h hf hs hrow hU hm kk
    have hk1 : q < (E (n + 9)).length := by omega
    have hg := List.getElem?_eq_getElem hk1
    have hd := List.drop_eq_getElem_cons hk1
    generalize hE : (E (n + 9))[q] = e0 at *
    have hmem : e0 ∈ E (n + 9) := List.mem_of_getElem? hg
    have hmg : eg ∈ E (n + 18) := List.mem_of_getElem? hfi
    obtain ⟨w1, w2, w3, w4⟩ := hrow e0 hmem
    have hl9 := h.le (h.g9 hn)
    obtain ⟨q1, q2, q3, q4⟩ := h.own (h.g9 hn) hmem hn
    obtain ⟨g1, g2, g3, g4⟩ := h.own (h.g18 hn) hmg hn
    rw [hk] at g4
    obtain ⟨d, rfl⟩ : ∃ d, D = d + 4 := ⟨D - 4, by omega⟩
    have hw1 := am_w1 (k := q) (by omega)
    refine u275_1 ⟨h.rn hn, ?_⟩
    rw [h.out hn]
    refine ⟨h.rb (h.g9 hn), k_bsize (h.bag (h.g9 hn)) ⟨fun w => absurd w (by omega), fun _ => ⟨h.rn hn, ?_⟩⟩⟩
    rw [h.out hn]
    refine ⟨h.rb (h.g9 hn), k_brow (h.bag (h.g9 hn)) hg ⟨h.rn hn, n_isOf (d := d + 2) q4 g4 (by omega) ?_⟩⟩
    by_cases p : e0.2.1.take k.length = k
    · rw [if_pos p]
      refine ⟨fun w => absurd w (by decide), fun _ => ⟨h.rn hn, h.rn hn, ?_⟩⟩
      rw [h.out hn, h.dlt hn]
      refine ⟨h.rb (h.g9 hn), k_brow (h.bag (h.g9 hn)) hg ⟨h.rb (h.g12 hn), ?_⟩⟩
      refine n_add h (h.g12 hn) hs q4 w1 q3 hU w4 hcap (by omega) (fun c2 E2 P2 o2 I2 b2 ea2 hs2 hb2 hm2 hU2 => u275_2 ?_)
      have e9 : E2 (n + 9) = E (n + 9) := ea2 _ (by omega)
      have e18 : E2 (n + 18) = E (n + 18) := ea2 _ (by omega)
      rw [hw1]
      refine ih (q + 1) c2 E2 P2 o2 (by rw [e9]; omega) (by rw [e18]; exact hfi) I2 (hf.bx h hn b2) hs2 (by rw [e9]; exact hrow) hU2 (by omega) (fun c3 E3 P3 o3 I3 x3 f3 t3 ea3 hs3 hb3 hm3 hU3 => ?_)
      refine kk c3 E3 P3 o3 I3 (b2.nx.tr x3) f3 t3 (fun y hy => (ea3 y hy).trans (ea2 y hy)) hs3 (fun g => ?_) (by omega) hU3
      rw [hb3, hb2, e9, hd, bp_cons, b_s_cons, if_pos p, w3]
      omega
    · rw [if_neg p]
      refine ⟨fun _ => u275_2 ?_, fun w => absurd rfl w⟩
      rw [hw1]
      refine ih (q + 1) c E P o (by omega) hfi h hf hs hrow hU (by omega) (fun c3 E3 P3 o3 I3 x3 f3 t3 ea3 hs3 hb3 hm3 hU3 => ?_)
      refine kk c3 E3 P3 o3 I3 x3 f3 t3 ea3 hs3 (fun g => ?_) (by omega) hU3
      rw [hb3, hd, bp_cons, b_s_cons, if_neg p, Int.mul_zero]
      omega
/-- the group's rows beneath are marked -/
theorem n_oneB (hn : n ∈ gA G) (hl : n_left (gX G) n ∈ gA G) (hD : 20 ≤ D) {fi : Nat} {eg : Int × rwt × Int} (hk : eg.2.1 = k) (kf : rwt → rwt) (hfi : (E (n + 18))[fi]? = some eg) (hkl : ∀ e ∈ E (n_left (gX G) n + 9), (kf e.2.1).length = k.length) (hV : V = (bw_p (E (n_left (gX G) n + 9))).map (fun e => kf e.1)) (h512 : (E (n_left (gX G) n + 9)).length ≤ 512)
    (kk1 : ∀ c' q', NI G c' E P o → nx c o c' o → KF c' n V → MT c' n (E (n_left (gX G) n + 9)) ((E (n_left (gX G) n + 9)).filter (fun e => decide (kf e.2.1 = k))) → ((E (n_left (gX G) n + 9)).filter (fun e => decide (kf e.2.1 = k)) ≠ [] ∨ (n_list (gX G) n).length = 0) → cw (D + 1) 275 (am_blk 275 7) [n, eg.1, q'] [] c' Q)
    (kk2 : ∀ c', NI G c' E P o → nx c o c' o → KF c' n V → (E (n_left (gX G) n + 9)).filter (fun e => decide (kf e.2.1 = k)) = [] → (n_list (gX G) n).length ≠ 0 → Q 0 c') : ∀ (m q : Nat) (c1 : cs_S), q + m = (E (n_left (gX G) n + 9)).length → NI G c1 E P o → nx c o c1 o → KF c1 n V → MT c1 n (E (n_left (gX G) n + 9)) (((E (n_left (gX G) n + 9)).take q).filter (fun e => decide (kf e.2.1 = k))) → cw (D + 1) 275 (am_blk 275 4) [n, eg.1, (q : Int)] [] c1 Q := by
  intro m
  induction m with
  | zero =>
    intro q c1 hq h x1 hf ht
    rw [List.take_of_length_le (by omega)] at ht
    have hls : c_v c1 418 n 0 = ((n_list (gX G) n).length : Int) := (h.nd hn).2.2.2.2.2.2.2.2.2.1.1
    refine u275_4 ⟨h.rn hn, ?_⟩
    rw [h.lft hn, h.out hl]
    refine ⟨h.rn hl, h.rb (h.g9 hl), k_bsize (h.bag (h.g9 hl)) ⟨fun _ => ⟨h.rn hn, ?_⟩, fun w => absurd (by omega) w⟩⟩
    rw [ht.1, hls]
    refine ⟨fun z => kk1 c1 _ h x1 hf ht (Or.inl (fun e => by rw [e] at z; exact z rfl)), fun z => ⟨h.rn hn, fun z2 => kk1 c1 _ h x1 hf ht (Or.inr (by omega)), fun z2 => kk2 c1 h x1 hf ?_ (by omega)⟩⟩
    exact List.length_eq_zero_iff.mp (by omega)
  | succ m ih =>
    intro q c1 hq h x1 hf ht
    have hk1 : q < (E (n_left (gX G) n + 9)).length := by omega
    have hg := List.getElem?_eq_getElem hk1
    have htk := List.take_succ_eq_append_getElem hk1
    generalize hE : (E (n_left (gX G) n + 9))[q] = e0 at *
    have hmem : e0 ∈ E (n_left (gX G) n + 9) := List.mem_of_getElem? hg
    have hmg : eg ∈ E (n + 18) := List.mem_of_getElem? hfi
    obtain ⟨g1, g2, g3, g4⟩ := h.own (h.g18 hn) hmg hn
    rw [hk] at g4
    obtain ⟨f1, f2, f3, f4⟩ := id hf
    obtain ⟨p1, p2, p3, p4, p5, p6⟩ := h.pk
    have hVl : V.length = (E (n_left (gX G) n + 9)).length := by rw [hV]; unfold bw_p; rw [List.length_map, List.length_map]
    have hVq : V[q]? = some (kf e0.2.1) := by rw [hV]; unfold bw_p; rw [List.getElem?_map, List.getElem?_map, hg]; rfl
    have hrk := f4 q _ hVq
    have hlen := hkl e0 hmem
    obtain ⟨d, rfl⟩ : ∃ d, D = d + 2 := ⟨D - 2, by omega⟩
    have hw1 := am_w1 (k := q) (by omega)
    refine u275_4 ⟨h.rn hn, ?_⟩
    rw [h.lft hn, h.out hl]
    refine ⟨h.rn hl, h.rb (h.g9 hl), k_bsize (h.bag (h.g9 hl)) ⟨fun w => absurd w (by omega), fun _ => ⟨h.rn hn, ?_⟩⟩⟩
    rw [f1]
    refine ⟨p1, by omega, by show _ < pk_K c1; omega, h.rn hn, ?_⟩
    show knode_isOf (d + 2) n (pk_y c1 q) eg.1 c1 _
    refine n_isOf (d := d) hrk g4 (by omega) ?_
    have htake : (kf e0.2.1).take k.length = kf e0.2.1 := List.take_of_length_le (by omega)
    rw [htake]
    by_cases p : kf e0.2.1 = k
    · rw [if_pos p]
      refine ⟨fun w => absurd w (by decide), fun _ => ⟨h.rn hn, h.rn hn, ?_⟩⟩
      rw [f2, ht.1]
      have hfl : (((E (n_left (gX G) n + 9)).take q).filter (fun e => decide (kf e.2.1 = k))).length ≤ q := by
        have := List.length_filter_le (fun e : Int × rwt × Int => decide (kf e.2.1 = k)) ((E (n_left (gX G) n + 9)).take q)
        rw [List.length_take] at this
        omega
      refine ⟨p2, by omega, by rw [p3]; omega, fun c2 e2 => ?_⟩
      have s2 : c_sm (mtw c1 n) c1 c2 := by subst e2; exact c_sm.u c1 (by unfold mtw; omega) _ _
      have r2 : c_r c2 n = 1010 := by rw [s2.r]; exact h.rn hn
      have m2 : c_v c2 425 n 0 = ((((E (n_left (gX G) n + 9)).take q).filter (fun e => decide (kf e.2.1 = k))).length : Int) := by subst e2; rw [c_u_q (by decide)]; exact ht.1
      rw [m2, am_w_in (by omega) (by omega)]
      refine ⟨r2, r2, fun c3 e3 => u275_5 ?_⟩
      have s3 : c_sm (mtw c1 n) c2 c3 := by subst e3; exact c_sm.u c2 (by unfold mtw; omega) _ _
      have s := s2.tr s3
      obtain ⟨I3, x3⟩ := h.mt s
      rw [hw1]
      refine ih (q + 1) c3 (by omega) I3 (x1.tr x3) (hf.mt h hn s) ?_
      have hfil : ((E (n_left (gX G) n + 9)).take (q + 1)).filter (fun e => decide (kf e.2.1 = k)) = ((E (n_left (gX G) n + 9)).take q).filter (fun e => decide (kf e.2.1 = k)) ++ [e0] := by
        rw [htk, List.filter_append]
        congr 1
        simp [p]
      rw [hfil]
      have em : c_v c3 83 7 0 = c_v c1 83 7 0 := by subst e3; rw [c_u_q (by decide)]; subst e2; rw [c_u_q (by decide)]
      refine ⟨?_, fun j e hj => ?_⟩
      · subst e3; rw [c_u_eq, List.length_append]; rfl
      · rw [em]
        have v3 : ∀ jj, c_v c3 583 (c_v c1 83 7 0) jj = c_v c2 583 (c_v c1 83 7 0) jj := by intro jj; subst e3; rw [c_u_q (by decide)]
        rw [v3]
        rw [List.getElem?_append] at hj
        split at hj
        · rename_i hjl
          obtain ⟨i, hi1, hi2⟩ := ht.2 j e hj
          refine ⟨i, ?_, hi2⟩
          subst e2
          rw [c_u_j (by omega)]; exact hi1
        · rename_i hjl
          have hj0 : j = (((E (n_left (gX G) n + 9)).take q).filter (fun e => decide (kf e.2.1 = k))).length := by
            have := (List.getElem?_eq_some_iff.mp hj).1
            simp at this hjl
            omega
          rw [hj0, Nat.sub_self] at hj
          simp at hj
          subst hj
          refine ⟨q, ?_, hg⟩
          subst e2
          rw [hj0, c_u_eq]
    · rw [if_neg p]
      refine ⟨fun _ => u275_5 ?_, fun w => absurd rfl w⟩
      rw [hw1]
      refine ih (q + 1) c1 (by omega) h x1 hf ?_
      have hfil : ((E (n_left (gX G) n + 9)).take (q + 1)).filter (fun e => decide (kf e.2.1 = k)) = ((E (n_left (gX G) n + 9)).take q).filter (fun e => decide (kf e.2.1 = k)) := by
        rw [htk, List.filter_append]
        simp [p]
      rw [hfil]
      exact ht
/-- the group's new row -/
theorem n_oneC (hn : n ∈ gA G) (hl : n_left (gX G) n ∈ gA G) (hD : 270 ≤ D) (hag : ∀ e ∈ n_aggs (gX G) n, e < gN G ∧ x_wag (gT G) (gsl G) (gct G) τ e) (h12 : (n_aggs (gX G) n).length ≤ 12) (hk8 : k.length ≤ 8) (hrow : ∀ e ∈ E (n_left (gX G) n + 9), rg τ e.2.1 ∧ 0 < e.2.2 ∧ e.2.2 ≤ 1000000) (hes : es.length ≤ 512) (hesV : es.length ≤ V.length) (hs : b_ok w (bw_p (E (n + 12)))) (hwk : k.length + (n_aggs (gX G) n).length = w) (hU : ∀ e ∈ E (n + 12), e.2.1 ∈ U) (hnew : k ++ g_af (gT G) (gsl G) (n_aggs (gX G) n) (b_xp (bw_p es)) ∈ U) (hcap : (U.length : Int) ≤ gcp G (n + 12)) (hm : b_m (bw_p (E (n + 12))) + 1 < 2147483648) {gr : Int}
    (kk : ∀ c' E' P' o', NI G c' E' P' o' → nx c o c' o' → KF c' n V → (∀ a, a ≠ n + 12 → E' a = E a) → b_ok w (bw_p (E' (n + 12))) → (∀ g, b_s g (bw_p (E' (n + 12))) = b_s g (bw_p (E (n + 12))) + g (k ++ g_af (gT G) (gsl G) (n_aggs (gX G) n) (b_xp (bw_p es)))) → b_m (bw_p (E' (n + 12))) ≤ b_m (bw_p (E (n + 12))) + 1 → (∀ e ∈ E' (n + 12), e.2.1 ∈ U) → Q 0 c') : ∀ (m q : Nat) (c1 : cs_S), q + m = (n_aggs (gX G) n).length → NI G c1 E P o → nx c o c1 o → KF c1 n V → MT c1 n (E (n_left (gX G) n + 9)) es → rw_is c1 (n + 1) (k ++ g_af (gT G) (gsl G) ((n_aggs (gX G) n).take q) (b_xp (bw_p es))) → cw (D + 1) 275 (am_blk 275 8) [n, gr, (q : Int)] [] c1 Q := by
  intro m
  induction m with
  | zero =>
    intro q c1 hq h x1 hf ht hr
    rw [List.take_of_length_le (by omega)] at hr
    have hagd : c_v c1 420 n 0 = ((n_aggs (gX G) n).length : Int) := (h.nd hn).2.2.2.2.2.2.2.2.2.2.1.1
    obtain ⟨d, rfl⟩ : ∃ d, D = d + 4 := ⟨D - 4, by omega⟩
    refine u275_8 ⟨h.rn hn, fun _ => ⟨h.rn hn, h.rn hn, ?_⟩, fun z => ?_⟩
    · rw [h.dlt hn, h.row hn]
      refine ⟨h.rb (h.g12 hn), n_add h (h.g12 hn) hs hr (by rw [List.length_append]; unfold g_af; rw [List.length_map]; exact hwk) (by rw [h.or1 hn]; decide) hU hnew hcap (by omega) (fun c2 E2 P2 o2 I2 b2 ea2 hs2 hb2 hm2 hU2 => ?_)⟩
      exact kk c2 E2 P2 o2 I2 (x1.tr b2.nx) (hf.bx h hn b2) ea2 hs2 (fun g => by rw [hb2]; omega) (by omega) hU2
    · rw [hagd] at z; omega
  | succ m ih =>
    intro q c1 hq h x1 hf ht hr
    have hk1 : q < (n_aggs (gX G) n).length := by omega
    have hg := List.getElem?_eq_getElem hk1
    have htk := List.take_succ_eq_append_getElem hk1
    have hmem := List.getElem_mem hk1
    generalize hE : (n_aggs (gX G) n)[q] = g0 at *
    obtain ⟨hagd, hagc⟩ := (h.nd hn).2.2.2.2.2.2.2.2.2.2.1
    have hns := h.ns (h.aS hn)
    obtain ⟨na1, na2, na3⟩ := hns.2.2.2.2.2.2.2.2.2.1
    obtain ⟨d, rfl⟩ : ∃ d, D = d + 1 := ⟨D - 1, by omega⟩
    refine u275_8 ⟨h.rn hn, fun z => ?_, fun _ => ⟨h.rn hn, ?_⟩⟩
    · rw [hagd] at z; omega
    rw [na1, hagc q g0 hg]
    have hcl : (k ++ g_af (gT G) (gsl G) ((n_aggs (gX G) n).take q) (b_xp (bw_p es))).length < 24 := by
      rw [List.length_append]; unfold g_af; rw [List.length_map, List.length_take]; omega
    refine ⟨na2, by omega, by rw [na3]; omega, h.rn hn, n_aggregate (V := V) h hn hl (by omega) (hag g0 hmem).1 (hag g0 hmem).2 hrow hes hesV hcl hf ht hr (fun c2 s2 I2 r2 => ?_)⟩
    rw [am_w1 (by omega)]
    refine ih (q + 1) c2 (by omega) I2 (x1.tr (h.scr hn s2).2) (hf.scr h hn s2) (ht.up h hn s2.up (by unfold scw xw rw_w; omega) (by unfold scw xw rw_w; omega) (fun y => by unfold scw xw rw_w; omega)) ?_
    have : g_af (gT G) (gsl G) ((n_aggs (gX G) n).take (q + 1)) (b_xp (bw_p es)) = g_af (gT G) (gsl G) ((n_aggs (gX G) n).take q) (b_xp (bw_p es)) ++ [a_val (x_act (gT G) g0) (fun r => ev (gT G) (x_env (gsl G) r) 121 (x_a (gT G) g0).toNat) (b_xp (bw_p es))] := by
      unfold g_af; rw [htk, List.map_append]; rfl
    rw [this, ← List.append_assoc]
    exact r2
end
