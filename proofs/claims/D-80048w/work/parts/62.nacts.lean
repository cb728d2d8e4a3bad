set_option maxRecDepth 100000
/-! nodes: small acts -/
def G_ok (G : nG) : Prop := b_sum (gcp G) (gb G) + 1024 ≤ gR G
/-- what is written aside at a node -/
def scw (G : nG) (n : Int) (q : Nat) (a : Int) : Prop := xw (gad G) q a ∨ rw_w (n + 1) q a ∨ rw_w (n + 3) q a
section
variable {W : Nat → Int → Prop} {G : nG} {c c' c2 : cs_S} {E E' : Int → bw_L} {P P' : List Int} {o o' o2 : Int → Int} {a b n r x : Int} {l m : rwt} {U : List rwt} {Q : Int → cs_S → Prop} {d w D : Nat} {τ : List Int} {t v : Int}
theorem NI.opn (h : NI G c E P o) : ∃ m0 n0, BI (gb G, gcp G, glm G, gR G, m0, n0) c E P o ∧ ∀ c' E' P' o', bx c o c' o' → BI (gb G, gcp G, glm G, gR G, m0, n0) c' E' P' o' → NI G c' E' P' o' := by
  obtain ⟨⟨m0, n0, h1, h2, h3⟩, h4⟩ := id h
  refine ⟨m0, n0, h1, fun c' E' P' o' b hb => ?_⟩
  obtain ⟨g1, g2, g3⟩ := h4.up h.p7 b.1 (fun q a hq hw => by unfold nq2 nq ex_q at hq; unfold bw_w at hw; omega) b.2
  exact ⟨⟨m0, n0, hb, by rw [g2, g3]; exact h2, by rw [g2, g3]; exact h3⟩, g1⟩
theorem NI.aS (h : NI G c E P o) (hn : n ∈ gA G) : n ∈ gS G := (h.2.2.2.2.1 n hn).1
theorem NI.nd (h : NI G c E P o) (hn : n ∈ gA G) : nd_C c (gad G) (gX G) n := (h.2.2.2.2.1 n hn).2
theorem NI.ns (h : NI G c E P o) (hn : n ∈ gS G) : ns_C c n := (h.2.2.1 n hn).1
theorem NI.rn (h : NI G c E P o) (hn : n ∈ gA G) : c_r c n = 1010 := (h.ns (h.aS hn)).1
theorem NI.out (h : NI G c E P o) (hn : n ∈ gA G) : c_v c 405 n 0 = n + 9 := (h.ns (h.aS hn)).2.2.1
theorem NI.dlt (h : NI G c E P o) (hn : n ∈ gA G) : c_v c 406 n 0 = n + 12 := (h.ns (h.aS hn)).2.2.2.1
theorem NI.aln (h : NI G c E P o) (hn : n ∈ gA G) : c_v c 407 n 0 = n + 15 := (h.ns (h.aS hn)).2.2.2.2.1
theorem NI.frs (h : NI G c E P o) (hn : n ∈ gA G) : c_v c 408 n 0 = n + 18 := (h.ns (h.aS hn)).2.2.2.2.2.1
theorem NI.row (h : NI G c E P o) (hn : n ∈ gA G) : c_v c 409 n 0 = n + 1 := (h.ns (h.aS hn)).2.2.2.2.2.2.1
theorem NI.key (h : NI G c E P o) (hn : n ∈ gA G) : c_v c 410 n 0 = n + 3 := (h.ns (h.aS hn)).2.2.2.2.2.2.2.1
theorem NI.rowok (h : NI G c E P o) (hn : n ∈ gA G) : rw_ok c (n + 1) := (h.ns (h.aS hn)).2.2.2.2.2.2.2.2.2.2.2.2.1
theorem NI.keyok (h : NI G c E P o) (hn : n ∈ gA G) : rw_ok c (n + 3) := (h.ns (h.aS hn)).2.2.2.2.2.2.2.2.2.2.2.2.2.1
theorem NI.lft (h : NI G c E P o) (hn : n ∈ gA G) : c_v c 403 n 0 = n_left (gX G) n := (h.nd hn).2.2.1
theorem NI.rgt (h : NI G c E P o) (hn : n ∈ gA G) : c_v c 404 n 0 = n_right (gX G) n := (h.nd hn).2.2.2.1
theorem NI.g9 (h : NI G c E P o) (hn : n ∈ gA G) : n + 9 ∈ gb G := (h.2.2.1 n (h.aS hn)).2.2.2.2.1
theorem NI.g12 (h : NI G c E P o) (hn : n ∈ gA G) : n + 12 ∈ gb G := (h.2.2.1 n (h.aS hn)).2.2.2.2.2.1
theorem NI.g15 (h : NI G c E P o) (hn : n ∈ gA G) : n + 15 ∈ gb G := (h.2.2.1 n (h.aS hn)).2.2.2.2.2.2.1
theorem NI.g18 (h : NI G c E P o) (hn : n ∈ gA G) : n + 18 ∈ gb G := (h.2.2.1 n (h.aS hn)).2.2.2.2.2.2.2
theorem NI.or1 (h : NI G c E P o) (hn : n ∈ gA G) : o (n + 1) = -1 := (h.2.2.1 n (h.aS hn)).2.2.1
theorem NI.or3 (h : NI G c E P o) (hn : n ∈ gA G) : o (n + 3) = -1 := (h.2.2.1 n (h.aS hn)).2.2.2.1
theorem NI.n237 (h : NI G c E P o) (hn : n ∈ gA G) : 237 ≤ n := (h.2.2.1 n (h.aS hn)).2.1
theorem NI.bag (h : NI G c E P o) (hb : b ∈ gb G) : bw_B c b (E b) o := by obtain ⟨⟨m0, n0, h1, -⟩, -⟩ := h; exact h1.bag hb
theorem NI.rb (h : NI G c E P o) (hb : b ∈ gb G) : c_r c b = 1006 := (h.bag hb).1
theorem NI.le (h : NI G c E P o) (hb : b ∈ gb G) : ((E b).length : Int) < 400000 := by obtain ⟨⟨m0, n0, h1, -⟩, -⟩ := h; exact h1.le hb
theorem NI.b7 (h : NI G c E P o) (hb : b ∈ gb G) : b ≠ 7 ∧ 0 ≤ b := by obtain ⟨⟨m0, n0, h1, -⟩, -⟩ := h; exact h1.b7 hb
theorem NI.exk (h : NI G c E P o) : ex_K c (gad G) (gT G) (gsl G) (gN G) := h.2.1
theorem NI.t64 (h : NI G c E P o) : x_T64 (gT G) := h.2.2.2.2.2.2.1
theorem NI.exad (h : NI G c E P o) (hn : n ∈ gA G) : c_v c 400 n 0 = gad G := (h.nd hn).1
/-- the row at a bag's place isn't a node's own -/
theorem NI.own (h : NI G c E P o) (hb : b ∈ gb G) {e : Int × rwt × Int} (he : e ∈ E b) (hn : n ∈ gA G) : e.1 ≠ n + 1 ∧ e.1 ≠ n + 3 ∧ o e.1 ≠ 7 ∧ rw_is c e.1 e.2.1 := by
  obtain ⟨q1, q2⟩ := (h.bag hb).mem he
  have h7 := h.b7 hb
  refine ⟨fun q => ?_, fun q => ?_, by rw [q2]; exact h7.1, q1⟩
  · have := h.or1 hn; rw [← q, q2] at this; omega
  · have := h.or3 hn; rw [← q, q2] at this; omega
theorem NI.scr (h : NI G c E P o) (hn : n ∈ gA G) (s : c_sm (scw G n) c c') : NI G c' E P o ∧ nx c o c' o := by
  have o1 := h.or1 hn
  have o3 := h.or3 hn
  have h237 := h.n237 hn
  refine ⟨h.sm s (fun q a hw => ?_), s.nx (fun q a hw => ?_)⟩
  · unfold scw xw rw_w at hw
    have e1 : n + 1 + 1 - 1 = n + 1 := by omega
    have e3 : n + 3 + 1 - 1 = n + 3 := by omega
    refine ⟨?_, by unfold nq2 nq ex_q; omega⟩
    unfold bw_k
    refine ⟨by omega, by omega, by omega, by omega, by omega, by omega, by omega, by omega, by omega, by omega, fun hq => ?_, fun hq => ?_⟩
    · rcases hw with hw | (hw | hw) | (hw | hw)
      · omega
      · rw [hw.1]; exact o1
      · omega
      · rw [hw.1]; exact o3
      · omega
    · rcases hw with hw | (hw | hw) | (hw | hw)
      · omega
      · omega
      · rw [hw.1, e1]; exact o1
      · omega
      · rw [hw.1, e3]; exact o3
  · unfold scw xw rw_w at hw
    unfold nw
    omega
/-- adding to a bag -/
theorem n_add (h : NI G c E P o) (hb : b ∈ gb G) (hs : b_ok w (bw_p (E b))) (hr : rw_is c r l) (hl : l.length = w) (hor : o r ≠ 7) (hU : ∀ e ∈ E b, e.2.1 ∈ U) (hlU : l ∈ U) (hcap : (U.length : Int) ≤ gcp G b) (hm : b_m (bw_p (E b)) + v.natAbs < 2147483648)
    (kk : ∀ c' E' P' o', NI G c' E' P' o' → bx c o c' o' → (∀ a, a ≠ b → E' a = E a) → b_ok w (bw_p (E' b)) → (∀ g, b_s g (bw_p (E' b)) = b_s g (bw_p (E b)) + v * g l) → b_m (bw_p (E' b)) ≤ b_m (bw_p (E b)) + v.natAbs → (∀ e ∈ E' b, e.2.1 ∈ U) → Q 0 c') : kbag_add (d + 4) b r v c Q := by
  obtain ⟨m0, n0, hB, hO⟩ := h.opn
  exact k_add hB hb hs hr hl hor hU hlU hcap hm (fun c' E' P' o' I bx1 ea hs' hb' hm' hU' _ => kk c' E' P' o' (hO c' E' P' o' bx1 I) bx1 ea hs' hb' hm' hU')
theorem n_clear (h : NI G c E P o) (hb : b ∈ gb G) (kk : ∀ c' E' P' o', NI G c' E' P' o' → bx c o c' o' → (∀ a, a ≠ b → E' a = E a) → E' b = [] → Q 0 c') : kbag_clear (d + 2) b c Q := by
  obtain ⟨m0, n0, hB, hO⟩ := h.opn
  exact k_bclear hB hb (fun c' E' P' o' I bx1 ea hs' => kk c' E' P' o' (hO c' E' P' o' bx1 I) bx1 ea hs')
theorem n_addAll (h : NI G c E P o) (hb : b ∈ gb G) (ha : a ∈ gb G) (hab : a ≠ b) (hs : b_ok w (bw_p (E b))) (hw : ∀ e ∈ E a, e.2.1.length = w) (hU1 : ∀ e ∈ E b, e.2.1 ∈ U) (hU2 : ∀ e ∈ E a, e.2.1 ∈ U) (hcap : (U.length : Int) ≤ gcp G b) (hm : b_m (bw_p (E b)) + b_m (bw_p (E a)) < 2147483648)
    (kk : ∀ c' E' P' o', NI G c' E' P' o' → bx c o c' o' → (∀ a, a ≠ b → E' a = E a) → b_ok w (bw_p (E' b)) → (∀ g, b_s g (bw_p (E' b)) = b_s g (bw_p (E b)) + b_s g (bw_p (E a))) → b_m (bw_p (E' b)) ≤ b_m (bw_p (E b)) + b_m (bw_p (E a)) → (∀ e ∈ E' b, e.2.1 ∈ U) → Q 0 c') : kbag_addAll (d + 5) b a c Q := by
  obtain ⟨m0, n0, hB, hO⟩ := h.opn
  exact k_addAll hB hb ha hab hs hw hU1 hU2 hcap hm (fun c' E' P' o' I bx1 ea hs' hb' hm' hU' => kk c' E' P' o' (hO c' E' P' o' bx1 I) bx1 ea hs' hb' hm' hU')
/-- likewise, with more room for a while -/
theorem n_addAllT (h : NI G c E P o) (hG : G_ok G) (hb : b ∈ gb G) (ha : a ∈ gb G) (hab : a ≠ b) (hs : b_ok w (bw_p (E b))) (hw : ∀ e ∈ E a, e.2.1.length = w) (hU1 : ∀ e ∈ E b, e.2.1 ∈ U) (hU2 : ∀ e ∈ E a, e.2.1 ∈ U) (hlm : (U.length : Int) ≤ glm G b) (hcap : (U.length : Int) ≤ gcp G b + 1024) (hm : b_m (bw_p (E b)) + b_m (bw_p (E a)) < 2147483648)
    (hfin : ∀ F : bw_L, b_ok w (bw_p F) → (∀ g, b_s g (bw_p F) = b_s g (bw_p (E b)) + b_s g (bw_p (E a))) → (F.length : Int) ≤ gcp G b)
    (kk : ∀ c' E' P' o', NI G c' E' P' o' → bx c o c' o' → (∀ a, a ≠ b → E' a = E a) → b_ok w (bw_p (E' b)) → (∀ g, b_s g (bw_p (E' b)) = b_s g (bw_p (E b)) + b_s g (bw_p (E a))) → Q 0 c') : kbag_addAll (d + 5) b a c Q := by
  obtain ⟨m0, n0, hB, hO⟩ := h.opn
  have hr1 := hB.2.2.2.2.2.1
  have hnd : (gb G).Nodup := hB.2.2.2.2.1
  have hup := b_sum_upd (f := gcp G) (g := fun y => if y = b then max (gcp G b) (U.length : Int) else gcp G y) hnd hb (fun y _ hy => if_neg hy)
  have hT : BI (gb G, fun y => if y = b then max (gcp G b) (U.length : Int) else gcp G y, glm G, gR G, m0, n0) c E P o := by
    refine hB.recap (fun y hy => ?_) ?_
    · obtain ⟨a1, a2, -⟩ := hr1 y hy
      have a1 : ((E y).length : Int) ≤ gcp G y := a1
      have a2 : gcp G y ≤ glm G y := a2
      (try dsimp only)
      split
      · rename_i e; subst e; omega
      · exact ⟨a1, a2⟩
    · rw [hup, if_pos rfl]; unfold G_ok at hG; omega
  refine k_addAll hT hb ha hab hs hw hU1 hU2 (by show _ ≤ (if b = b then max (gcp G b) (U.length : Int) else gcp G b); rw [if_pos rfl]; omega) hm (fun c' E' P' o' I bx1 ea hs' hb' hm' hU' => kk c' E' P' o' (hO c' E' P' o' bx1 ?_) bx1 ea hs' hb')
  refine I.recap (fun y hy => ?_) hB.2.2.2.2.2.2.1
  obtain ⟨a1, a2, -⟩ := hr1 y hy
  refine ⟨?_, a2⟩
  by_cases e : y = b
  · subst e; exact hfin _ hs' hb'
  · rw [ea y e]; exact a1
/-- conditions -/
theorem n_isTrue (h : NI G c E P o) (hn : n ∈ gA G) (hD : 250 ≤ D) (hc0 : 0 ≤ n_cond (gX G) n) (hc : n_cond (gX G) n < gN G) (hw : x_wt (gT G) (gsl G) (gct G) τ 121 (n_cond (gX G) n).toNat t) (hr : rw_is c r l) (hg : rg τ l) (kk : ∀ c', c_sm (xw (gad G)) c c' → Q (if x_tr (gT G) (gsl G) (n_cond (gX G) n).toNat l then 1 else 0) c') : knode_isTrue D n r c Q := by
  obtain ⟨d, rfl⟩ : ∃ d, D = d + 1 := ⟨D - 1, by omega⟩
  have hK := h.exk
  have ec : c_v c 414 n 0 = (((n_cond (gX G) n).toNat : Nat) : Int) := by rw [(h.nd hn).2.2.2.2.2.2.1]; omega
  refine u270_e ⟨h.rn hn, h.rn hn, ?_⟩
  rw [h.exad hn, ec]
  refine ⟨hK.1.1, k_of1 h.t64 hg 121 _ t d c _ hw (by omega) (by omega) hK hr (fun c1 s1 n1 => ?_)⟩
  have hK1 := hK.sm s1
  have e1 : c_v c1 400 n 0 = gad G := by rw [s1.v (by unfold xw; omega)]; exact h.exad hn
  rw [e1, s1.r]
  generalize hv : ev (gT G) (x_env (gsl G) l) 121 (n_cond (gX G) n).toNat = v at *
  have lc := lc_iff (rw_ov v) 1
  have kk := kk c1 s1
  unfold x_tr at kk
  rw [hv] at kk
  refine ⟨fun q => u270_1 (u270_2 ?_), fun q => ⟨h.rn hn, hK1.1.1, u126_e ⟨hK1.1.1, fun q2 => u270_1 (u270_2 ?_), fun q2 => u270_2 ?_⟩⟩⟩
  · have : v ≠ some 1 := by intro e; subst e; exact q (lc.1.mpr rfl)
    simpa [this] using kk
  · have : v ≠ some 1 := by intro e; subst e; rw [n1] at q2; exact q2 rfl
    simpa [this] using kk
  · have : v = some 1 := by
      cases v with
      | none => rw [n1] at q2; exact absurd (by simp [x_nl]) q2
      | some z => exact congrArg some (lc.1.mp (Classical.not_not.mp q))
    simpa [this] using kk
/-- values -/
theorem n_values0 (h : NI G c E P o) (hn : n ∈ gA G) (hD : 250 ≤ D) (hg : rg τ l) (hto : r ≠ x) (h8 : (n_list (gX G) n).length ≤ 8) (hlt : ∀ e ∈ n_list (gX G) n, e < gN G) (hw : ∀ e ∈ n_list (gX G) n, ∃ t, x_wt (gT G) (gsl G) (gct G) τ 121 e t) (kk : ∀ c', c_sm (fun q a => xw (gad G) q a ∨ rw_w x q a) c c' → rw_is c' x (x_vals (gT G) (gsl G) (n_list (gX G) n) l) → rw_is c' r l → Q 0 c') : ∀ (m k : Nat) (c1 : cs_S) (z4 z5 : Int), k + m = (n_list (gX G) n).length → c_sm (fun q a => xw (gad G) q a ∨ rw_w x q a) c c1 → rw_is c1 x (x_vals (gT G) (gsl G) ((n_list (gX G) n).take k) l) → rw_is c1 r l → cw (D + 1) 272 (am_blk 272 1) [n, r, x, (k : Int), z4, z5] [] c1 Q := by
  have hK := h.exk
  obtain ⟨-, -, -, -, -, -, -, -, -, ⟨hl1, hl2⟩, -⟩ := h.nd hn
  have hns := h.ns (h.aS hn)
  intro m
  induction m with
  | zero =>
    intro k c1 z4 z5 hk s hx hr
    rw [List.take_of_length_le (by omega)] at hx
    refine u272_1 ⟨by rw [s.r]; exact h.rn hn, fun _ => kk c1 s hx hr, fun q => ?_⟩
    rw [s.v (by unfold xw rw_w; omega), hl1] at q
    omega
  | succ m ih =>
    intro k c1 z4 z5 hk s hx hr
    have hK1 : ex_K c1 (gad G) (gT G) (gsl G) (gN G) := hK.up s.up (fun q a hq hw => by unfold xw rw_w at hw; unfold ex_q at hq; omega)
    have hkl : k < (n_list (gX G) n).length := by omega
    have hget := List.getElem?_eq_getElem hkl
    have hmem := List.getElem_mem hkl
    generalize hE : (n_list (gX G) n)[k] = e0 at *
    obtain ⟨t, ht⟩ := hw e0 hmem
    have f1 : c_v c1 418 n 0 = ((n_list (gX G) n).length : Int) := by rw [s.v (by unfold xw rw_w; omega)]; exact hl1
    have f2 : c_v c1 417 n 0 = n + 5 := by rw [s.v (by unfold xw rw_w; omega)]; exact hns.2.2.2.2.2.2.2.2.1.1
    have f3 : c_v c1 917 (n + 5) k = (e0 : Int) := by rw [s.v (by unfold xw rw_w; omega)]; exact hl2 k e0 hget
    have f4 : c_v c1 400 n 0 = gad G := by rw [s.v (by unfold xw rw_w; omega)]; exact h.exad hn
    refine u272_1 ⟨by rw [s.r]; exact h.rn hn, fun q => ?_, fun q => ?_⟩
    · rw [f1] at q; omega
    · rw [f2, f3, f4, s.r, s.r, s.l]
      refine ⟨h.rn hn, h.rn hn, hns.2.2.2.2.2.2.2.2.1.2.1, by omega, by rw [hns.2.2.2.2.2.2.2.2.1.2.2]; omega, hK1.1.1, k_of1 h.t64 hg 121 e0 t D c1 _ ht (hlt e0 hmem) (by omega) hK1 hr (fun c2 s2 n2 => ?_)⟩
      have hK2 := hK1.sm s2
      have f5 : c_v c2 400 n 0 = gad G := by rw [s2.v (by unfold xw; omega)]; exact f4
      have hx2 := hx.x_w s2
      have hr2 := hr.x_w s2
      rw [f5, s2.r, s.r]
      refine ⟨h.rn hn, hK2.1.1, u126_e ⟨hK2.1.1, hx2.1.1, ?_⟩⟩
      rw [n2]
      have hlen : (x_vals (gT G) (gsl G) ((n_list (gX G) n).take k) l).length = k := by unfold x_vals; rw [List.length_map, List.length_take]; omega
      refine k_append hx2 (by omega) (by omega) (by unfold x_nl; split <;> omega) (fun c3 s3 hx3 => ?_)
      have ew : am_w ((k : Int) + 1) = ((k + 1 : Nat) : Int) := by rw [am_w_in (by omega) (by omega)]; omega
      rw [ew]
      refine ih (k + 1) c3 _ _ (by omega) ((s.tr (s2.mono (fun q a hw => Or.inl hw))).tr (s3.mono (fun q a hw => Or.inr hw))) ?_ (hr2.other hx2.1 s3 hto)
      have : x_vals (gT G) (gsl G) ((n_list (gX G) n).take (k + 1)) l = x_vals (gT G) (gsl G) ((n_list (gX G) n).take k) l ++ [if x_nl (ev (gT G) (x_env (gsl G) l) 121 e0) = 0 then some (rw_ov (ev (gT G) (x_env (gsl G) l) 121 e0)) else none] := by
        rw [List.take_succ_eq_append_getElem hkl, hE]
        unfold x_vals
        rw [List.map_append]
        congr 1
        simp only [List.map_cons, List.map_nil]
        congr 1
        cases ev (gT G) (x_env (gsl G) l) 121 e0 <;> simp [x_nl, rw_ov]
      rw [this]
      exact hx3
theorem n_values (h : NI G c E P o) (hn : n ∈ gA G) (hD : 250 ≤ D) (hg : rg τ l) (hr : rw_is c r l) (hx : rw_ok c x) (hto : r ≠ x) (h8 : (n_list (gX G) n).length ≤ 8) (hlt : ∀ e ∈ n_list (gX G) n, e < gN G) (hw : ∀ e ∈ n_list (gX G) n, ∃ t, x_wt (gT G) (gsl G) (gct G) τ 121 e t) (kk : ∀ c', c_sm (fun q a => xw (gad G) q a ∨ rw_w x q a) c c' → rw_is c' x (x_vals (gT G) (gsl G) (n_list (gX G) n) l) → rw_is c' r l → Q 0 c') : knode_values (D + 1) n r x c Q := by
  refine u272_e ⟨hx.1, k_clear hx (fun c1 s1 h1 => ?_)⟩
  exact n_values0 h hn hD hg hto h8 hlt hw kk (n_list (gX G) n).length 0 c1 0 0 (by omega) (s1.mono (fun q a hw => Or.inr hw)) h1 (hr.other hx s1 hto)
/-- pairs of rows -/
theorem n_pair (h : NI G c E P o) (hn : n ∈ gA G) (hD : 250 ≤ D) (hc0 : 0 ≤ n_cond (gX G) n) (hc : n_cond (gX G) n < gN G) (hw : x_wt (gT G) (gsl G) (gct G) τ 121 (n_cond (gX G) n).toNat t) (ha : rw_is c a l) (hb : rw_is c b m) (han : a ≠ n + 1) (hbn : b ≠ n + 1) (hg : rg τ (l ++ m)) (hlen : l.length + m.length ≤ 24) (kk : ∀ c', c_sm (scw G n) c c' → rw_is c' (n + 1) (l ++ m) → Q (if x_tr (gT G) (gsl G) (n_cond (gX G) n).toNat (l ++ m) then 1 else 0) c') : knode_pair (D + 1) n a b c Q := by
  obtain ⟨d, rfl⟩ : ∃ d, D = d + 2 := ⟨D - 2, by omega⟩
  refine u269_e ⟨h.rn hn, ?_⟩
  rw [h.row hn]
  refine ⟨(h.rowok hn).1, k_take ha (h.rowok hn) han (fun c1 s1 h1 _ => ?_)⟩
  have s1' : c_sm (scw G n) c c1 := s1.mono (fun q a hw => Or.inr (Or.inl hw))
  obtain ⟨I1, x1⟩ := h.scr hn s1'
  have hb1 := hb.other (h.rowok hn) s1 hbn
  rw [I1.row hn]
  refine ⟨I1.rn hn, h1.1.1, k_join hb1 h1 hbn hlen (fun c2 s2 h2 _ => ?_)⟩
  have s2' : c_sm (scw G n) c1 c2 := s2.mono (fun q a hw => Or.inr (Or.inl hw))
  obtain ⟨I2, x2⟩ := I1.scr hn s2'
  rw [I2.row hn]
  refine ⟨I2.rn hn, I2.rn hn, n_isTrue I2 hn (by omega) hc0 hc hw h2 hg (fun c3 s3 => ?_)⟩
  exact kk c3 ((s1'.tr s2').tr (s3.mono (fun q a hw => Or.inl hw))) (h2.x_w s3)
end
