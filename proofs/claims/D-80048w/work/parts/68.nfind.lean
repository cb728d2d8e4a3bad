set_option maxRecDepth 100000
/-! nodes: groups, the keys -/
def b_xp (D : List (rwt × Int)) : List rwt := D.flatMap (fun e => List.replicate e.2.toNat e.1)
theorem ls_rep {g : rwt → Int} {x : rwt} : ∀ k : Nat, ls g (List.replicate k x) = (k : Int) * g x := by
  intro k
  induction k with
  | zero => simp [ls]
  | succ k ih =>
    rw [List.replicate_succ]
    simp only [ls]
    rw [ih]
    have : ((k + 1 : Nat) : Int) = (k : Int) + 1 := by omega
    rw [this, Int.add_mul]
    omega
theorem b_xp_is {D : List (rwt × Int)} (h : ∀ e ∈ D, 0 < e.2) : b_is D (b_xp D) := by
  intro g
  induction D with
  | nil => rfl
  | cons e D ih =>
    unfold b_xp at *
    rw [List.flatMap_cons, ls_app, b_s_cons, ih (fun e he => h e (List.mem_cons_of_mem _ he)), ls_rep]
    have := h e List.mem_cons_self
    have : ((e.2.toNat : Nat) : Int) = e.2 := by omega
    rw [this]
theorem b_xp_perm {D : List (rwt × Int)} {L : List rwt} (h : ∀ e ∈ D, 0 < e.2) (hi : b_is D L) : (b_xp D).Perm L := (b_xp_is h).perm hi
theorem b_xp_filter {D : List (rwt × Int)} {p : rwt → Bool} : b_xp (D.filter (fun e => p e.1)) = (b_xp D).filter p := by
  induction D with
  | nil => rfl
  | cons e D ih =>
    rw [List.filter_cons]
    unfold b_xp at *
    rw [List.flatMap_cons, List.filter_append]
    by_cases q : p e.1 = true
    · rw [if_pos q, List.flatMap_cons, ih]
      congr 1
      rw [List.filter_eq_self.mpr]
      intro a ha
      rw [List.eq_of_mem_replicate ha]; exact q
    · rw [if_neg q, ih]
      have : (List.replicate e.2.toNat e.1).filter p = [] := by
        rw [List.filter_eq_nil_iff]
        intro a ha
        rw [List.eq_of_mem_replicate ha]; exact q
      rw [this]; rfl
/-- keys found: the rows of keys hold values of the rows beneath -/
def KF (c : cs_S) (n : Int) (V : List rwt) : Prop := c_v c 423 n 0 = c_v c 82 7 0 ∧ c_v c 424 n 0 = c_v c 83 7 0 ∧ (V.length : Int) ≤ pk_K c ∧ ∀ (i : Nat) (v : rwt), V[i]? = some v → rw_is c (pk_y c i) v
section
variable {W : Nat → Int → Prop} {G : nG} {c c' c2 : cs_S} {E E' : Int → bw_L} {P P' : List Int} {o o' o2 : Int → Int} {a b n r x : Int} {l m k : rwt} {U L L' R R' F F' V : List rwt} {Q : Int → cs_S → Prop} {d w D N Nl Nr : Nat} {τ τl τr : List Int} {t v z1 z2 s : Int}
theorem NI.pk (h : NI G c E P o) : PK c (gS G) o := h.2.2.2.2.2.1
theorem KF.up (h : KF c n V) (hI : NI G c E P o) (hn : n ∈ gA G) (u : c_up W c c') (w1 : ¬ W 423 n) (w2 : ¬ W 424 n) (w3 : ¬ W 82 7) (w4 : ¬ W 83 7) (w5 : ∀ y, ¬ W 582 y) (w6 : ∀ i, 0 ≤ i → i < pk_K c → ¬ W 40 (pk_y c i) ∧ ¬ W 41 (pk_y c i) ∧ ¬ W 42 (pk_y c i) ∧ ¬ W 540 (pk_y c i + 1)) : KF c' n V := by
  obtain ⟨h1, h2, h3, h4⟩ := h
  have en : c_r c n ≠ 0 := by rw [hI.rn hn]; decide
  have e7 : c_r c 7 ≠ 0 := by rw [hI.p7]; decide
  obtain ⟨p1, p2, p3, -⟩ := hI.pk
  have ek : c_r c (c_v c 82 7 0) ≠ 0 := by rw [p1]; decide
  have f1 : c_v c' 82 7 0 = c_v c 82 7 0 := u.v e7 w3 0
  have f2 : c_v c' 83 7 0 = c_v c 83 7 0 := u.v e7 w4 0
  have fK : pk_K c' = pk_K c := by unfold pk_K; rw [f1, u.l ek]
  have fy : ∀ i, pk_y c' i = pk_y c i := by intro i; unfold pk_y; rw [f1, u.v ek (w5 _)]
  refine ⟨by rw [u.v en w1, f1]; exact h1, by rw [u.v en w2, f2]; exact h2, by rw [fK]; exact h3, fun i v hi => ?_⟩
  have hi0 := (List.getElem?_eq_some_iff.mp hi).1
  obtain ⟨q1, q2, q3, q4⟩ := w6 i (by omega) (by omega)
  rw [fy]
  exact (h4 i v hi).up u q1 q2 q3 q4
theorem KF.bx (h : KF c n V) (hI : NI G c E P o) (hn : n ∈ gA G) (u : bx c o c' o') : KF c' n V := by
  refine h.up hI hn u.1 (by unfold bw_w; omega) (by unfold bw_w; omega) (by unfold bw_w; omega) (by unfold bw_w; omega) (fun y => by unfold bw_w; omega) (fun i hi hi2 => ?_)
  have ho := (hI.pk.2.2.2.2.2 i hi hi2).2.1
  have e : pk_y c i + 1 - 1 = pk_y c i := by omega
  refine ⟨by unfold bw_w; omega, by unfold bw_w; omega, by unfold bw_w; omega, ?_⟩
  unfold bw_w
  rw [e]
  omega
theorem KF.scr (h : KF c n V) (hI : NI G c E P o) (hn : n ∈ gA G) (s : c_sm (scw G n) c c') : KF c' n V := by
  refine h.up hI hn s.up (by unfold scw xw rw_w; omega) (by unfold scw xw rw_w; omega) (by unfold scw xw rw_w; omega) (by unfold scw xw rw_w; omega) (fun y => by unfold scw xw rw_w; omega) (fun i hi hi2 => ?_)
  have ho := (hI.pk.2.2.2.2.2 i hi hi2).2.2.2.1 n (hI.aS hn)
  refine ⟨?_, ?_, ?_, ?_⟩ <;> (unfold scw xw rw_w; omega)
/-- a row is of a group -/
theorem n_isOf0 (hr : rw_is c r l) (hg : rw_is c x k) (hle : k.length ≤ l.length) : ∀ (m q : Nat), q + m = k.length → l.take q = k.take q → Q (if l.take k.length = k then 1 else 0) c → cw (d + 2) 276 (am_blk 276 1) [n, r, x, (q : Int)] [] c Q := by
  intro m
  induction m with
  | zero =>
    intro q hq he kk
    have e1 : q = k.length := by omega
    subst e1
    rw [List.take_length] at he
    rw [if_pos he] at kk
    exact u276_1 ⟨hg.1.1, k_size hg ⟨fun _ => kk, fun w => absurd (by omega) w⟩⟩
  | succ m ih =>
    intro q hq he kk
    have h1 : q < k.length := by omega
    have h2 : q < l.length := by omega
    have h24 := hg.2.2.1
    refine u276_1 ⟨hg.1.1, k_size hg ⟨fun w => absurd w (by omega), fun _ => k_compare hr hg (List.getElem?_eq_getElem h2) (List.getElem?_eq_getElem h1) ⟨fun z => ?_, fun z => ?_⟩⟩⟩
    · rw [am_w1 (by omega)]
      refine ih (q + 1) (by omega) ?_ kk
      rw [List.take_succ_eq_append_getElem h1, List.take_succ_eq_append_getElem h2, he, r_oc_0.mp z]
    · rw [if_neg] at kk
      · exact kk
      · intro e
        apply z
        rw [r_oc_0]
        have : (l.take k.length)[q]? = k[q]? := congrArg (fun y : rwt => y[q]?) e
        rw [List.getElem?_take_of_lt h1, List.getElem?_eq_getElem h1, List.getElem?_eq_getElem h2] at this
        exact Option.some.inj this
theorem n_isOf (hr : rw_is c r l) (hg : rw_is c x k) (hle : k.length ≤ l.length) (kk : Q (if l.take k.length = k then 1 else 0) c) : knode_isOf (d + 2) n r x c Q :=
  u276_e (n_isOf0 hr hg hle k.length 0 (by omega) (by simp) kk)
/-- the keys of all rows beneath -/
theorem n_find0 (hn : n ∈ gA G) (hl : n_left (gX G) n ∈ gA G) (hD : 260 ≤ D) (h8 : (n_list (gX G) n).length ≤ 8) (hlt : ∀ e ∈ n_list (gX G) n, e < gN G) (hwl : ∀ e ∈ n_list (gX G) n, ∃ t, x_wt (gT G) (gsl G) (gct G) τ 121 e t) (hrow : ∀ e ∈ E (n_left (gX G) n + 9), rg τ e.2.1) : ∀ (m q : Nat) (c : cs_S), q + m = (E (n_left (gX G) n + 9)).length → ((E (n_left (gX G) n + 9)).length : Int) ≤ pk_K c → NI G c E P o → KF c n ((bw_p (E (n_left (gX G) n + 9))).take q |>.map (fun e => x_vals (gT G) (gsl G) (n_list (gX G) n) e.1)) →
    (∀ c', NI G c' E P o → nx c o c' o → KF c' n ((bw_p (E (n_left (gX G) n + 9))).map (fun e => x_vals (gT G) (gsl G) (n_list (gX G) n) e.1)) → Q 0 c') → cw (D + 1) 274 (am_blk 274 1) [n, ((E (n_left (gX G) n + 9)).length : Int), (q : Int)] [] c Q := by
  intro m
  induction m with
  | zero =>
    intro q c hq hK h hf kk
    rw [List.take_of_length_le (by unfold bw_p; rw [List.length_map]; omega)] at hf
    exact u274_1 ⟨fun _ => kk c h (nx.rf c o) hf, fun w => absurd (by omega) w⟩
  | succ m ih =>
    intro q c hq hK h hf kk
    have hk1 : q < (E (n_left (gX G) n + 9)).length := by omega
    have hg := List.getElem?_eq_getElem hk1
    have hp1 : q < (bw_p (E (n_left (gX G) n + 9))).length := by unfold bw_p; rw [List.length_map]; exact hk1
    have hpg : (bw_p (E (n_left (gX G) n + 9)))[q] = (E (n_left (gX G) n + 9))[q].2 := by unfold bw_p; rw [List.getElem_map]
    generalize hE : (E (n_left (gX G) n + 9))[q] = e0 at *
    have hmem : e0 ∈ E (n_left (gX G) n + 9) := List.mem_of_getElem? hg
    obtain ⟨f1, f2, f3, f4⟩ := id hf
    obtain ⟨p1, p2, p3, p4, p5, p6⟩ := h.pk
    obtain ⟨y1, y2, y3, y4, y5⟩ := p6 q (by omega) (by omega)
    have hb7 := h.b7 (h.g9 hl)
    obtain ⟨q1, q2, q3, q4⟩ := h.own (h.g9 hl) hmem hn
    have qy : e0.1 ≠ pk_y c q := fun w => by
      have := ((h.bag (h.g9 hl)).mem hmem).2
      rw [w, y2] at this
      omega
    obtain ⟨d, rfl⟩ : ∃ d, D = d + 1 := ⟨D - 1, by omega⟩
    refine u274_1 ⟨fun w => absurd w (by omega), fun _ => ⟨h.rn hn, ?_⟩⟩
    rw [h.lft hn, h.out hl]
    refine ⟨h.rn hl, h.rb (h.g9 hl), k_brow (h.bag (h.g9 hl)) hg ⟨h.rn hn, ?_⟩⟩
    rw [f1]
    refine ⟨p1, by omega, by show _ < pk_K c; omega, h.rn hn, ?_⟩
    show knode_values (d + 1) n e0.1 (pk_y c q) c _
    refine n_values h hn (by omega) (hrow e0 hmem) q4 y1 qy h8 hlt hwl (fun c1 s1 v1 _ => ?_)
    have hS := h.2
    have I1 : NI G c1 E P o := h.sm s1 (fun q' a hw => by
      unfold xw rw_w at hw
      refine ⟨?_, by unfold nq2 nq ex_q; omega⟩
      unfold bw_k
      refine ⟨by omega, by omega, by omega, by omega, by omega, by omega, by omega, by omega, by omega, by omega, fun hq' => ?_, fun hq' => ?_⟩
      · rcases hw with hw | hw | hw
        · omega
        · rw [hw.1]; exact y2
        · omega
      · rcases hw with hw | hw | hw
        · omega
        · omega
        · rw [hw.1]
          have : pk_y c q + 1 - 1 = pk_y c q := by omega
          rw [this]; exact y2)
    have x1 : nx c o c1 o := s1.nx (fun q' a hw => by unfold xw rw_w at hw; unfold nw; omega)
    have s1y : ∀ i, pk_y c1 i = pk_y c i := by
      intro i; unfold pk_y; rw [s1.v (q := 82) (by unfold xw rw_w; omega), s1.v (q := 582) (by unfold xw rw_w; omega)]
    have s1K : pk_K c1 = pk_K c := by unfold pk_K; rw [s1.v (q := 82) (by unfold xw rw_w; omega), s1.l]
    rw [am_w1 (by have := h.le (h.g9 hl); omega)]
    refine ih (q + 1) c1 (by omega) (by rw [s1K]; exact hK) I1 ?_ (fun c' I' x' f' => kk c' I' (x1.tr x') f')
    refine ⟨?_, ?_, ?_, fun i v hi => ?_⟩
    · rw [s1.v (q := 423) (by unfold xw rw_w; omega), s1.v (q := 82) (by unfold xw rw_w; omega)]; exact f1
    · rw [s1.v (q := 424) (by unfold xw rw_w; omega), s1.v (q := 83) (by unfold xw rw_w; omega)]; exact f2
    · rw [s1K, List.length_map, List.length_take]; omega
    · rw [s1y]
      rw [List.take_succ_eq_append_getElem hp1, hpg, List.map_append, List.getElem?_append] at hi
      split at hi
      · rename_i hlt2
        rw [List.length_map, List.length_take] at hlt2
        have h0 := f4 i v hi
        have hne : pk_y c i ≠ pk_y c q := (p6 q (by omega) (by omega)).2.2.2.2 i (by omega) (by omega) (by omega)
        have hne2 := h0.1
        -- another row of keys stays
        have t1 : pk_y c i ≠ pk_y c q + 1 := by intro e; have := y1.2.2.1; rw [← e, hne2.1] at this; cases this
        have t2 : pk_y c i + 1 ≠ pk_y c q := by intro e; have := hne2.2.2.1; rw [e, y1.1] at this; cases this
        exact h0.sm s1 (by unfold xw rw_w; omega) (by unfold xw rw_w; omega) (by unfold xw rw_w; omega) (by unfold xw rw_w; omega)
      · rename_i hge
        rw [List.length_map, List.length_take] at hge hi
        have hiq : i = q := by
          have := (List.getElem?_eq_some_iff.mp hi).1
          simp at this
          omega
        subst hiq
        have : i - min i (bw_p (E (n_left (gX G) n + 9))).length = 0 := by omega
        rw [this] at hi
        simp at hi
        subst hi
        exact v1
theorem n_findKeys (h : NI G c E P o) (hn : n ∈ gA G) (hl : n_left (gX G) n ∈ gA G) (hD : 270 ≤ D) (h8 : (n_list (gX G) n).length ≤ 8) (hlt : ∀ e ∈ n_list (gX G) n, e < gN G) (hwl : ∀ e ∈ n_list (gX G) n, ∃ t, x_wt (gT G) (gsl G) (gct G) τ 121 e t) (hrow : ∀ e ∈ E (n_left (gX G) n + 9), rg τ e.2.1) (h512 : (E (n_left (gX G) n + 9)).length ≤ 512)
    (kk : ∀ c', NI G c' E P o → nx c o c' o → KF c' n ((bw_p (E (n_left (gX G) n + 9))).map (fun e => x_vals (gT G) (gsl G) (n_list (gX G) n) e.1)) → Q 0 c') : knode_findKeys (D + 1) n c Q := by
  obtain ⟨d, rfl⟩ : ∃ d, D = d + 1 := ⟨D - 1, by omega⟩
  refine u274_e ⟨h.rn hn, ?_⟩
  rw [h.lft hn, h.out hl]
  refine ⟨h.rn hl, h.rb (h.g9 hl), k_bsize (h.bag (h.g9 hl)) ⟨h.rn hn, ?_⟩⟩
  have p0 : c_v c 401 n 0 = 7 := (h.ns (h.aS hn)).2.1
  rw [p0]
  refine ⟨h.p7, n_keys h (by omega) (by omega) (by omega) (fun c1 I1 x1 hK1 => ⟨I1.rn hn, fun c2 e2 => ?_⟩)⟩
  have s2 : c_sm (fun q a => q = 423 ∧ a = n) c1 c2 := by subst e2; exact c_sm.u c1 ⟨rfl, rfl⟩ _ _
  have I2 : NI G c2 E P o := I1.sm s2 (fun q a hw => ⟨by unfold bw_k; omega, by unfold nq2 nq ex_q; omega⟩)
  have x2 : nx c1 o c2 o := s2.nx (fun q a hw => by unfold nw; omega)
  have p2 : c_v c2 401 n 0 = 7 := (I2.ns (I2.aS hn)).2.1
  rw [p2]
  refine ⟨I2.rn hn, I2.p7, u40_e ⟨I2.p7, I2.rn hn, fun c3 e3 => ?_⟩⟩
  have s3 : c_sm (fun q a => q = 424 ∧ a = n) c2 c3 := by subst e3; exact c_sm.u c2 ⟨rfl, rfl⟩ _ _
  have I3 : NI G c3 E P o := I2.sm s3 (fun q a hw => ⟨by unfold bw_k; omega, by unfold nq2 nq ex_q; omega⟩)
  have x3 : nx c2 o c3 o := s3.nx (fun q a hw => by unfold nw; omega)
  have eK : pk_K c3 = pk_K c1 := by unfold pk_K; rw [s3.v (q := 82) (by omega), s2.v (q := 82) (by omega), s3.l, s2.l]
  refine n_find0 hn hl (by omega) h8 hlt hwl hrow (E (n_left (gX G) n + 9)).length 0 c3 (by omega) (by omega) I3 ⟨?_, ?_, by simp; rw [eK]; omega, fun i v hi => by simp at hi⟩ (fun c' I' x' f' => kk c' I' (((x1.tr x2).tr x3).tr x') f')
  · rw [s3.v (q := 423) (by omega), s3.v (q := 82) (by omega), s2.v (q := 82) (by omega)]; subst e2; rw [c_u_eq]
  · rw [s3.v (q := 83) (by omega)]; subst e3; rw [c_u_eq]
end
