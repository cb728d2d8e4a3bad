set_option maxRecDepth 100000
section
variable {W : Nat → Int → Prop} {G : nG} {c c' c2 : cs_S} {E E' : Int → bw_L} {P P' : List Int} {o o' o2 : Int → Int} {a b n r x : Int} {l m k : rwt} {U L L' R R' F F' V K : List rwt} {Q : Int → cs_S → Prop} {d w D N Nl Nr : Nat} {τ τl τr : List Int} {t v z1 z2 s : Int} {es B : bw_L}
/-- the sum of the touched groups is the difference -/
theorem g_gs_df {kf : rwt → rwt} {nk : Nat} {af : List rwt → rwt} {A A' : List rwt} {DA O D : List (rwt × Int)} {ks : List rwt} (hp : ∀ A B : List rwt, A.Perm B → af A = af B) (ha : b_df DA A' A) (hkf : ∀ x, (kf x).length = nk) (hnd : ks.Nodup) (hkl : ∀ k ∈ ks, k.length = nk) (hks : ∀ x n, (x, n) ∈ DA → kf x ∈ ks) (hO : b_is O (g_rows kf nk af A)) (hD : ∀ g, b_s g D = g_gs nk O (fun k g => if k ∈ g_keys kf nk A' then g (k ++ af (g_of kf A' k)) else 0) g ks) : b_df D (g_rows kf nk af A') (g_rows kf nk af A) := by
  refine g_df hp ha (fun x _ => hkf x) (fun x _ => hkf x) (fun k => k ∈ ks) (fun k hk n x hx => fun e => hk (e ▸ hks x n hx)) (fun k t hkn hk => ?_) (fun k t hkn hk => ?_) (fun l hl => ?_)
  · rw [hD, g_gs_1 (k := k) ks hnd hk]
    · have e1 : b_s (fun y => if y.take nk = k then r_ind (k ++ t) y else 0) O = b_s (r_ind (k ++ t)) O := by
        refine b_s_congr (fun e _ => ?_)
        by_cases q : e.1 = k ++ t
        · have : e.1.take nk = k := by rw [q, ← hkn, List.take_left']; rfl
          rw [if_pos this]
        · have : r_ind (k ++ t) e.1 = 0 := if_neg q
          rw [this]; split <;> rfl
      rw [e1, hO, ls_ind_nd (g_rows_nd (fun x _ => hkf x))]
      have e2 : (if k ∈ g_keys kf nk A' then r_ind (k ++ t) (k ++ af (g_of kf A' k)) else 0) = if k ∈ g_keys kf nk A' ∧ t = af (g_of kf A' k) then 1 else 0 := by
        by_cases q : k ∈ g_keys kf nk A'
        · rw [if_pos q]
          unfold r_ind
          by_cases q2 : t = af (g_of kf A' k)
          · rw [if_pos (by rw [q2]), if_pos ⟨q, q2⟩]
          · rw [if_neg (fun u => q2 (List.append_cancel_left u).symm), if_neg (fun u => q2 u.2)]
        · rw [if_neg q, if_neg (fun u => q u.1)]
      rw [e2]
      omega
    · intro k' hk' hne
      have hl' := hkl k' hk'
      constructor
      · have : b_s (fun y => if y.take nk = k' then r_ind (k ++ t) y else 0) O = b_s (fun _ => 0) O := by
          refine b_s_congr (fun e _ => ?_)
          by_cases q : e.1 = k ++ t
          · have : e.1.take nk = k := by rw [q, ← hkn, List.take_left']; rfl
            rw [this, if_neg (fun u => hne u.symm)]
          · have : r_ind (k ++ t) e.1 = 0 := if_neg q
            rw [this]; split <;> rfl
        rw [this]
        have : ∀ K : List (rwt × Int), b_s (fun _ => 0) K = 0 := by
          intro K; induction K with
          | nil => rfl
          | cons e K ih => rw [b_s_cons, ih]; omega
        exact this O
      · split
        · refine if_neg (fun u => hne ?_)
          exact (List.append_inj u (by omega)).1
        · rfl
  · rw [hD]
    refine g_gs_0 ks (fun k' hk' => ?_)
    have hl' := hkl k' hk'
    have hne : k' ≠ k := fun e => hk (e ▸ hk')
    constructor
    · have : b_s (fun y => if y.take nk = k' then r_ind (k ++ t) y else 0) O = b_s (fun _ => 0) O := by
        refine b_s_congr (fun e _ => ?_)
        by_cases q : e.1 = k ++ t
        · have : e.1.take nk = k := by rw [q, ← hkn, List.take_left']; rfl
          rw [this, if_neg (fun u => hne u.symm)]
        · have : r_ind (k ++ t) e.1 = 0 := if_neg q
          rw [this]; split <;> rfl
      rw [this]
      have : ∀ K : List (rwt × Int), b_s (fun _ => 0) K = 0 := by
        intro K; induction K with
        | nil => rfl
        | cons e K ih => rw [b_s_cons, ih]; omega
      exact this O
    · split
      · refine if_neg (fun u => hne ?_)
        exact (List.append_inj u (by omega)).1
      · rfl
  · rw [hD]
    refine g_gs_0 ks (fun k' hk' => ?_)
    have hl' := hkl k' hk'
    constructor
    · have : b_s (fun y => if y.take nk = k' then r_ind l y else 0) O = b_s (fun _ => 0) O := by
        refine b_s_congr (fun e _ => ?_)
        by_cases q : e.1 = l
        · rw [q, if_neg]
          intro u
          have := congrArg List.length u
          rw [List.length_take] at this
          omega
        · have : r_ind l e.1 = 0 := if_neg q
          rw [this]; split <;> rfl
      rw [this]
      have : ∀ K : List (rwt × Int), b_s (fun _ => 0) K = 0 := by
        intro K; induction K with
        | nil => rfl
        | cons e K ih => rw [b_s_cons, ih]; omega
      exact this O
    · split
      · refine if_neg (fun u => ?_)
        have := congrArg List.length u
        rw [List.length_append] at this
        omega
      · rfl
theorem x_wts_all : ∀ (es : List Nat) (σ : List Int), x_wts (gT G) (gsl G) (gct G) τ es σ → ∀ e ∈ es, ∃ t, x_wt (gT G) (gsl G) (gct G) τ 121 e t := by
  intro es
  induction es with
  | nil => intro σ _ e he; cases he
  | cons e0 es ih =>
    intro σ hs e he
    obtain ⟨t, σ', h1, h2, -⟩ := hs
    rcases List.mem_cons.mp he with q | q
    · subst q; exact ⟨t, h1⟩
    · exact ih σ' h2 e q
theorem n_group (h : NI G c E P o) (hn : n ∈ gA G) (hl : n_left (gX G) n ∈ gA G) (hln : n_left (gX G) n + 21 ≤ n) (hD : 300 ≤ D) (h8 : (n_list (gX G) n).length ≤ 8) (hlt : ∀ e ∈ n_list (gX G) n, e < gN G) (hwl : ∀ e ∈ n_list (gX G) n, ∃ t, x_wt (gT G) (gsl G) (gct G) τ 121 e t) (hag : ∀ e ∈ n_aggs (gX G) n, e < gN G ∧ x_wag (gT G) (gsl G) (gct G) τ e) (h12 : (n_aggs (gX G) n).length ≤ 12) (hwk : (n_list (gX G) n).length + (n_aggs (gX G) n).length = w)
    (hL : ch_ok E (n_left (gX G) n) τ N L' L) (hN : N ≤ 512) (h1N : 1 ≤ N) (hz : E (n + 12) = []) (hcap : 2 * (N : Int) ≤ gcp G (n + 12)) (hcap2 : 2 * (N : Int) ≤ gcp G (n + 18)) (hso : b_ok w (bw_p (E (n + 9)))) (hio : b_is (bw_p (E (n + 9))) F) (hF : (z1 = 0 ∧ F = g_rows (x_vals (gT G) (gsl G) (n_list (gX G) n)) (n_list (gX G) n).length (g_af (gT G) (gsl G) (n_aggs (gX G) n)) L) ∨ (z1 ≠ 0 ∧ F = [] ∧ L = []))
    (kk : ∀ c' E' P' o', NI G c' E' P' o' → nx c o c' o' → (∀ a, a ≠ n + 12 → a ≠ n + 18 → E' a = E a) → b_ok w (bw_p (E' (n + 12))) → b_df (bw_p (E' (n + 12))) (g_rows (x_vals (gT G) (gsl G) (n_list (gX G) n)) (n_list (gX G) n).length (g_af (gT G) (gsl G) (n_aggs (gX G) n)) L') F → Q 0 c') : knode_group (D + 1) n z1 c Q := by
  have kfl : ∀ y, (x_vals (gT G) (gsl G) (n_list (gX G) n) y).length = (n_list (gX G) n).length := fun y => by unfold x_vals; rw [List.length_map]
  generalize hkf : x_vals (gT G) (gsl G) (n_list (gX G) n) = kf at *
  generalize hnk : (n_list (gX G) n).length = nk at *
  generalize hafd : g_af (gT G) (gsl G) (n_aggs (gX G) n) = af at *
  have hafp : ∀ A B : List rwt, A.Perm B → af A = af B := fun A B hp => by rw [← hafd]; exact g_af_perm hp
  have hG' : (g_rows kf nk af L').length ≤ N := g_rows_len hL.2.2.2.2.2.2.1 h1N
  have hFl : F.length ≤ N ∧ F.Nodup := by
    rcases hF with ⟨-, q⟩ | ⟨-, q, -⟩
    · rw [q]; exact ⟨g_rows_len hL.2.2.2.2.2.2.2 h1N, g_rows_nd (fun x _ => kfl x)⟩
    · rw [q]; exact ⟨by simp, List.nodup_nil⟩
  have hlen9 := hL.2.1.len hL.1
  rw [List.length_map] at hlen9
  have hb1 := hL.2.2.2.2.2.2.1
  have hb2 := hL.2.2.2.2.2.2.2
  have hlo := hio.len hso
  rw [List.length_map] at hlo
  have hol : ∀ e ∈ E (n + 9), e.2.1.length = w ∧ e.2.2 = 1 ∧ e.2.1 ∈ g_rows kf nk af L' ++ F := by
    intro e he
    have e1 := b_s_mem (l := e.2.1) (m := e.2.2) hso (bp_mem he)
    rw [hio, ls_ind_nd hFl.2] at e1
    have e2 := (hso.1 _ (bp_mem he)).2
    refine ⟨(hso.1 _ (bp_mem he)).1, ?_, List.mem_append_right _ (hio.mem hso (bp_mem he)).2⟩
    split at e1 <;> omega
  have hls : ∀ {c1 E1 P1 o1}, NI G c1 E1 P1 o1 → c_v c1 418 n 0 = (nk : Int) := fun I => by rw [← hnk]; exact (I.nd hn).2.2.2.2.2.2.2.2.2.1.1
  obtain ⟨d, rfl⟩ : ∃ d, D = d + 4 := ⟨D - 4, by omega⟩
  -- the groups one by one, then the sum
  have last : ∀ (c1 : cs_S) (E1 : Int → bw_L) (P1 : List Int) (o1 : Int → Int) (q' : Int) (K : List rwt), NI G c1 E1 P1 o1 → nx c o c1 o1 → KF c1 n ((bw_p (E (n_left (gX G) n + 9))).map (fun e => kf e.1)) → (∀ a, a ≠ n + 18 → E1 a = E a) → b_ok nk (bw_p (E1 (n + 18))) → b_is (bw_p (E1 (n + 18))) K → K.Nodup → K.length ≤ 1024 → (∀ e ∈ bw_p (E (n_left (gX G) n + 12)), kf e.1 ∈ K) → (z1 ≠ 0 → nk = 0 → [] ∈ K) → cw (d + 4 + 1) 273 (am_blk 273 5) [n, z1, q'] [] c1 Q := by
    intro c1 E1 P1 o1 q' K I1 x1 f1 ea1 hs18 hi18 hKn hKl hK hK0
    have el9 : E1 (n_left (gX G) n + 9) = E (n_left (gX G) n + 9) := ea1 _ (by omega)
    have e9 : E1 (n + 9) = E (n + 9) := ea1 _ (by omega)
    have e12 : E1 (n + 12) = [] := by rw [ea1 _ (by omega)]; exact hz
    have h18l := hi18.len hs18
    rw [List.length_map] at h18l
    refine u273_5 (n_grpB (τ := τ) (w := w) (U := g_rows kf nk af L' ++ F) (L' := L') hn hl hln (by omega) (by omega) hag h12 (by rw [hnk]; exact hwk) hL.2.2.2.2.1 (by omega) (fun k hk => ?_) (by rw [List.length_append]; omega) (E1 (n + 18)).length 0 c1 E1 P1 o1 (by omega) I1 (by rw [el9, hkf]; exact f1) (by rw [el9]; exact hL.1) (by rw [el9]; exact hL.2.1) (by rw [e12]; exact b_ok_nil _) (by rw [e9]; exact hol) (by rw [e9]; omega) (fun e he => by rw [hnk]; exact (hs18.1 _ (bp_mem he)).1) (by rw [e12]; intro e he; cases he) (by rw [e12]; show (0 : Int) + _ < _; omega) (fun c2 E2 P2 o2 I2 x2 ea2 hs2 hb2 => ?_))
    · rw [hkf, hnk] at hk
      rw [hkf, hafd]
      refine List.mem_append_left _ ?_
      unfold g_rows
      exact List.mem_map.mpr ⟨k, hk, rfl⟩
    · rw [e12, List.drop_zero, e9, hkf, hnk, hafd] at hb2
      have hks : ∀ y, y ∈ (bw_p (E1 (n + 18))).map (·.1) ↔ y ∈ K := by
        intro y
        constructor
        · intro hy
          obtain ⟨e, he, rfl⟩ := List.mem_map.mp hy
          exact (hi18.mem hs18 he).2
        · intro hy
          obtain ⟨m, hm, -⟩ := hi18.has hs18 hy
          exact List.mem_map.mpr ⟨_, hm, rfl⟩
      have hb2' : ∀ g, b_s g (bw_p (E2 (n + 12))) = g_gs nk (bw_p (E (n + 9))) (fun k g => if k ∈ g_keys kf nk L' then g (k ++ af (g_of kf L' k)) else 0) g ((bw_p (E1 (n + 18))).map (·.1)) := by
        intro g; rw [hb2 g]; show 0 + _ = _; omega
      refine kk c2 E2 P2 o2 I2 (x1.tr x2) (fun y h1 h2 => (ea2 y h1).trans (ea1 y h2)) hs2 ?_
      have hnd := b_ok_rn hs18
      have hkl : ∀ k ∈ (bw_p (E1 (n + 18))).map (·.1), k.length = nk := by
        intro k hk
        obtain ⟨e, he, rfl⟩ := List.mem_map.mp hk
        exact (hs18.1 e he).1
      have norm : F = g_rows kf nk af L → b_df (bw_p (E2 (n + 12))) (g_rows kf nk af L') F := by
        intro q
        rw [q]
        exact g_gs_df hafp hL.2.2.2.1 kfl hnd hkl (fun x m hx => (hks _).mpr (hK _ hx)) (by rw [← q]; exact hio) hb2'
      rcases hF with ⟨-, q⟩ | ⟨q1, q2, q3⟩
      · exact norm q
      · by_cases e0 : nk = 0
        · -- at first, and one group
          have hin : [] ∈ (bw_p (E1 (n + 18))).map (·.1) := (hks _).mpr (hK0 q1 e0)
          have hone : (bw_p (E1 (n + 18))).map (·.1) = [[]] := by
            have hall : ∀ y ∈ (bw_p (E1 (n + 18))).map (·.1), y = [] := fun y hy => List.length_eq_zero_iff.mp (by rw [hkl y hy, e0])
            generalize (bw_p (E1 (n + 18))).map (·.1) = ks at *
            cases ks with
            | nil => cases hin
            | cons y ks =>
              have hy := hall y List.mem_cons_self
              subst hy
              cases ks with
              | nil => rfl
              | cons y2 ks =>
                have hy2 := hall y2 (List.mem_cons_of_mem _ List.mem_cons_self)
                rw [List.nodup_cons] at hnd
                exact absurd (by rw [hy2]; exact List.mem_cons_self) hnd.1
          have hO : E (n + 9) = [] := by
            rw [q2] at hlo
            exact List.length_eq_zero_iff.mp (Nat.le_zero.mp hlo)
          have hkeys : g_keys kf nk L' = [[]] := by unfold g_keys; rw [if_pos e0]
          have hgof : g_of kf L' [] = L' := by
            unfold g_of
            rw [List.filter_eq_self]
            intro y _
            have := kfl y
            rw [e0] at this
            simp [List.length_eq_zero_iff.mp this]
          intro g
          rw [hb2' g, hone, q2, hO]
          unfold g_rows
          rw [hkeys]
          simp only [g_gs, List.map_cons, List.map_nil, ls, List.nil_append, bw_p, b_s, hgof]
          simp
        · apply norm
          rw [q2, q3]
          unfold g_rows g_keys
          rw [if_neg e0]
          rfl
  have b3n : nk = 0 → ∀ (c1 : cs_S) (E1 : Int → bw_L) (P1 : List Int) (o1 : Int → Int), NI G c1 E1 P1 o1 → E1 (n_left (gX G) n + 12) = E (n_left (gX G) n + 12) → (∀ q', cw (d + 4 + 1) 273 (am_blk 273 5) [n, z1, q'] [] c1 Q) → ∀ q', cw (d + 4 + 1) 273 (am_blk 273 2) [n, z1, q'] [] c1 Q := by
    intro e0 c1 E1 P1 o1 I1 el kk5 q'
    refine u273_2 (u273_3 ⟨I1.rn hn, ?_⟩)
    rw [I1.lft hn, I1.dlt hl]
    refine ⟨I1.rn hl, I1.rb (I1.g12 hl), k_bsize (I1.bag (I1.g12 hl)) ⟨fun _ => kk5 _, fun _ => ⟨I1.rn hn, fun _ => kk5 _, fun z => ?_⟩⟩⟩
    rw [hls I1] at z; omega
  have d9 : ∀ e ∈ E (n_left (gX G) n + 9), rg τ e.2.1 := fun e he => (hL.orows he).1
  refine u273_e ⟨h.rn hn, n_findKeys (τ := τ) (D := d + 3) h hn hl (by omega) (by omega) hlt hwl d9 (by omega) (fun c1 I1 x1 f1 => ⟨I1.rn hn, ?_⟩)⟩
  rw [hkf] at f1
  rw [I1.frs hn]
  refine ⟨I1.rb (I1.g18 hn), n_clear (d := d + 2) I1 (I1.g18 hn) (fun c2 E2 P2 o2 I2 b2 ea2 hz2 => ⟨I2.rn hn, ?_⟩)⟩
  have f2 := f1.bx I1 hn b2
  have el12 : E2 (n_left (gX G) n + 12) = E (n_left (gX G) n + 12) := ea2 _ (by omega)
  rw [hls I2]
  refine ⟨fun hk0 => ?_, fun hk0 => ?_⟩
  · -- by values
    refine u273_2 ?_
    have hdm : ∀ e ∈ E (n_left (gX G) n + 12), rg τ e.2.1 ∧ kf e.2.1 ∈ L'.map kf ++ L.map kf := by
      intro e he
      obtain ⟨q1, q2⟩ := hL.rows he
      refine ⟨q1, ?_⟩
      rcases q2 with q2 | q2
      · exact List.mem_append_left _ (List.mem_map.mpr ⟨_, q2, rfl⟩)
      · exact List.mem_append_right _ (List.mem_map.mpr ⟨_, q2, rfl⟩)
    refine n_grpA (τ := τ) (V := (bw_p (E (n_left (gX G) n + 9))).map (fun e => kf e.1)) (U := L'.map kf ++ L.map kf) hn hl hln (by omega) (by omega) (by omega) hlt hwl (by rw [List.length_append, List.length_map, List.length_map]; omega) (E2 (n_left (gX G) n + 12)).length 0 c2 E2 P2 o2 (by omega) I2 f2 (by rw [hz2]; exact b_ok_nil _) (by rw [hz2]; exact b_is_nil) (by rw [el12, hkf]; exact hdm) (fun c3 E3 P3 o3 q' I3 x3 f3 ea3 hs3 hi3 => ?_)
    rw [el12, hkf] at hi3
    rw [hnk] at hs3
    refine last c3 E3 P3 o3 q' _ I3 ((x1.tr b2.nx).tr x3) f3 (fun y hy => (ea3 y hy).trans (ea2 y hy)) hs3 hi3 dd_nd ?_ (fun e he => dd_mem.mpr (List.mem_map.mpr ⟨e, he, rfl⟩)) (fun _ z => absurd z (by omega))
    have h1 := dd_len (L := (bw_p (E (n_left (gX G) n + 12))).map (fun e => kf e.1))
    rw [List.length_map, List.length_map] at h1
    have h2 := nd_len ((bw_p (E (n_left (gX G) n + 12))).map (·.1)) (L' ++ L) (b_ok_rn hL.2.2.1) (fun y hy => by
      obtain ⟨e, he, rfl⟩ := List.mem_map.mp hy
      exact List.mem_append.mpr (hL.2.2.2.1.mem hL.2.2.1 he))
    rw [List.length_map, List.length_map, List.length_append] at h2
    omega
  · have e0 : nk = 0 := by omega
    have b1 : ∀ q', cw (d + 4 + 1) 273 (am_blk 273 1) [n, z1, q'] [] c2 Q := by
      intro q'
      refine u273_1 ⟨I2.rn hn, ?_⟩
      rw [I2.key hn]
      refine ⟨(I2.keyok hn).1, k_clear (I2.keyok hn) (fun c3 s3 r3 => ⟨?_, ?_, ?_⟩)⟩
      · rw [s3.r]; exact I2.rn hn
      · rw [s3.r]; exact I2.rn hn
      · have s3' : c_sm (scw G n) c2 c3 := s3.mono (fun q a hw => Or.inr (Or.inr hw))
        obtain ⟨I3, x3⟩ := I2.scr hn s3'
        rw [I3.frs hn, I3.key hn]
        refine ⟨I3.rb (I3.g18 hn), n_add (U := [[]]) (w := 0) I3 (I3.g18 hn) (by rw [hz2]; exact b_ok_nil _) r3 rfl (by rw [I3.or3 hn]; decide) (by rw [hz2]; intro e he; cases he) (by simp) (by show ((1 : Nat) : Int) ≤ _; omega) (by rw [hz2]; decide) (fun c4 E4 P4 o4 I4 b4 ea4 hs4 hb4 hm4 hU4 => ?_)⟩
        refine b3n e0 c4 E4 P4 o4 I4 ((ea4 _ (by omega)).trans el12) (fun q'' => ?_) q'
        refine last c4 E4 P4 o4 q'' [[]] I4 (((x1.tr b2.nx).tr x3).tr b4.nx) ((f2.scr I2 hn s3').bx I3 hn b4) (fun y hy => (ea4 y hy).trans (ea2 y hy)) (by rw [e0]; exact hs4) (fun g => ?_) (by simp) (by simp) (fun e _ => ?_) (fun _ _ => by simp)
        · rw [hb4, hz2]; show 0 + 1 * g [] = g [] + 0; omega
        · have := kfl e.1
          rw [e0] at this
          rw [List.length_eq_zero_iff.mp this]; simp
    refine ⟨fun _ => b1 0, fun hz1 => ⟨I2.rn hn, ?_⟩⟩
    rw [I2.lft hn, I2.dlt hl]
    refine ⟨I2.rn hl, I2.rb (I2.g12 hl), k_bsize (I2.bag (I2.g12 hl)) ⟨fun hle => ?_, fun _ => b1 0⟩⟩
    refine b3n e0 c2 E2 P2 o2 I2 el12 (fun q'' => ?_) 0
    have hemp : E (n_left (gX G) n + 12) = [] := by rw [el12] at hle; exact List.length_eq_zero_iff.mp (by omega)
    refine last c2 E2 P2 o2 q'' [] I2 (x1.tr b2.nx) f2 (fun y hy => ea2 y hy) (by rw [hz2]; exact b_ok_nil _) (by rw [hz2]; exact b_is_nil) List.nodup_nil (by simp) (by rw [hemp]; intro e he; cases he) (fun z => absurd (Classical.not_not.mp hz1) z)
end
