set_option maxRecDepth 100000
/-! the model: the first ones in order -/
def un : List Bool → List rwt → List rwt
  | b :: B, l :: L => if b = true then un B L else l :: un B L
  | _, _ => []
theorem un_set : ∀ (B : List Bool) (L : List rwt) (i : Nat) (l : rwt), B[i]? = some false → L[i]? = some l → (un B L).Perm (l :: un (B.set i true) L) := by
  intro B
  induction B with
  | nil => intro L i l h; simp at h
  | cons b B ih =>
    intro L i l h1 h2
    cases L with
    | nil => simp at h2
    | cons x L =>
      cases i with
      | zero =>
        simp at h1 h2
        subst h1 h2
        simp [un]
      | succ i =>
        simp at h1 h2
        have := ih L i l h1 h2
        simp only [un, List.set_cons_succ]
        split
        · exact this
        · exact (this.cons x).trans (List.Perm.swap l x _)
theorem un_mem : ∀ (B : List Bool) (L : List rwt) (y : rwt), y ∈ un B L → ∃ i : Nat, B[i]? = some false ∧ L[i]? = some y := by
  intro B
  induction B with
  | nil => intro L y h; simp [un] at h
  | cons b B ih =>
    intro L y h
    cases L with
    | nil => simp [un] at h
    | cons x L =>
      simp only [un] at h
      split at h
      · obtain ⟨i, h1, h2⟩ := ih L y h
        exact ⟨i + 1, by simpa using h1, by simpa using h2⟩
      · rename_i c
        rcases List.mem_cons.mp h with e | h
        · subst e; exact ⟨0, by simp; simpa using c, rfl⟩
        · obtain ⟨i, h1, h2⟩ := ih L y h
          exact ⟨i + 1, by simpa using h1, by simpa using h2⟩
theorem un_all : ∀ (L : List rwt), un (List.replicate L.length false) L = L := by
  intro L
  induction L with
  | nil => rfl
  | cons x L ih => simp only [List.length_cons, List.replicate_succ, un]; rw [ih]; simp
/-- chosen ones: those ahead of all others -/
def o_ch (cmp : rwt → rwt → Int) (L O : List rwt) (B : List Bool) : Prop := B.length = L.length ∧ (O ++ un B L).Perm L ∧ o_sd cmp O ∧ ∀ x ∈ O, ∀ y ∈ un B L, cmp x y ≤ 0
theorem o_ch0 {cmp : rwt → rwt → Int} {L : List rwt} : o_ch cmp L [] (List.replicate L.length false) := ⟨by simp, by rw [un_all]; simp, List.Pairwise.nil, fun x hx => by cases hx⟩
theorem o_ch.put {cmp : rwt → rwt → Int} {L O : List rwt} {B : List Bool} {b : Nat} {l : rwt} (h : o_ch cmp L O B) (h1 : B[b]? = some false) (h2 : L[b]? = some l) (h3 : ∀ y ∈ un B L, cmp l y ≤ 0) : o_ch cmp L (O ++ [l]) (B.set b true) := by
  obtain ⟨g1, g2, g3, g4⟩ := h
  have hp := un_set B L b l h1 h2
  have hml : l ∈ un B L := hp.mem_iff.mpr List.mem_cons_self
  have hms : ∀ y ∈ un (B.set b true) L, y ∈ un B L := fun y hy => hp.mem_iff.mpr (List.mem_cons_of_mem _ hy)
  refine ⟨by rw [List.length_set]; exact g1, ?_, ?_, ?_⟩
  · rw [List.append_assoc]
    exact ((hp.symm).append_left O).trans g2
  · unfold o_sd
    rw [List.pairwise_append]
    refine ⟨g3, List.pairwise_singleton _ _, fun x hx y hy => ?_⟩
    simp at hy
    subst hy
    exact g4 x hx _ hml
  · intro x hx y hy
    rcases List.mem_append.mp hx with q | q
    · exact g4 x q y (hms y hy)
    · simp at q
      subst q
      exact h3 y (hms y hy)
theorem o_ch.take {cmp : rwt → rwt → Int} {L O : List rwt} {B : List Bool} (hg : o_good cmp L) (h : o_ch cmp L O B) : O = (o_srt cmp L).take O.length := by
  obtain ⟨g1, g2, g3, g4⟩ := h
  have hp : (O ++ o_srt cmp (un B L)).Perm L := (o_srt_perm.append_left O).trans g2
  have hs : o_sd cmp (O ++ o_srt cmp (un B L)) := by
    unfold o_sd
    rw [List.pairwise_append]
    refine ⟨g3, o_srt_sd (hg.sub (fun x hx => g2.mem_iff.mp (List.mem_append_right _ hx))), fun x hx y hy => g4 x hx y (o_srt_perm.mem_iff.mp hy)⟩
  rw [← o_srt_uniq hg hp hs]
  simp
section
variable {s s1 s2 s3 : ms_S} {T : xt} {sl ct : Nat → Int} {τ : List Int} {NE d w : Nat} {Q : Int → ms_S → Prop} {l m : rwt} {K L M : List rwt} {r rk a : Int} {es : List Nat} {dn : List Bool}
def mDowns (s : ms_S) (f : Nat) (b : Int) (dn : List Bool) : Prop := ∀ (k : Nat) (x : Bool), dn[k]? = some x → s f (b + k) = if x = true then 1 else 0
theorem x_vals_get {k e : Nat} (h : es[k]? = some e) : (x_vals T sl es l).getD k none = ev T (x_env sl l) 121 e := by
  unfold x_vals
  rw [List.getD_eq_getElem?_getD, List.getElem?_map, h]; rfl
theorem o_cmp_c {e : Nat} {b : Bool} {es : List (Nat × Bool)} {x y : rwt} : o_cmp T sl ((e, b) :: es) x y = if r_oc (ev T (x_env sl x) 121 e) (ev T (x_env sl y) 121 e) ≠ 0 then (if b then - r_oc (ev T (x_env sl x) 121 e) (ev T (x_env sl y) 121 e) else r_oc (ev T (x_env sl x) 121 e) (ev T (x_env sl y) 121 e)) else o_cmp T sl es x y := rfl
theorem k_ahead {q i j : Nat} {x y : Int} (hx : x = i) (hy : y = j) (hR : mR s r w L) (hK : mR s rk es.length (L.map (x_vals T sl es))) (hq : q < 60) (h64 : s 64 q = es.length) (h8 : es.length ≤ 8) (hdl : dn.length = es.length) (hdn : mDowns s 67 (8 * q) dn) (hi : i < L.length) (hj : j < L.length) (kk : Q (if o_cmp T sl (es.zip dn) L[i] L[j] < 0 then 1 else 0) s) : md_ahead (d + 2) q r rk x y s Q := by
  subst hx hy
  have hr := hR.1
  have hk := hK.1
  have hi' : i < (L.map (x_vals T sl es)).length := by rw [List.length_map]; exact hi
  have hj' : j < (L.map (x_vals T sl es)).length := by rw [List.length_map]; exact hj
  obtain ⟨hil, him⟩ := hR.row (List.getElem?_eq_getElem hi)
  obtain ⟨hjl, hjm⟩ := hR.row (List.getElem?_eq_getElem hj)
  obtain ⟨hkil, hkim⟩ := hK.row (List.getElem?_eq_getElem hi')
  obtain ⟨hkjl, hkjm⟩ := hK.row (List.getElem?_eq_getElem hj')
  rw [List.getElem_map] at hkil hkim hkjl hkjm
  have loop : ∀ (n k : Nat) (x7 x8 x9 : Int), k + n = es.length → o_cmp T sl (es.zip dn) L[i] L[j] = o_cmp T sl ((es.drop k).zip (dn.drop k)) L[i] L[j] → mw (d + 2) 181 (am_blk 181 1) [159, q, r, rk, i, j, k, x7, x8, x9] [] s Q := by
    intro n
    induction n with
    | zero =>
      intro k x7 x8 x9 hkn ho
      have ek : k = es.length := by omega
      refine w181_1 ⟨by omega, by omega, fun _ => k_rowAt hR rfl (by omega) (k_rowAt hR rfl (by omega) ⟨hr.1, by omega, ?_⟩), fun w => absurd (by omega) w⟩
      rw [hr.2.2.2.1]
      rw [ho, List.drop_eq_nil_of_le (by omega), List.zip_nil_left] at kk
      have e0 : o_cmp T sl [] L[i] L[j] = r_cmp L[i] L[j] := rfl
      rw [e0] at kk
      refine k_compareRows him hjm (by rw [hil]) (by rw [hil, hjl]) ⟨fun w => w181_9 ?_, fun w => w181_9 ?_⟩
      · rw [if_neg (by omega)] at kk; exact kk
      · rw [if_pos (by omega)] at kk; exact kk
    | succ n ih =>
      intro k x7 x8 x9 hkn ho
      have hke : k < es.length := by omega
      have hkd : k < dn.length := by omega
      have hm1 := hkim.2.1
      have hm2 := hkjm.2.1
      have hz1 := hkim.1
      have hz2 := hkjm.1
      rw [hkil] at hm1
      rw [hkjl] at hm2
      rw [List.drop_eq_getElem_cons hke, List.drop_eq_getElem_cons hkd, List.zip_cons_cons, o_cmp_c] at ho
      obtain ⟨v1, v2⟩ := hkim.2.2 k (by rw [hkil]; exact hke)
      obtain ⟨u1, u2⟩ := hkjm.2.2 k (by rw [hkjl]; exact hke)
      have hek := List.getElem?_eq_getElem hke
      rw [x_vals_get hek] at v1 v2 u1 u2
      generalize hvx : ev T (x_env sl L[i]) 121 es[k] = vx at *
      generalize hvy : ev T (x_env sl L[j]) 121 es[k] = vy at *
      have hdk := hdn k _ (List.getElem?_eq_getElem hkd)
      refine w181_1 ⟨by omega, by omega, fun w => absurd w (by omega), fun _ => k_rowAt hK rfl (by omega) (k_rowAt hK rfl (by omega) ?_)⟩
      rw [am_w_in (x := s 88 rk + ((i * es.length : Nat) : Int) + k) (by omega) (by omega), am_w_in (x := s 88 rk + ((j * es.length : Nat) : Int) + k) (by omega) (by omega)]
      have x1 : am_w (8 * (q : Int)) = 8 * q := am_w_in (by omega) (by omega)
      have x2 : am_w (8 * (q : Int) + k) = 8 * q + k := am_w_in (by omega) (by omega)
      refine ⟨by omega, by omega, by omega, by omega, by omega, by omega, by omega, by omega, k_mcompare v1 v2 u1 u2 ⟨fun c => ?_, fun c => ?_⟩⟩
      · rw [if_neg (by omega)] at ho
        rw [am_w_s (by omega)]
        exact ih (k + 1) _ _ _ (by omega) ho
      · rw [x1, x2, hdk]
        rw [if_pos c] at ho
        refine ⟨by omega, by omega, fun w => ⟨fun w2 => w181_5 ?_, fun w2 => w181_5 ?_⟩, fun w => ⟨fun w2 => w181_5 ?_, fun w2 => w181_5 ?_⟩⟩
        · cases hb : dn[k] with
          | true => rw [hb] at w; exact absurd w (by decide)
          | false =>
            rw [hb, if_neg (by decide)] at ho
            rw [ho, if_neg (by omega)] at kk; exact kk
        · cases hb : dn[k] with
          | true => rw [hb] at w; exact absurd w (by decide)
          | false =>
            rw [hb, if_neg (by decide)] at ho
            rw [ho, if_pos (by omega)] at kk; exact kk
        · cases hb : dn[k] with
          | false => rw [hb] at w; exact absurd rfl w
          | true =>
            rw [hb, if_pos rfl] at ho
            rw [ho, if_neg (by omega)] at kk; exact kk
        · cases hb : dn[k] with
          | false => rw [hb] at w; exact absurd rfl w
          | true =>
            rw [hb, if_pos rfl] at ho
            rw [ho, if_pos (by omega)] at kk; exact kk
  exact w181_e (loop es.length 0 0 0 0 (by omega) rfl)
theorem k_ordered {q : Nat} {lim : Int} (hT : mt s T sl NE) (hg : s 97 0 = 0) (hR : mR s r w L) (hL : ∀ l ∈ L, rg τ l) (ht : t_ok τ) (hL6 : L.length ≤ 600) (hq : q < 60) (h64 : s 64 q = es.length) (h8 : es.length ≤ 8) (hes : mItems s 66 (8 * q) es) (he : ∀ e ∈ es, e < NE ∧ ∃ t, x_wt T sl (cz ct (p0 T)) τ 121 e t) (hdl : dn.length = es.length) (hdn : mDowns s 67 (8 * q) dn) (h68 : s 68 q = lim) (hlim : 0 ≤ lim ∧ lim ≤ 100)
    (h91 : s 91 0 + 1 < 400) (hU : s 87 0 + ((L.length * es.length + L.length * w : Nat) : Int) ≤ 400000) (hd : 260 ≤ d) (kk : ∀ r' s', mQ s s' r' w ((o_srt (o_cmp T sl (es.zip dn)) L).take lim.toNat) (L.length * es.length + L.length * w) 2 → Q r' s') : md_ordered (d + 1) q r s Q := by
  have hr := hR.1
  have hgood : o_good (o_cmp T sl (es.zip dn)) L := o_cmp_good (w := w) (fun a ha => hR.len ha)
  generalize hcmp : o_cmp T sl (es.zip dn) = cmp at *
  -- behind the keys
  have phase2 : ∀ (t : ms_S) (x5 x6 x7 x8 x9 : Int), x5 = L.length → mI s t es.length (L.map (x_vals T sl es)) → mw (d + 1) 180 (am_blk 180 1) [159, q, r, es.length, s 91 0, x5, x6, x7, x8, x9] [] t Q := by
    intro t x5 x6 x7 x8 x9 hx5 hI
    have hKt := hI.1.1
    obtain ⟨hRt, -⟩ := hI.old hR
    have hrt := hRt.1
    have hti := hI.len
    rw [List.length_map] at hti
    have ht91 := hI.1.2.2
    have f68 : t 68 q = lim := by rw [hI.2.1 _ _ (by omega)]; exact h68
    have f64 : t 64 q = es.length := by rw [hI.2.1 _ _ (by omega)]; exact h64
    have fdn : mDowns t 67 (8 * q) dn := fun k x hk => by rw [hI.2.1 _ _ (by omega)]; exact hdn k x hk
    refine w180_1 ⟨hr.1, by omega, fun _ => ⟨hr.1, by omega, mI_begin (by omega) (by omega) (by omega) (by omega) hI.2.2.1 hr.2.2.2.2.2.2.1 hrt.2.2.2.1 (fun t1 hI1 hv1 => ⟨hr.1, by omega, by omega, by omega, ?_⟩)⟩, fun w => absurd (by omega) w⟩
    obtain ⟨hRt1, -⟩ := hI1.old hRt
    have hrt1 := hRt1.1
    have g68 : t1 68 q = lim := by rw [hI1.2.1 _ _ (by omega)]; exact f68
    -- the choice
    have choose : ∀ (many : Nat), many ≤ L.length → (o_srt cmp L).take lim.toNat = (o_srt cmp L).take many → ∀ (n j : Nat) (s1 : ms_S) (O : List rwt) (B : List Bool) (x8 x9 : Int), j + n = many → O.length = j → mI t s1 w O → o_ch cmp L O B → (∀ (i : Nat) (b : Bool), B[i]? = some b → s1 99 i = if b = true then 1 else 0) → mw (d + 1) 180 (am_blk 180 9) [159, q, r, es.length, s 91 0, t 91 0, many, j, x8, x9] [] s1 Q := by
      intro many hmany hlm n
      induction n with
      | zero =>
        intro j s1 O B x8 x9 hj hOl hIs hch hB
        refine w180_9 ⟨fun _ => kk _ s1 ?_, fun w => absurd (by omega) w⟩
        have e1 : O = (o_srt cmp L).take lim.toNat := by
          rw [hlm]
          have := hch.take hgood
          rw [hOl] at this
          rw [this]
          congr 1
        rw [← e1]
        have hm := mul_le_of (w := w) (show O.length ≤ L.length by omega)
        have hl1 := hIs.len
        have h91' := hIs.1.2.2
        exact ⟨hIs.1.1, hI.2.1.tr (hIs.2.1.le (by omega) (by omega)), hIs.2.2.1, by omega, by omega, by omega, by omega⟩
      | succ n ih =>
        intro j s1 O B x8 x9 hj hOl hIs hch hB
        obtain ⟨hRs, -⟩ := hIs.old hRt
        obtain ⟨hKs, -⟩ := hIs.old hKt
        have hrs := hRs.1
        have hm := mul_le_of (w := w) (show O.length + 1 ≤ L.length by omega)
        have g64 : s1 64 q = es.length := by rw [hIs.2.1 _ _ (by omega)]; exact f64
        have gdn : mDowns s1 67 (8 * q) dn := fun k x hk => by rw [hIs.2.1 _ _ (by omega)]; exact fdn k x hk
        have hBl := hch.1
        have srch : ∀ (k i : Nat) (best : Int), i + k = L.length → ((best = -1 ∧ ∀ i' : Nat, i' < i → B[i']? = some true) ∨ ∃ b : Nat, best = b ∧ b < i ∧ B[b]? = some false ∧ ∀ (lb : rwt), L[b]? = some lb → ∀ (i' : Nat) (y : rwt), i' < i → B[i']? = some false → L[i']? = some y → cmp lb y ≤ 0) → mw (d + 1) 180 (am_blk 180 10) [159, q, r, es.length, s 91 0, t 91 0, many, j, best, i] [] s1 Q := by
          intro k
          induction k with
          | zero =>
            intro i best hi hbest
            have ei : i = L.length := by omega
            rcases hbest with ⟨-, hall⟩ | ⟨b, rfl, hb, hbB, hmin⟩
            · exfalso
              have hp := hch.2.1.length_eq
              have : un B L ≠ [] := by
                intro c
                rw [c, List.append_nil] at hp
                omega
              obtain ⟨y, hy⟩ := List.exists_mem_of_ne_nil _ this
              obtain ⟨i', h1, h2⟩ := un_mem B L y hy
              have := hall i' (by rw [ei]; exact (List.getElem?_eq_some_iff.mp h2).1)
              rw [this] at h1; cases h1
            · have hbl : b < L.length := by omega
              have hlb := List.getElem?_eq_getElem hbl
              refine w180_10 ⟨hr.1, by omega, fun _ => ⟨by omega, by omega, fun s2 e2 => ?_⟩, fun w => absurd (by omega) w⟩
              have z1 : am_i2b 1 = 1 := by decide
              rw [z1] at e2
              have k2 : m_k s1 s2 := by rw [e2]; exact m_k.u s1 _ _ (by omega) (by omega)
              have hI2 : mI t s2 w O := hIs.k k2 (by rw [e2, ms_u_f _ _ _ (by omega)]; exact hIs.2.2.1)
              have hR2 := hRs.k k2
              obtain ⟨hll, hlm2⟩ := hR2.row hlb
              have hle := hR2.le hbl
              have hr2 := hR2.1
              refine k_rowAt hR2 rfl (by omega) (hI2.new (by omega) (by omega) (fun s3 hJ hf => ⟨hr.1, by omega, ?_⟩))
              obtain ⟨hR3, hb3⟩ := hJ.old hRt
              have hat := hJ.at
              have hb2 := (hI2.old hRt).2
              have e90 : s3 90 r = w := hR3.1.2.2.2.1
              rw [e90]
              have hm3 := hlm2.eq (s' := s3) (fun k hk => ⟨hf _ _ (by omega) (by omega), hf _ _ (by omega) (by omega)⟩)
              refine k_mcopy hm3 (by rw [hll]) (by rw [hll]; omega) (by rw [hll]; omega) (fun s4 c4 m4 => ?_)
              rw [am_w_s (by omega)]
              refine ih (j + 1) s4 (O ++ [L[b]]) (B.set b true) _ _ (by omega) (by simp [hOl]) ((hJ.c c4 (Int.le_refl _)).fill hll m4) (hch.put hbB hlb ?_) ?_
              · intro y hy
                obtain ⟨i', h1, h2⟩ := un_mem B L y hy
                exact hmin _ hlb i' y (by rw [ei]; exact (List.getElem?_eq_some_iff.mp h2).1) h1 h2
              · intro i' x hx
                have f4 : s4 99 i' = s2 99 i' := by rw [c4 _ _ (by omega), hf _ _ (by omega) (by omega)]
                rw [f4, e2]
                by_cases c : i' = b
                · subst c
                  rw [ms_u_eq]
                  rw [List.getElem?_set_self (by omega)] at hx
                  cases hx; rfl
                · rw [List.getElem?_set_ne (fun u => c u.symm)] at hx
                  rw [ms_u_i _ (by omega)]
                  exact hB i' x hx
          | succ k ihk =>
            intro i best hi hbest
            have hil : i < L.length := by omega
            have hib : i < B.length := by omega
            have hBi := List.getElem?_eq_getElem hib
            have hli := List.getElem?_eq_getElem hil
            have hti := hB i _ hBi
            refine w180_10 ⟨hr.1, by omega, fun w => absurd w (by omega), fun _ => ⟨by omega, by omega, fun w => w180_12 ?_, fun w => ?_⟩⟩
            · rw [am_w_s (by omega)]
              have hbt : B[i] = true := by
                cases c : B[i] with
                | true => rfl
                | false => rw [c] at hti; exact absurd hti w
              rw [hbt] at hBi
              refine ihk (i + 1) best (by omega) ?_
              rcases hbest with ⟨h1, hall⟩ | ⟨b, rfl, hb, hbB, hmin⟩
              · refine Or.inl ⟨h1, fun i' hi' => ?_⟩
                by_cases c : i' = i
                · rw [c]; exact hBi
                · exact hall i' (by omega)
              · refine Or.inr ⟨b, rfl, by omega, hbB, fun lb hlb i' y hi' h1 h2 => ?_⟩
                by_cases c : i' = i
                · rw [c, hBi] at h1; cases h1
                · exact hmin lb hlb i' y (by omega) h1 h2
            · have hbf : B[i] = false := by
                cases c : B[i] with
                | false => rfl
                | true => rw [c, if_pos rfl] at hti; exact absurd (by rw [hti]; decide) w
              rw [hbf] at hBi
              have take_i : (∀ (i' : Nat) (y : rwt), i' < i → B[i']? = some false → L[i']? = some y → cmp L[i] y ≤ 0) → mw (d + 1) 180 (am_blk 180 11) [159, q, r, es.length, s 91 0, t 91 0, many, j, best, i] [] s1 Q := by
                intro hmin
                refine w180_11 (w180_12 ?_)
                rw [am_w_s (by omega)]
                refine ihk (i + 1) i (by omega) (Or.inr ⟨i, rfl, by omega, hBi, fun lb hlb i' y hi' h1 h2 => ?_⟩)
                rw [hli] at hlb
                cases hlb
                by_cases c : i' = i
                · rw [c, hli] at h2; cases h2
                  have := (hgood L[i] (List.getElem_mem hil) L[i] (List.getElem_mem hil)).2.1.mpr rfl
                  omega
                · exact hmin i' y (by omega) h1 h2
              rcases hbest with ⟨h1, hall⟩ | ⟨b, rfl, hb, hbB, hmin⟩
              · refine ⟨fun _ => take_i (fun i' y hi' h1 h2 => ?_), fun c => absurd h1 c⟩
                rw [hall i' hi'] at h1; cases h1
              · have hbl : b < L.length := by omega
                have hlb := List.getElem?_eq_getElem hbl
                obtain ⟨d, rfl⟩ : ∃ d', d = d' + 2 := ⟨d - 2, by omega⟩
                refine ⟨fun c => absurd c (by omega), fun _ => k_ahead rfl rfl hRs hKs hq g64 h8 hdl gdn hil hbl ⟨fun w2 => w180_12 ?_, fun w2 => take_i ?_⟩⟩
                · rw [hcmp] at w2
                  have hnl : ¬ cmp L[i] L[b] < 0 := fun c => by rw [if_pos c] at w2; exact absurd w2 (by decide)
                  rw [am_w_s (by omega)]
                  refine ihk (i + 1) b (by omega) (Or.inr ⟨b, rfl, by omega, hbB, fun lb hlb2 i' y hi' h1 h2 => ?_⟩)
                  by_cases c : i' = i
                  · rw [c, hli] at h2; cases h2
                    rw [hlb] at hlb2; cases hlb2
                    have := (hgood L[i] (List.getElem_mem hil) L[b] (List.getElem_mem hbl)).1
                    omega
                  · exact hmin lb hlb2 i' y (by omega) h1 h2
                · rw [hcmp] at w2
                  have hlt : cmp L[i] L[b] < 0 := by
                    apply Classical.byContradiction
                    intro c
                    rw [if_neg c] at w2; exact w2 rfl
                  intro i' y hi' h1 h2
                  have := hmin _ hlb i' y hi' h1 h2
                  exact hgood.le (List.getElem_mem hil) (List.getElem_mem hbl) (List.mem_of_getElem? h2) (by omega) this
        exact w180_9 ⟨fun w => absurd w (by omega), fun _ => srch L.length 0 (-1) (by omega) (Or.inl ⟨rfl, fun i' hi' => absurd hi' (by omega)⟩)⟩
    -- nothing is taken
    have clear : ∀ (many : Nat), many ≤ L.length → (o_srt cmp L).take lim.toNat = (o_srt cmp L).take many → ∀ (n i : Nat) (s1 : ms_S) (x8 x9 : Int), i + n = L.length → mI t s1 w [] → (∀ i' : Nat, i' < i → s1 99 i' = 0) → mw (d + 1) 180 (am_blk 180 7) [159, q, r, es.length, s 91 0, t 91 0, many, i, x8, x9] [] s1 Q := by
      intro many hmany hlm n
      induction n with
      | zero =>
        intro i s1 x8 x9 hi hIs hz
        obtain ⟨hRs, -⟩ := hIs.old hRt
        have hrs := hRs.1
        refine w180_7 ⟨hr.1, by omega, fun _ => ?_, fun w => absurd (by omega) w⟩
        refine choose many hmany hlm many 0 s1 [] (List.replicate L.length false) _ _ (by omega) rfl hIs o_ch0 (fun i' b hb => ?_)
        rw [List.getElem?_replicate] at hb
        split at hb
        · cases hb; exact hz i' (by omega)
        · cases hb
      | succ n ih =>
        intro i s1 x8 x9 hi hIs hz
        obtain ⟨hRs, -⟩ := hIs.old hRt
        have hrs := hRs.1
        refine w180_7 ⟨hr.1, by omega, fun w => absurd w (by omega), fun _ => ⟨by omega, by omega, fun s2 e2 => ?_⟩⟩
        have z0 : am_i2b 0 = 0 := by decide
        rw [z0] at e2
        rw [am_w_s (by omega)]
        refine ih (i + 1) s2 _ _ (by omega) (hIs.k (by rw [e2]; exact m_k.u s1 _ _ (by omega) (by omega)) (by rw [e2, ms_u_f _ _ _ (by omega)]; exact hIs.2.2.1)) (fun i' hi' => ?_)
        rw [e2]
        by_cases c : i' = i
        · rw [c, ms_u_eq]
        · rw [ms_u_i _ (by omega)]; exact hz i' (by omega)
    have hsl : (o_srt cmp L).length = L.length := o_srt_perm.length_eq
    rw [g68, hrt1.2.2.2.2.1]
    refine ⟨fun w => ⟨by omega, by omega, w180_6 ?_⟩, fun w => ⟨hr.1, by omega, w180_6 ?_⟩⟩
    · have e1 : lim = ((lim.toNat : Nat) : Int) := by omega
      rw [e1]
      exact clear lim.toNat (by omega) rfl L.length 0 t1 _ _ (by omega) hI1 (fun i' hi' => absurd hi' (by omega))
    · refine clear L.length (Nat.le_refl _) ?_ L.length 0 t1 _ _ (by omega) hI1 (fun i' hi' => absurd hi' (by omega))
      rw [List.take_of_length_le (by omega), List.take_of_length_le (by omega)]
  have loop : ∀ (k i : Nat) (s1 : ms_S) (x6 x7 : Int), i + k = L.length → mI s s1 es.length ((L.take i).map (x_vals T sl es)) → mw (d + 1) 180 (am_blk 180 1) [159, q, r, es.length, s 91 0, i, x6, x7, 0, 0] [] s1 Q := by
    intro k
    induction k with
    | zero =>
      intro i s1 x6 x7 hi hI
      have e1 : i = L.length := by omega
      rw [e1, List.take_length] at hI
      exact phase2 s1 _ _ _ _ _ (by omega) hI
    | succ k ih =>
      intro i s1 x6 x7 hi hI
      have hil : i < L.length := by omega
      obtain ⟨hR1, hb1⟩ := hI.old hR
      have hr1 := hR1.1
      have hle := hR1.le hil
      have hmu := mul_le_of (w := es.length) (show ((L.take i).map (x_vals T sl es)).length + 1 ≤ L.length by simp; omega)
      refine w180_1 ⟨hr.1, by omega, fun w => absurd w (by omega), fun _ => hI.new (by omega) (by simp; omega) (fun s2 hJ hf => ?_)⟩
      generalize hKi : (L.take i).map (x_vals T sl es) = Ki at *
      generalize ha : s1 87 0 = a at *
      have in2 : ∀ (n j : Nat) (s3 : ms_S), j + n = es.length → mJ s s3 es.length Ki a → rm s3 a (x_vals T sl (es.take j) L[i]) → mw (d + 1) 180 (am_blk 180 2) [159, q, r, es.length, s 91 0, i, a, j, 0, 0] [] s3 Q := by
        intro n
        induction n with
        | zero =>
          intro j s3 hj hJ3 hm3
          have e1 : j = es.length := by omega
          refine w180_2 ⟨fun _ => ?_, fun w => absurd (by omega) w⟩
          rw [am_w_s (by omega)]
          refine ih (i + 1) s3 _ _ (by omega) ?_
          rw [e1, List.take_length] at hm3
          have e2 : (L.take (i + 1)).map (x_vals T sl es) = Ki ++ [x_vals T sl es L[i]] := by rw [take_s hil, List.map_append, hKi]; rfl
          rw [e2]
          exact hJ3.fill (by simp [x_vals]) hm3
        | succ n ihn =>
          intro j s3 hj hJ3 hm3
          have hjl : j < es.length := by omega
          have hej := List.getElem?_eq_getElem hjl
          obtain ⟨heN, t, hwt⟩ := he _ (List.getElem_mem hjl)
          have eit : s3 66 (8 * q + j) = es[j] := by rw [hJ3.2.1 _ _ (by omega)]; exact hes j _ hej
          obtain ⟨hR3, -⟩ := hJ3.old hR
          obtain ⟨-, hmr⟩ := hR3.row (List.getElem?_eq_getElem hil)
          have hat := hJ3.at
          have x1 : am_w (8 * (q : Int)) = 8 * q := am_w_in (by omega) (by omega)
          have x2 : am_w (8 * (q : Int) + j) = 8 * q + j := am_w_in (by omega) (by omega)
          have x3 : am_w (a + j) = a + j := am_w_in (by omega) (by omega)
          refine w180_2 ⟨fun w => absurd w (by omega), fun _ => k_rowAt hR3 rfl (by omega) (fun s4 e4 s4b e4b => ?_)⟩
          have k4 : m_k s3 s4b := by rw [e4b, e4]; exact (m_k.u s3 0 _ (by omega) (by omega)).tr (m_k.u _ 0 _ (by omega) (by omega))
          have h97 : s4b 97 0 = 0 := by rw [e4b, ms_u_eq]
          have hJ4 : mJ s s4b es.length Ki a := hJ3.k k4 h97
          have h93 : s4b 93 0 = s3 88 r + ((i * w : Nat) : Int) := by rw [e4b, ms_u_f _ _ _ (by omega), e4, ms_u_eq]
          have hm4 : rm s4b (s4b 93 0) L[i] := by rw [h93]; exact hmr.k k4
          rw [x1, x2, x3]
          have eit4 : s4b 66 (8 * q + j) = es[j] := by rw [k4 _ _ (by omega)]; exact eit
          refine ⟨by omega, by omega, k_evr (hT.F hJ4.2.1) h97 hm4 (hL _ (List.getElem_mem hil)) ht heN eit4 hwt (by omega) (fun s5 u5 n5 => ⟨by omega, by omega, fun s6 e6 => ⟨by omega, by omega, fun s7 e7 => ?_⟩⟩)⟩
          have hJ5 := hJ4.n u5
          have n6 : s6 92 0 = x_nl (ev T (x_env sl L[i]) 121 es[j]) := by rw [e6, ms_u_f _ _ _ (by omega)]; exact n5
          rw [n6, am_i2b_nl] at e7
          have f : m_c (a + j) s5 s7 := by rw [e7, e6]; exact (m_c.u _ _ (Or.inl rfl) (Int.le_refl _)).tr (m_c.u _ _ (Or.inr rfl) (Int.le_refl _))
          rw [am_w_s (by omega)]
          refine ihn (j + 1) s7 (by omega) (hJ5.c f (by omega)) ?_
          rw [x_vals_take hej]
          have hlen : (x_vals T sl (es.take j) L[i]).length = j := by simp [x_vals]; omega
          refine rm_app (((hm3.k k4).k u5.k).c f (by rw [hlen]; exact Int.le_refl _)) ?_
          rw [hlen]
          refine rm_one (by omega) (by omega) ?_ ?_
          · rw [e7, ms_u_f _ _ _ (by omega), e6, ms_u_eq]
          · rw [e7, ms_u_eq]
      exact in2 es.length 0 s2 (by omega) hJ (by have := hJ.at; exact rm_nil (by omega) (by omega))
  refine w180_e ⟨by omega, by omega, ?_⟩
  rw [h64]
  refine mI_begin (by omega) (by omega) (by omega) (by omega) hg (by omega) rfl (fun s1 hI _ => ?_)
  exact loop L.length 0 s1 0 0 (by omega) (by simpa using hI)
end
